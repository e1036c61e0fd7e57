/-! HallPlan -/
set_option maxRecDepth 100000
def RX1 : String := "HallPlan"
def TX1 : u_T := fun k => match k with
  | 0 => ("HallPlan", "buffer", "[B", true)
  | 1 => ("HallPlan", "length", "I", false)
  | 2 => ("HallPlan", "setup", "LHallPlan$Setup;", false)
  | 3 => ("HallPlan", "state", "LHallPlan$State;", false)
  | 4 => ("HallPlan", "saved", "LHallPlan$State;", false)
  | 5 => ("HallPlan", "draft", "LHallPlan$Event;", false)
  | 6 => ("HallPlan", "history", "Ljava/util/ArrayDeque;", true)
  | 7 => ("HallPlan", "checks", "[LHallPlan$Check;", true)
  | 8 => ("HallPlan", "grid", "[I", true)
  | 9 => ("HallPlan", "links", "[LHallPlan$Booking;", true)
  | 10 => ("HallPlan", "hallOf", "[I", true)
  | _ => ("HallPlan", "startOf", "[I", true)
def tyX1 : Nat → FieldType := fun k => match k with
  | 0 => .array .byte
  | 1 => .int
  | 2 => .object "HallPlan$Setup"
  | 3 => .object "HallPlan$State"
  | 4 => .object "HallPlan$State"
  | 5 => .object "HallPlan$Event"
  | 6 => .object "java/util/ArrayDeque"
  | 7 => .array (.object "HallPlan$Check")
  | 8 => .array .int
  | 9 => .array (.object "HallPlan$Booking")
  | 10 => .array .int
  | _ => .array .int
abbrev wsX10 : List Cond := u_ws RX1 TX1 12
theorem nmX1 : ∀ a, a < 12 → ∀ b, b < 12 → a ≠ b → (TX1 a).2.1 ≠ (TX1 b).2.1 := by decide +kernel
theorem tyX1_ok : ∀ k, k < 12 → parseFieldDescriptor (TX1 k).2.2.1 = some (tyX1 k) := by decide +kernel
abbrev cX1_init : ByteArray := prog_1_method_1_code
def yX1_init : MethodName := ⟨RX1, "<init>", "()V"⟩
def dkwX1_init_7 : List UInt8 := [42, 6, 188, 10, 181, 0, 71, 177]
abbrev dktX1_init_7 : List UInt8 := dkwX1_init_7 ++ []
def dkwX1_init_6 : List UInt8 := [42, 17, 0, 129, 188, 10, 181, 0, 58, 42, 6, 189, 0, 62, 181, 0, 64, 42, 6, 188, 10, 181, 0, 68]
abbrev dktX1_init_6 : List UInt8 := dkwX1_init_6 ++ dktX1_init_7
def dkwX1_init_5 : List UInt8 := [180, 0, 45, 8, 42, 186, 0, 56, 0, 0, 83, 42, 180, 0, 45, 16, 6, 42, 186, 0, 57, 0, 0, 83]
abbrev dktX1_init_5 : List UInt8 := dkwX1_init_5 ++ dktX1_init_6
def dkwX1_init_4 : List UInt8 := [180, 0, 45, 6, 42, 186, 0, 54, 0, 0, 83, 42, 180, 0, 45, 7, 42, 186, 0, 55, 0, 0, 83, 42]
abbrev dktX1_init_4 : List UInt8 := dkwX1_init_4 ++ dktX1_init_5
def dkwX1_init_3 : List UInt8 := [180, 0, 45, 4, 42, 186, 0, 49, 0, 0, 83, 42, 180, 0, 45, 5, 42, 186, 0, 53, 0, 0, 83, 42]
abbrev dktX1_init_3 : List UInt8 := dkwX1_init_3 ++ dktX1_init_4
def dkwX1_init_2 : List UInt8 := [181, 0, 32, 42, 187, 0, 36, 89, 183, 0, 38, 181, 0, 39, 42, 16, 7, 189, 0, 43, 181, 0, 45, 42]
abbrev dktX1_init_2 : List UInt8 := dkwX1_init_2 ++ dktX1_init_3
def dkwX1_init_1 : List UInt8 := [42, 187, 0, 20, 89, 42, 180, 0, 16, 183, 0, 22, 181, 0, 25, 42, 187, 0, 29, 89, 183, 0, 31]
abbrev dktX1_init_1 : List UInt8 := dkwX1_init_1 ++ dktX1_init_2
def dkwX1_init_0 : List UInt8 := [42, 183, 0, 1, 42, 17, 3, 32, 188, 8, 181, 0, 9, 42, 187, 0, 13, 89, 183, 0, 15, 181, 0, 16]
abbrev dktX1_init_0 : List UInt8 := dkwX1_init_0 ++ dktX1_init_1
theorem dksX1_init_0 : cX1_init.data.toList.drop 0 = dktX1_init_0 := by decide +kernel
theorem dksX1_init_1 : cX1_init.data.toList.drop 24 = dktX1_init_1 := dk_seg dksX1_init_0 24 rfl rfl
theorem dksX1_init_2 : cX1_init.data.toList.drop 47 = dktX1_init_2 := dk_seg dksX1_init_1 23 rfl rfl
theorem dksX1_init_3 : cX1_init.data.toList.drop 71 = dktX1_init_3 := dk_seg dksX1_init_2 24 rfl rfl
theorem dksX1_init_4 : cX1_init.data.toList.drop 95 = dktX1_init_4 := dk_seg dksX1_init_3 24 rfl rfl
theorem dksX1_init_5 : cX1_init.data.toList.drop 119 = dktX1_init_5 := dk_seg dksX1_init_4 24 rfl rfl
theorem dksX1_init_6 : cX1_init.data.toList.drop 143 = dktX1_init_6 := dk_seg dksX1_init_5 24 rfl rfl
theorem dksX1_init_7 : cX1_init.data.toList.drop 167 = dktX1_init_7 := dk_seg dksX1_init_6 24 rfl rfl
theorem dX1_init_0 : decode cX1_init 0 = .ok (.aload_n 0, 1) := dk_42 (dk_at dksX1_init_0 0 rfl rfl)
theorem dX1_init_1 : decode cX1_init 1 = .ok (.invokespecial 1, 3) := dk_183 0 1 (dk_at dksX1_init_0 1 rfl rfl)
theorem dX1_init_4 : decode cX1_init 4 = .ok (.aload_n 0, 1) := dk_42 (dk_at dksX1_init_0 4 rfl rfl)
theorem dX1_init_5 : decode cX1_init 5 = .ok (.sipush 800, 3) := dk_17 3 32 (dk_at dksX1_init_0 5 rfl rfl)
theorem dX1_init_8 : decode cX1_init 8 = .ok (.newarray .byte, 2) := dk_188_8 (dk_at dksX1_init_0 8 rfl rfl)
theorem dX1_init_10 : decode cX1_init 10 = .ok (.putfield 9, 3) := dk_181 0 9 (dk_at dksX1_init_0 10 rfl rfl)
theorem dX1_init_13 : decode cX1_init 13 = .ok (.aload_n 0, 1) := dk_42 (dk_at dksX1_init_0 13 rfl rfl)
theorem dX1_init_14 : decode cX1_init 14 = .ok (.new 13, 3) := dk_187 0 13 (dk_at dksX1_init_0 14 rfl rfl)
theorem dX1_init_17 : decode cX1_init 17 = .ok (.dup, 1) := dk_89 (dk_at dksX1_init_0 17 rfl rfl)
theorem dX1_init_18 : decode cX1_init 18 = .ok (.invokespecial 15, 3) := dk_183 0 15 (dk_at dksX1_init_0 18 rfl rfl)
theorem dX1_init_21 : decode cX1_init 21 = .ok (.putfield 16, 3) := dk_181 0 16 (dk_at dksX1_init_0 21 rfl rfl)
theorem dX1_init_24 : decode cX1_init 24 = .ok (.aload_n 0, 1) := dk_42 (dk_at dksX1_init_1 0 rfl rfl)
theorem dX1_init_25 : decode cX1_init 25 = .ok (.new 20, 3) := dk_187 0 20 (dk_at dksX1_init_1 1 rfl rfl)
theorem dX1_init_28 : decode cX1_init 28 = .ok (.dup, 1) := dk_89 (dk_at dksX1_init_1 4 rfl rfl)
theorem dX1_init_29 : decode cX1_init 29 = .ok (.aload_n 0, 1) := dk_42 (dk_at dksX1_init_1 5 rfl rfl)
theorem dX1_init_30 : decode cX1_init 30 = .ok (.getfield 16, 3) := dk_180 0 16 (dk_at dksX1_init_1 6 rfl rfl)
theorem dX1_init_33 : decode cX1_init 33 = .ok (.invokespecial 22, 3) := dk_183 0 22 (dk_at dksX1_init_1 9 rfl rfl)
theorem dX1_init_36 : decode cX1_init 36 = .ok (.putfield 25, 3) := dk_181 0 25 (dk_at dksX1_init_1 12 rfl rfl)
theorem dX1_init_39 : decode cX1_init 39 = .ok (.aload_n 0, 1) := dk_42 (dk_at dksX1_init_1 15 rfl rfl)
theorem dX1_init_40 : decode cX1_init 40 = .ok (.new 29, 3) := dk_187 0 29 (dk_at dksX1_init_1 16 rfl rfl)
theorem dX1_init_43 : decode cX1_init 43 = .ok (.dup, 1) := dk_89 (dk_at dksX1_init_1 19 rfl rfl)
theorem dX1_init_44 : decode cX1_init 44 = .ok (.invokespecial 31, 3) := dk_183 0 31 (dk_at dksX1_init_1 20 rfl rfl)
theorem dX1_init_47 : decode cX1_init 47 = .ok (.putfield 32, 3) := dk_181 0 32 (dk_at dksX1_init_2 0 rfl rfl)
theorem dX1_init_50 : decode cX1_init 50 = .ok (.aload_n 0, 1) := dk_42 (dk_at dksX1_init_2 3 rfl rfl)
theorem dX1_init_51 : decode cX1_init 51 = .ok (.new 36, 3) := dk_187 0 36 (dk_at dksX1_init_2 4 rfl rfl)
theorem dX1_init_54 : decode cX1_init 54 = .ok (.dup, 1) := dk_89 (dk_at dksX1_init_2 7 rfl rfl)
theorem dX1_init_55 : decode cX1_init 55 = .ok (.invokespecial 38, 3) := dk_183 0 38 (dk_at dksX1_init_2 8 rfl rfl)
theorem dX1_init_58 : decode cX1_init 58 = .ok (.putfield 39, 3) := dk_181 0 39 (dk_at dksX1_init_2 11 rfl rfl)
theorem dX1_init_61 : decode cX1_init 61 = .ok (.aload_n 0, 1) := dk_42 (dk_at dksX1_init_2 14 rfl rfl)
theorem dX1_init_62 : decode cX1_init 62 = .ok (.bipush 7, 2) := dk_16 7 (dk_at dksX1_init_2 15 rfl rfl)
theorem dX1_init_64 : decode cX1_init 64 = .ok (.anewarray 43, 3) := dk_189 0 43 (dk_at dksX1_init_2 17 rfl rfl)
theorem dX1_init_67 : decode cX1_init 67 = .ok (.putfield 45, 3) := dk_181 0 45 (dk_at dksX1_init_2 20 rfl rfl)
theorem dX1_init_70 : decode cX1_init 70 = .ok (.aload_n 0, 1) := dk_42 (dk_at dksX1_init_2 23 rfl rfl)
theorem dX1_init_71 : decode cX1_init 71 = .ok (.getfield 45, 3) := dk_180 0 45 (dk_at dksX1_init_3 0 rfl rfl)
theorem dX1_init_74 : decode cX1_init 74 = .ok (.iconst 1, 1) := dk_4 (dk_at dksX1_init_3 3 rfl rfl)
theorem dX1_init_75 : decode cX1_init 75 = .ok (.aload_n 0, 1) := dk_42 (dk_at dksX1_init_3 4 rfl rfl)
theorem dX1_init_76 : decode cX1_init 76 = .ok (.invokedynamic 49, 5) := by decide +kernel
theorem dX1_init_81 : decode cX1_init 81 = .ok (.aastore, 1) := dk_83 (dk_at dksX1_init_3 10 rfl rfl)
theorem dX1_init_82 : decode cX1_init 82 = .ok (.aload_n 0, 1) := dk_42 (dk_at dksX1_init_3 11 rfl rfl)
theorem dX1_init_83 : decode cX1_init 83 = .ok (.getfield 45, 3) := dk_180 0 45 (dk_at dksX1_init_3 12 rfl rfl)
theorem dX1_init_86 : decode cX1_init 86 = .ok (.iconst 2, 1) := dk_5 (dk_at dksX1_init_3 15 rfl rfl)
theorem dX1_init_87 : decode cX1_init 87 = .ok (.aload_n 0, 1) := dk_42 (dk_at dksX1_init_3 16 rfl rfl)
theorem dX1_init_88 : decode cX1_init 88 = .ok (.invokedynamic 53, 5) := by decide +kernel
theorem dX1_init_93 : decode cX1_init 93 = .ok (.aastore, 1) := dk_83 (dk_at dksX1_init_3 22 rfl rfl)
theorem dX1_init_94 : decode cX1_init 94 = .ok (.aload_n 0, 1) := dk_42 (dk_at dksX1_init_3 23 rfl rfl)
theorem dX1_init_95 : decode cX1_init 95 = .ok (.getfield 45, 3) := dk_180 0 45 (dk_at dksX1_init_4 0 rfl rfl)
theorem dX1_init_98 : decode cX1_init 98 = .ok (.iconst 3, 1) := dk_6 (dk_at dksX1_init_4 3 rfl rfl)
theorem dX1_init_99 : decode cX1_init 99 = .ok (.aload_n 0, 1) := dk_42 (dk_at dksX1_init_4 4 rfl rfl)
theorem dX1_init_100 : decode cX1_init 100 = .ok (.invokedynamic 54, 5) := by decide +kernel
theorem dX1_init_105 : decode cX1_init 105 = .ok (.aastore, 1) := dk_83 (dk_at dksX1_init_4 10 rfl rfl)
theorem dX1_init_106 : decode cX1_init 106 = .ok (.aload_n 0, 1) := dk_42 (dk_at dksX1_init_4 11 rfl rfl)
theorem dX1_init_107 : decode cX1_init 107 = .ok (.getfield 45, 3) := dk_180 0 45 (dk_at dksX1_init_4 12 rfl rfl)
theorem dX1_init_110 : decode cX1_init 110 = .ok (.iconst 4, 1) := dk_7 (dk_at dksX1_init_4 15 rfl rfl)
theorem dX1_init_111 : decode cX1_init 111 = .ok (.aload_n 0, 1) := dk_42 (dk_at dksX1_init_4 16 rfl rfl)
theorem dX1_init_112 : decode cX1_init 112 = .ok (.invokedynamic 55, 5) := by decide +kernel
theorem dX1_init_117 : decode cX1_init 117 = .ok (.aastore, 1) := dk_83 (dk_at dksX1_init_4 22 rfl rfl)
theorem dX1_init_118 : decode cX1_init 118 = .ok (.aload_n 0, 1) := dk_42 (dk_at dksX1_init_4 23 rfl rfl)
theorem dX1_init_119 : decode cX1_init 119 = .ok (.getfield 45, 3) := dk_180 0 45 (dk_at dksX1_init_5 0 rfl rfl)
theorem dX1_init_122 : decode cX1_init 122 = .ok (.iconst 5, 1) := dk_8 (dk_at dksX1_init_5 3 rfl rfl)
theorem dX1_init_123 : decode cX1_init 123 = .ok (.aload_n 0, 1) := dk_42 (dk_at dksX1_init_5 4 rfl rfl)
theorem dX1_init_124 : decode cX1_init 124 = .ok (.invokedynamic 56, 5) := by decide +kernel
theorem dX1_init_129 : decode cX1_init 129 = .ok (.aastore, 1) := dk_83 (dk_at dksX1_init_5 10 rfl rfl)
theorem dX1_init_130 : decode cX1_init 130 = .ok (.aload_n 0, 1) := dk_42 (dk_at dksX1_init_5 11 rfl rfl)
theorem dX1_init_131 : decode cX1_init 131 = .ok (.getfield 45, 3) := dk_180 0 45 (dk_at dksX1_init_5 12 rfl rfl)
theorem dX1_init_134 : decode cX1_init 134 = .ok (.bipush 6, 2) := dk_16 6 (dk_at dksX1_init_5 15 rfl rfl)
theorem dX1_init_136 : decode cX1_init 136 = .ok (.aload_n 0, 1) := dk_42 (dk_at dksX1_init_5 17 rfl rfl)
theorem dX1_init_137 : decode cX1_init 137 = .ok (.invokedynamic 57, 5) := by decide +kernel
theorem dX1_init_142 : decode cX1_init 142 = .ok (.aastore, 1) := dk_83 (dk_at dksX1_init_5 23 rfl rfl)
theorem dX1_init_143 : decode cX1_init 143 = .ok (.aload_n 0, 1) := dk_42 (dk_at dksX1_init_6 0 rfl rfl)
theorem dX1_init_144 : decode cX1_init 144 = .ok (.sipush 129, 3) := dk_17 0 129 (dk_at dksX1_init_6 1 rfl rfl)
theorem dX1_init_147 : decode cX1_init 147 = .ok (.newarray .int, 2) := dk_188_10 (dk_at dksX1_init_6 4 rfl rfl)
theorem dX1_init_149 : decode cX1_init 149 = .ok (.putfield 58, 3) := dk_181 0 58 (dk_at dksX1_init_6 6 rfl rfl)
theorem dX1_init_152 : decode cX1_init 152 = .ok (.aload_n 0, 1) := dk_42 (dk_at dksX1_init_6 9 rfl rfl)
theorem dX1_init_153 : decode cX1_init 153 = .ok (.iconst 3, 1) := dk_6 (dk_at dksX1_init_6 10 rfl rfl)
theorem dX1_init_154 : decode cX1_init 154 = .ok (.anewarray 62, 3) := dk_189 0 62 (dk_at dksX1_init_6 11 rfl rfl)
theorem dX1_init_157 : decode cX1_init 157 = .ok (.putfield 64, 3) := dk_181 0 64 (dk_at dksX1_init_6 14 rfl rfl)
theorem dX1_init_160 : decode cX1_init 160 = .ok (.aload_n 0, 1) := dk_42 (dk_at dksX1_init_6 17 rfl rfl)
theorem dX1_init_161 : decode cX1_init 161 = .ok (.iconst 3, 1) := dk_6 (dk_at dksX1_init_6 18 rfl rfl)
theorem dX1_init_162 : decode cX1_init 162 = .ok (.newarray .int, 2) := dk_188_10 (dk_at dksX1_init_6 19 rfl rfl)
theorem dX1_init_164 : decode cX1_init 164 = .ok (.putfield 68, 3) := dk_181 0 68 (dk_at dksX1_init_6 21 rfl rfl)
theorem dX1_init_167 : decode cX1_init 167 = .ok (.aload_n 0, 1) := dk_42 (dk_at dksX1_init_7 0 rfl rfl)
theorem dX1_init_168 : decode cX1_init 168 = .ok (.iconst 3, 1) := dk_6 (dk_at dksX1_init_7 1 rfl rfl)
theorem dX1_init_169 : decode cX1_init 169 = .ok (.newarray .int, 2) := dk_188_10 (dk_at dksX1_init_7 2 rfl rfl)
theorem dX1_init_171 : decode cX1_init 171 = .ok (.putfield 71, 3) := dk_181 0 71 (dk_at dksX1_init_7 4 rfl rfl)
theorem dX1_init_174 : decode cX1_init 174 = .ok (.return_, 1) := dk_177 (dk_at dksX1_init_7 7 rfl rfl)
abbrev cX1_lambda_new_1 : ByteArray := prog_1_method_95_code
def yX1_lambda_new_1 : MethodName := ⟨RX1, "lambda$new$1", "(LHallPlan$Event;II)Z"⟩
def dkwX1_lambda_new_1_0 : List UInt8 := [29, 42, 180, 0, 25, 180, 1, 16, 162, 0, 7, 4, 167, 0, 4, 3, 172]
abbrev dktX1_lambda_new_1_0 : List UInt8 := dkwX1_lambda_new_1_0 ++ []
theorem dksX1_lambda_new_1_0 : cX1_lambda_new_1.data.toList.drop 0 = dktX1_lambda_new_1_0 := by decide +kernel
theorem dX1_lambda_new_1_0 : decode cX1_lambda_new_1 0 = .ok (.iload_n 3, 1) := dk_29 (dk_at dksX1_lambda_new_1_0 0 rfl rfl)
theorem dX1_lambda_new_1_1 : decode cX1_lambda_new_1 1 = .ok (.aload_n 0, 1) := dk_42 (dk_at dksX1_lambda_new_1_0 1 rfl rfl)
theorem dX1_lambda_new_1_2 : decode cX1_lambda_new_1 2 = .ok (.getfield 25, 3) := dk_180 0 25 (dk_at dksX1_lambda_new_1_0 2 rfl rfl)
theorem dX1_lambda_new_1_5 : decode cX1_lambda_new_1 5 = .ok (.getfield 272, 3) := dk_180 1 16 (dk_at dksX1_lambda_new_1_0 5 rfl rfl)
theorem dX1_lambda_new_1_8 : decode cX1_lambda_new_1 8 = .ok (.if_icmp .ge 7, 3) := dk_162 0 7 (dk_at dksX1_lambda_new_1_0 8 rfl rfl)
theorem dX1_lambda_new_1_11 : decode cX1_lambda_new_1 11 = .ok (.iconst 1, 1) := dk_4 (dk_at dksX1_lambda_new_1_0 11 rfl rfl)
theorem dX1_lambda_new_1_12 : decode cX1_lambda_new_1 12 = .ok (.goto 4, 3) := dk_167 0 4 (dk_at dksX1_lambda_new_1_0 12 rfl rfl)
theorem dX1_lambda_new_1_15 : decode cX1_lambda_new_1 15 = .ok (.iconst 0, 1) := dk_3 (dk_at dksX1_lambda_new_1_0 15 rfl rfl)
theorem dX1_lambda_new_1_16 : decode cX1_lambda_new_1 16 = .ok (.ireturn, 1) := dk_172 (dk_at dksX1_lambda_new_1_0 16 rfl rfl)
abbrev cX1_lambda_new_2 : ByteArray := prog_1_method_94_code
def yX1_lambda_new_2 : MethodName := ⟨RX1, "lambda$new$2", "(LHallPlan$Event;II)Z"⟩
def dkwX1_lambda_new_2_1 : List UInt8 := [154, 0, 7, 4, 167, 0, 4, 3, 172]
abbrev dktX1_lambda_new_2_1 : List UInt8 := dkwX1_lambda_new_2_1 ++ []
def dkwX1_lambda_new_2_0 : List UInt8 := [42, 180, 0, 16, 180, 0, 132, 28, 185, 0, 164, 2, 0, 192, 1, 212, 29, 43, 180, 0, 198, 182, 1, 239]
abbrev dktX1_lambda_new_2_0 : List UInt8 := dkwX1_lambda_new_2_0 ++ dktX1_lambda_new_2_1
theorem dksX1_lambda_new_2_0 : cX1_lambda_new_2.data.toList.drop 0 = dktX1_lambda_new_2_0 := by decide +kernel
theorem dksX1_lambda_new_2_1 : cX1_lambda_new_2.data.toList.drop 24 = dktX1_lambda_new_2_1 := dk_seg dksX1_lambda_new_2_0 24 rfl rfl
theorem dX1_lambda_new_2_0 : decode cX1_lambda_new_2 0 = .ok (.aload_n 0, 1) := dk_42 (dk_at dksX1_lambda_new_2_0 0 rfl rfl)
theorem dX1_lambda_new_2_1 : decode cX1_lambda_new_2 1 = .ok (.getfield 16, 3) := dk_180 0 16 (dk_at dksX1_lambda_new_2_0 1 rfl rfl)
theorem dX1_lambda_new_2_4 : decode cX1_lambda_new_2 4 = .ok (.getfield 132, 3) := dk_180 0 132 (dk_at dksX1_lambda_new_2_0 4 rfl rfl)
theorem dX1_lambda_new_2_7 : decode cX1_lambda_new_2 7 = .ok (.iload_n 2, 1) := dk_28 (dk_at dksX1_lambda_new_2_0 7 rfl rfl)
theorem dX1_lambda_new_2_8 : decode cX1_lambda_new_2 8 = .ok (.invokeinterface 164 2, 5) := by decide +kernel
theorem dX1_lambda_new_2_13 : decode cX1_lambda_new_2 13 = .ok (.checkcast 468, 3) := dk_192 1 212 (dk_at dksX1_lambda_new_2_0 13 rfl rfl)
theorem dX1_lambda_new_2_16 : decode cX1_lambda_new_2 16 = .ok (.iload_n 3, 1) := dk_29 (dk_at dksX1_lambda_new_2_0 16 rfl rfl)
theorem dX1_lambda_new_2_17 : decode cX1_lambda_new_2 17 = .ok (.aload_n 1, 1) := dk_43 (dk_at dksX1_lambda_new_2_0 17 rfl rfl)
theorem dX1_lambda_new_2_18 : decode cX1_lambda_new_2 18 = .ok (.getfield 198, 3) := dk_180 0 198 (dk_at dksX1_lambda_new_2_0 18 rfl rfl)
theorem dX1_lambda_new_2_21 : decode cX1_lambda_new_2 21 = .ok (.invokevirtual 495, 3) := dk_182 1 239 (dk_at dksX1_lambda_new_2_0 21 rfl rfl)
theorem dX1_lambda_new_2_24 : decode cX1_lambda_new_2 24 = .ok (.ifCond .ne 7, 3) := dk_154 0 7 (dk_at dksX1_lambda_new_2_1 0 rfl rfl)
theorem dX1_lambda_new_2_27 : decode cX1_lambda_new_2 27 = .ok (.iconst 1, 1) := dk_4 (dk_at dksX1_lambda_new_2_1 3 rfl rfl)
theorem dX1_lambda_new_2_28 : decode cX1_lambda_new_2 28 = .ok (.goto 4, 3) := dk_167 0 4 (dk_at dksX1_lambda_new_2_1 4 rfl rfl)
theorem dX1_lambda_new_2_31 : decode cX1_lambda_new_2 31 = .ok (.iconst 0, 1) := dk_3 (dk_at dksX1_lambda_new_2_1 7 rfl rfl)
theorem dX1_lambda_new_2_32 : decode cX1_lambda_new_2 32 = .ok (.ireturn, 1) := dk_172 (dk_at dksX1_lambda_new_2_1 8 rfl rfl)
abbrev cX1_lambda_new_3 : ByteArray := prog_1_method_93_code
def yX1_lambda_new_3 : MethodName := ⟨RX1, "lambda$new$3", "(LHallPlan$Event;II)Z"⟩
def dkwX1_lambda_new_3_1 : List UInt8 := [164, 0, 7, 4, 167, 0, 4, 3, 172]
abbrev dktX1_lambda_new_3_1 : List UInt8 := dkwX1_lambda_new_3_1 ++ []
def dkwX1_lambda_new_3_0 : List UInt8 := [43, 180, 1, 187, 42, 180, 0, 16, 180, 0, 132, 28, 185, 0, 164, 2, 0, 192, 1, 212, 180, 1, 236]
abbrev dktX1_lambda_new_3_0 : List UInt8 := dkwX1_lambda_new_3_0 ++ dktX1_lambda_new_3_1
theorem dksX1_lambda_new_3_0 : cX1_lambda_new_3.data.toList.drop 0 = dktX1_lambda_new_3_0 := by decide +kernel
theorem dksX1_lambda_new_3_1 : cX1_lambda_new_3.data.toList.drop 23 = dktX1_lambda_new_3_1 := dk_seg dksX1_lambda_new_3_0 23 rfl rfl
theorem dX1_lambda_new_3_0 : decode cX1_lambda_new_3 0 = .ok (.aload_n 1, 1) := dk_43 (dk_at dksX1_lambda_new_3_0 0 rfl rfl)
theorem dX1_lambda_new_3_1 : decode cX1_lambda_new_3 1 = .ok (.getfield 443, 3) := dk_180 1 187 (dk_at dksX1_lambda_new_3_0 1 rfl rfl)
theorem dX1_lambda_new_3_4 : decode cX1_lambda_new_3 4 = .ok (.aload_n 0, 1) := dk_42 (dk_at dksX1_lambda_new_3_0 4 rfl rfl)
theorem dX1_lambda_new_3_5 : decode cX1_lambda_new_3 5 = .ok (.getfield 16, 3) := dk_180 0 16 (dk_at dksX1_lambda_new_3_0 5 rfl rfl)
theorem dX1_lambda_new_3_8 : decode cX1_lambda_new_3 8 = .ok (.getfield 132, 3) := dk_180 0 132 (dk_at dksX1_lambda_new_3_0 8 rfl rfl)
theorem dX1_lambda_new_3_11 : decode cX1_lambda_new_3 11 = .ok (.iload_n 2, 1) := dk_28 (dk_at dksX1_lambda_new_3_0 11 rfl rfl)
theorem dX1_lambda_new_3_12 : decode cX1_lambda_new_3 12 = .ok (.invokeinterface 164 2, 5) := by decide +kernel
theorem dX1_lambda_new_3_17 : decode cX1_lambda_new_3 17 = .ok (.checkcast 468, 3) := dk_192 1 212 (dk_at dksX1_lambda_new_3_0 17 rfl rfl)
theorem dX1_lambda_new_3_20 : decode cX1_lambda_new_3 20 = .ok (.getfield 492, 3) := dk_180 1 236 (dk_at dksX1_lambda_new_3_0 20 rfl rfl)
theorem dX1_lambda_new_3_23 : decode cX1_lambda_new_3 23 = .ok (.if_icmp .le 7, 3) := dk_164 0 7 (dk_at dksX1_lambda_new_3_1 0 rfl rfl)
theorem dX1_lambda_new_3_26 : decode cX1_lambda_new_3 26 = .ok (.iconst 1, 1) := dk_4 (dk_at dksX1_lambda_new_3_1 3 rfl rfl)
theorem dX1_lambda_new_3_27 : decode cX1_lambda_new_3 27 = .ok (.goto 4, 3) := dk_167 0 4 (dk_at dksX1_lambda_new_3_1 4 rfl rfl)
theorem dX1_lambda_new_3_30 : decode cX1_lambda_new_3 30 = .ok (.iconst 0, 1) := dk_3 (dk_at dksX1_lambda_new_3_1 7 rfl rfl)
theorem dX1_lambda_new_3_31 : decode cX1_lambda_new_3 31 = .ok (.ireturn, 1) := dk_172 (dk_at dksX1_lambda_new_3_1 8 rfl rfl)
abbrev cX1_lambda_new_4 : ByteArray := prog_1_method_92_code
def yX1_lambda_new_4 : MethodName := ⟨RX1, "lambda$new$4", "(LHallPlan$Event;II)Z"⟩
def dkwX1_lambda_new_4_0 : List UInt8 := [42, 28, 29, 29, 43, 180, 0, 198, 96, 182, 1, 181, 172]
abbrev dktX1_lambda_new_4_0 : List UInt8 := dkwX1_lambda_new_4_0 ++ []
theorem dksX1_lambda_new_4_0 : cX1_lambda_new_4.data.toList.drop 0 = dktX1_lambda_new_4_0 := by decide +kernel
theorem dX1_lambda_new_4_0 : decode cX1_lambda_new_4 0 = .ok (.aload_n 0, 1) := dk_42 (dk_at dksX1_lambda_new_4_0 0 rfl rfl)
theorem dX1_lambda_new_4_1 : decode cX1_lambda_new_4 1 = .ok (.iload_n 2, 1) := dk_28 (dk_at dksX1_lambda_new_4_0 1 rfl rfl)
theorem dX1_lambda_new_4_2 : decode cX1_lambda_new_4 2 = .ok (.iload_n 3, 1) := dk_29 (dk_at dksX1_lambda_new_4_0 2 rfl rfl)
theorem dX1_lambda_new_4_3 : decode cX1_lambda_new_4 3 = .ok (.iload_n 3, 1) := dk_29 (dk_at dksX1_lambda_new_4_0 3 rfl rfl)
theorem dX1_lambda_new_4_4 : decode cX1_lambda_new_4 4 = .ok (.aload_n 1, 1) := dk_43 (dk_at dksX1_lambda_new_4_0 4 rfl rfl)
theorem dX1_lambda_new_4_5 : decode cX1_lambda_new_4 5 = .ok (.getfield 198, 3) := dk_180 0 198 (dk_at dksX1_lambda_new_4_0 5 rfl rfl)
theorem dX1_lambda_new_4_8 : decode cX1_lambda_new_4 8 = .ok (.iadd, 1) := dk_96 (dk_at dksX1_lambda_new_4_0 8 rfl rfl)
theorem dX1_lambda_new_4_9 : decode cX1_lambda_new_4 9 = .ok (.invokevirtual 437, 3) := dk_182 1 181 (dk_at dksX1_lambda_new_4_0 9 rfl rfl)
theorem dX1_lambda_new_4_12 : decode cX1_lambda_new_4 12 = .ok (.ireturn, 1) := dk_172 (dk_at dksX1_lambda_new_4_0 12 rfl rfl)
abbrev cX1_isClosedIn : ByteArray := prog_1_method_20_code
def yX1_isClosedIn : MethodName := ⟨RX1, "isClosedIn", "(III)Z"⟩
def dkwX1_isClosedIn_3 : List UInt8 := [21, 5, 50, 27, 28, 29, 185, 0, 175, 4, 0, 128, 54, 4, 132, 5, 1, 167, 255, 218, 21, 4, 172]
abbrev dktX1_isClosedIn_3 : List UInt8 := dkwX1_isClosedIn_3 ++ []
def dkwX1_isClosedIn_2 : List UInt8 := [54, 5, 21, 5, 42, 180, 0, 16, 180, 0, 179, 162, 0, 32, 21, 4, 42, 180, 0, 16, 180, 0, 182]
abbrev dktX1_isClosedIn_2 : List UInt8 := dkwX1_isClosedIn_2 ++ dktX1_isClosedIn_3
def dkwX1_isClosedIn_1 : List UInt8 := [180, 0, 171, 21, 5, 50, 27, 28, 29, 185, 0, 175, 4, 0, 128, 54, 4, 132, 5, 1, 167, 255, 218, 3]
abbrev dktX1_isClosedIn_1 : List UInt8 := dkwX1_isClosedIn_1 ++ dktX1_isClosedIn_2
def dkwX1_isClosedIn_0 : List UInt8 := [3, 54, 4, 3, 54, 5, 21, 5, 42, 180, 0, 25, 180, 0, 168, 162, 0, 32, 21, 4, 42, 180, 0, 25]
abbrev dktX1_isClosedIn_0 : List UInt8 := dkwX1_isClosedIn_0 ++ dktX1_isClosedIn_1
theorem dksX1_isClosedIn_0 : cX1_isClosedIn.data.toList.drop 0 = dktX1_isClosedIn_0 := by decide +kernel
theorem dksX1_isClosedIn_1 : cX1_isClosedIn.data.toList.drop 24 = dktX1_isClosedIn_1 := dk_seg dksX1_isClosedIn_0 24 rfl rfl
theorem dksX1_isClosedIn_2 : cX1_isClosedIn.data.toList.drop 48 = dktX1_isClosedIn_2 := dk_seg dksX1_isClosedIn_1 24 rfl rfl
theorem dksX1_isClosedIn_3 : cX1_isClosedIn.data.toList.drop 71 = dktX1_isClosedIn_3 := dk_seg dksX1_isClosedIn_2 23 rfl rfl
theorem dX1_isClosedIn_0 : decode cX1_isClosedIn 0 = .ok (.iconst 0, 1) := dk_3 (dk_at dksX1_isClosedIn_0 0 rfl rfl)
theorem dX1_isClosedIn_1 : decode cX1_isClosedIn 1 = .ok (.istore 4, 2) := dk_54 4 (dk_at dksX1_isClosedIn_0 1 rfl rfl)
theorem dX1_isClosedIn_3 : decode cX1_isClosedIn 3 = .ok (.iconst 0, 1) := dk_3 (dk_at dksX1_isClosedIn_0 3 rfl rfl)
theorem dX1_isClosedIn_4 : decode cX1_isClosedIn 4 = .ok (.istore 5, 2) := dk_54 5 (dk_at dksX1_isClosedIn_0 4 rfl rfl)
theorem dX1_isClosedIn_6 : decode cX1_isClosedIn 6 = .ok (.iload 5, 2) := dk_21 5 (dk_at dksX1_isClosedIn_0 6 rfl rfl)
theorem dX1_isClosedIn_8 : decode cX1_isClosedIn 8 = .ok (.aload_n 0, 1) := dk_42 (dk_at dksX1_isClosedIn_0 8 rfl rfl)
theorem dX1_isClosedIn_9 : decode cX1_isClosedIn 9 = .ok (.getfield 25, 3) := dk_180 0 25 (dk_at dksX1_isClosedIn_0 9 rfl rfl)
theorem dX1_isClosedIn_12 : decode cX1_isClosedIn 12 = .ok (.getfield 168, 3) := dk_180 0 168 (dk_at dksX1_isClosedIn_0 12 rfl rfl)
theorem dX1_isClosedIn_15 : decode cX1_isClosedIn 15 = .ok (.if_icmp .ge 32, 3) := dk_162 0 32 (dk_at dksX1_isClosedIn_0 15 rfl rfl)
theorem dX1_isClosedIn_18 : decode cX1_isClosedIn 18 = .ok (.iload 4, 2) := dk_21 4 (dk_at dksX1_isClosedIn_0 18 rfl rfl)
theorem dX1_isClosedIn_20 : decode cX1_isClosedIn 20 = .ok (.aload_n 0, 1) := dk_42 (dk_at dksX1_isClosedIn_0 20 rfl rfl)
theorem dX1_isClosedIn_21 : decode cX1_isClosedIn 21 = .ok (.getfield 25, 3) := dk_180 0 25 (dk_at dksX1_isClosedIn_0 21 rfl rfl)
theorem dX1_isClosedIn_24 : decode cX1_isClosedIn 24 = .ok (.getfield 171, 3) := dk_180 0 171 (dk_at dksX1_isClosedIn_1 0 rfl rfl)
theorem dX1_isClosedIn_27 : decode cX1_isClosedIn 27 = .ok (.iload 5, 2) := dk_21 5 (dk_at dksX1_isClosedIn_1 3 rfl rfl)
theorem dX1_isClosedIn_29 : decode cX1_isClosedIn 29 = .ok (.aaload, 1) := dk_50 (dk_at dksX1_isClosedIn_1 5 rfl rfl)
theorem dX1_isClosedIn_30 : decode cX1_isClosedIn 30 = .ok (.iload_n 1, 1) := dk_27 (dk_at dksX1_isClosedIn_1 6 rfl rfl)
theorem dX1_isClosedIn_31 : decode cX1_isClosedIn 31 = .ok (.iload_n 2, 1) := dk_28 (dk_at dksX1_isClosedIn_1 7 rfl rfl)
theorem dX1_isClosedIn_32 : decode cX1_isClosedIn 32 = .ok (.iload_n 3, 1) := dk_29 (dk_at dksX1_isClosedIn_1 8 rfl rfl)
theorem dX1_isClosedIn_33 : decode cX1_isClosedIn 33 = .ok (.invokeinterface 175 4, 5) := by decide +kernel
theorem dX1_isClosedIn_38 : decode cX1_isClosedIn 38 = .ok (.ior, 1) := dk_128 (dk_at dksX1_isClosedIn_1 14 rfl rfl)
theorem dX1_isClosedIn_39 : decode cX1_isClosedIn 39 = .ok (.istore 4, 2) := dk_54 4 (dk_at dksX1_isClosedIn_1 15 rfl rfl)
theorem dX1_isClosedIn_41 : decode cX1_isClosedIn 41 = .ok (.iinc 5 1, 3) := dk_132 5 1 (dk_at dksX1_isClosedIn_1 17 rfl rfl)
theorem dX1_isClosedIn_44 : decode cX1_isClosedIn 44 = .ok (.goto (-38), 3) := dk_167 255 218 (dk_at dksX1_isClosedIn_1 20 rfl rfl)
theorem dX1_isClosedIn_47 : decode cX1_isClosedIn 47 = .ok (.iconst 0, 1) := dk_3 (dk_at dksX1_isClosedIn_1 23 rfl rfl)
theorem dX1_isClosedIn_48 : decode cX1_isClosedIn 48 = .ok (.istore 5, 2) := dk_54 5 (dk_at dksX1_isClosedIn_2 0 rfl rfl)
theorem dX1_isClosedIn_50 : decode cX1_isClosedIn 50 = .ok (.iload 5, 2) := dk_21 5 (dk_at dksX1_isClosedIn_2 2 rfl rfl)
theorem dX1_isClosedIn_52 : decode cX1_isClosedIn 52 = .ok (.aload_n 0, 1) := dk_42 (dk_at dksX1_isClosedIn_2 4 rfl rfl)
theorem dX1_isClosedIn_53 : decode cX1_isClosedIn 53 = .ok (.getfield 16, 3) := dk_180 0 16 (dk_at dksX1_isClosedIn_2 5 rfl rfl)
theorem dX1_isClosedIn_56 : decode cX1_isClosedIn 56 = .ok (.getfield 179, 3) := dk_180 0 179 (dk_at dksX1_isClosedIn_2 8 rfl rfl)
theorem dX1_isClosedIn_59 : decode cX1_isClosedIn 59 = .ok (.if_icmp .ge 32, 3) := dk_162 0 32 (dk_at dksX1_isClosedIn_2 11 rfl rfl)
theorem dX1_isClosedIn_62 : decode cX1_isClosedIn 62 = .ok (.iload 4, 2) := dk_21 4 (dk_at dksX1_isClosedIn_2 14 rfl rfl)
theorem dX1_isClosedIn_64 : decode cX1_isClosedIn 64 = .ok (.aload_n 0, 1) := dk_42 (dk_at dksX1_isClosedIn_2 16 rfl rfl)
theorem dX1_isClosedIn_65 : decode cX1_isClosedIn 65 = .ok (.getfield 16, 3) := dk_180 0 16 (dk_at dksX1_isClosedIn_2 17 rfl rfl)
theorem dX1_isClosedIn_68 : decode cX1_isClosedIn 68 = .ok (.getfield 182, 3) := dk_180 0 182 (dk_at dksX1_isClosedIn_2 20 rfl rfl)
theorem dX1_isClosedIn_71 : decode cX1_isClosedIn 71 = .ok (.iload 5, 2) := dk_21 5 (dk_at dksX1_isClosedIn_3 0 rfl rfl)
theorem dX1_isClosedIn_73 : decode cX1_isClosedIn 73 = .ok (.aaload, 1) := dk_50 (dk_at dksX1_isClosedIn_3 2 rfl rfl)
theorem dX1_isClosedIn_74 : decode cX1_isClosedIn 74 = .ok (.iload_n 1, 1) := dk_27 (dk_at dksX1_isClosedIn_3 3 rfl rfl)
theorem dX1_isClosedIn_75 : decode cX1_isClosedIn 75 = .ok (.iload_n 2, 1) := dk_28 (dk_at dksX1_isClosedIn_3 4 rfl rfl)
theorem dX1_isClosedIn_76 : decode cX1_isClosedIn 76 = .ok (.iload_n 3, 1) := dk_29 (dk_at dksX1_isClosedIn_3 5 rfl rfl)
theorem dX1_isClosedIn_77 : decode cX1_isClosedIn 77 = .ok (.invokeinterface 175 4, 5) := by decide +kernel
theorem dX1_isClosedIn_82 : decode cX1_isClosedIn 82 = .ok (.ior, 1) := dk_128 (dk_at dksX1_isClosedIn_3 11 rfl rfl)
theorem dX1_isClosedIn_83 : decode cX1_isClosedIn 83 = .ok (.istore 4, 2) := dk_54 4 (dk_at dksX1_isClosedIn_3 12 rfl rfl)
theorem dX1_isClosedIn_85 : decode cX1_isClosedIn 85 = .ok (.iinc 5 1, 3) := dk_132 5 1 (dk_at dksX1_isClosedIn_3 14 rfl rfl)
theorem dX1_isClosedIn_88 : decode cX1_isClosedIn 88 = .ok (.goto (-38), 3) := dk_167 255 218 (dk_at dksX1_isClosedIn_3 17 rfl rfl)
theorem dX1_isClosedIn_91 : decode cX1_isClosedIn 91 = .ok (.iload 4, 2) := dk_21 4 (dk_at dksX1_isClosedIn_3 20 rfl rfl)
theorem dX1_isClosedIn_93 : decode cX1_isClosedIn 93 = .ok (.ireturn, 1) := dk_172 (dk_at dksX1_isClosedIn_3 22 rfl rfl)
abbrev cX1_lambda_new_5 : ByteArray := prog_1_method_91_code
def yX1_lambda_new_5 : MethodName := ⟨RX1, "lambda$new$5", "(LHallPlan$Event;II)Z"⟩
def dkwX1_lambda_new_5_0 : List UInt8 := [42, 43, 28, 29, 182, 1, 233, 172]
abbrev dktX1_lambda_new_5_0 : List UInt8 := dkwX1_lambda_new_5_0 ++ []
theorem dksX1_lambda_new_5_0 : cX1_lambda_new_5.data.toList.drop 0 = dktX1_lambda_new_5_0 := by decide +kernel
theorem dX1_lambda_new_5_0 : decode cX1_lambda_new_5 0 = .ok (.aload_n 0, 1) := dk_42 (dk_at dksX1_lambda_new_5_0 0 rfl rfl)
theorem dX1_lambda_new_5_1 : decode cX1_lambda_new_5 1 = .ok (.aload_n 1, 1) := dk_43 (dk_at dksX1_lambda_new_5_0 1 rfl rfl)
theorem dX1_lambda_new_5_2 : decode cX1_lambda_new_5 2 = .ok (.iload_n 2, 1) := dk_28 (dk_at dksX1_lambda_new_5_0 2 rfl rfl)
theorem dX1_lambda_new_5_3 : decode cX1_lambda_new_5 3 = .ok (.iload_n 3, 1) := dk_29 (dk_at dksX1_lambda_new_5_0 3 rfl rfl)
theorem dX1_lambda_new_5_4 : decode cX1_lambda_new_5 4 = .ok (.invokevirtual 489, 3) := dk_182 1 233 (dk_at dksX1_lambda_new_5_0 4 rfl rfl)
theorem dX1_lambda_new_5_7 : decode cX1_lambda_new_5 7 = .ok (.ireturn, 1) := dk_172 (dk_at dksX1_lambda_new_5_0 7 rfl rfl)
abbrev cX1_isAnyNear : ByteArray := prog_1_method_22_code
def yX1_isAnyNear : MethodName := ⟨RX1, "isAnyNear", "(LHallPlan$Event;II)Z"⟩
def dkwX1_isAnyNear_2 : List UInt8 := [25, 5, 43, 29, 182, 0, 215, 153, 0, 5, 4, 172, 132, 4, 1, 167, 255, 198, 3, 172]
abbrev dktX1_isAnyNear_2 : List UInt8 := dkwX1_isAnyNear_2 ++ []
def dkwX1_isAnyNear_1 : List UInt8 := [182, 0, 204, 58, 5, 25, 5, 182, 0, 208, 153, 0, 25, 25, 5, 180, 0, 212, 28, 160, 0, 16, 42]
abbrev dktX1_isAnyNear_1 : List UInt8 := dkwX1_isAnyNear_1 ++ dktX1_isAnyNear_2
def dkwX1_isAnyNear_0 : List UInt8 := [3, 54, 4, 21, 4, 42, 180, 0, 25, 180, 0, 160, 185, 0, 136, 1, 0, 162, 0, 47, 42, 21, 4]
abbrev dktX1_isAnyNear_0 : List UInt8 := dkwX1_isAnyNear_0 ++ dktX1_isAnyNear_1
theorem dksX1_isAnyNear_0 : cX1_isAnyNear.data.toList.drop 0 = dktX1_isAnyNear_0 := by decide +kernel
theorem dksX1_isAnyNear_1 : cX1_isAnyNear.data.toList.drop 23 = dktX1_isAnyNear_1 := dk_seg dksX1_isAnyNear_0 23 rfl rfl
theorem dksX1_isAnyNear_2 : cX1_isAnyNear.data.toList.drop 46 = dktX1_isAnyNear_2 := dk_seg dksX1_isAnyNear_1 23 rfl rfl
theorem dX1_isAnyNear_0 : decode cX1_isAnyNear 0 = .ok (.iconst 0, 1) := dk_3 (dk_at dksX1_isAnyNear_0 0 rfl rfl)
theorem dX1_isAnyNear_1 : decode cX1_isAnyNear 1 = .ok (.istore 4, 2) := dk_54 4 (dk_at dksX1_isAnyNear_0 1 rfl rfl)
theorem dX1_isAnyNear_3 : decode cX1_isAnyNear 3 = .ok (.iload 4, 2) := dk_21 4 (dk_at dksX1_isAnyNear_0 3 rfl rfl)
theorem dX1_isAnyNear_5 : decode cX1_isAnyNear 5 = .ok (.aload_n 0, 1) := dk_42 (dk_at dksX1_isAnyNear_0 5 rfl rfl)
theorem dX1_isAnyNear_6 : decode cX1_isAnyNear 6 = .ok (.getfield 25, 3) := dk_180 0 25 (dk_at dksX1_isAnyNear_0 6 rfl rfl)
theorem dX1_isAnyNear_9 : decode cX1_isAnyNear 9 = .ok (.getfield 160, 3) := dk_180 0 160 (dk_at dksX1_isAnyNear_0 9 rfl rfl)
theorem dX1_isAnyNear_12 : decode cX1_isAnyNear 12 = .ok (.invokeinterface 136 1, 5) := by decide +kernel
theorem dX1_isAnyNear_17 : decode cX1_isAnyNear 17 = .ok (.if_icmp .ge 47, 3) := dk_162 0 47 (dk_at dksX1_isAnyNear_0 17 rfl rfl)
theorem dX1_isAnyNear_20 : decode cX1_isAnyNear 20 = .ok (.aload_n 0, 1) := dk_42 (dk_at dksX1_isAnyNear_0 20 rfl rfl)
theorem dX1_isAnyNear_21 : decode cX1_isAnyNear 21 = .ok (.iload 4, 2) := dk_21 4 (dk_at dksX1_isAnyNear_0 21 rfl rfl)
theorem dX1_isAnyNear_23 : decode cX1_isAnyNear 23 = .ok (.invokevirtual 204, 3) := dk_182 0 204 (dk_at dksX1_isAnyNear_1 0 rfl rfl)
theorem dX1_isAnyNear_26 : decode cX1_isAnyNear 26 = .ok (.astore 5, 2) := dk_58 5 (dk_at dksX1_isAnyNear_1 3 rfl rfl)
theorem dX1_isAnyNear_28 : decode cX1_isAnyNear 28 = .ok (.aload 5, 2) := dk_25 5 (dk_at dksX1_isAnyNear_1 5 rfl rfl)
theorem dX1_isAnyNear_30 : decode cX1_isAnyNear 30 = .ok (.invokevirtual 208, 3) := dk_182 0 208 (dk_at dksX1_isAnyNear_1 7 rfl rfl)
theorem dX1_isAnyNear_33 : decode cX1_isAnyNear 33 = .ok (.ifCond .eq 25, 3) := dk_153 0 25 (dk_at dksX1_isAnyNear_1 10 rfl rfl)
theorem dX1_isAnyNear_36 : decode cX1_isAnyNear 36 = .ok (.aload 5, 2) := dk_25 5 (dk_at dksX1_isAnyNear_1 13 rfl rfl)
theorem dX1_isAnyNear_38 : decode cX1_isAnyNear 38 = .ok (.getfield 212, 3) := dk_180 0 212 (dk_at dksX1_isAnyNear_1 15 rfl rfl)
theorem dX1_isAnyNear_41 : decode cX1_isAnyNear 41 = .ok (.iload_n 2, 1) := dk_28 (dk_at dksX1_isAnyNear_1 18 rfl rfl)
theorem dX1_isAnyNear_42 : decode cX1_isAnyNear 42 = .ok (.if_icmp .ne 16, 3) := dk_160 0 16 (dk_at dksX1_isAnyNear_1 19 rfl rfl)
theorem dX1_isAnyNear_45 : decode cX1_isAnyNear 45 = .ok (.aload_n 0, 1) := dk_42 (dk_at dksX1_isAnyNear_1 22 rfl rfl)
theorem dX1_isAnyNear_46 : decode cX1_isAnyNear 46 = .ok (.aload 5, 2) := dk_25 5 (dk_at dksX1_isAnyNear_2 0 rfl rfl)
theorem dX1_isAnyNear_48 : decode cX1_isAnyNear 48 = .ok (.aload_n 1, 1) := dk_43 (dk_at dksX1_isAnyNear_2 2 rfl rfl)
theorem dX1_isAnyNear_49 : decode cX1_isAnyNear 49 = .ok (.iload_n 3, 1) := dk_29 (dk_at dksX1_isAnyNear_2 3 rfl rfl)
theorem dX1_isAnyNear_50 : decode cX1_isAnyNear 50 = .ok (.invokevirtual 215, 3) := dk_182 0 215 (dk_at dksX1_isAnyNear_2 4 rfl rfl)
theorem dX1_isAnyNear_53 : decode cX1_isAnyNear 53 = .ok (.ifCond .eq 5, 3) := dk_153 0 5 (dk_at dksX1_isAnyNear_2 7 rfl rfl)
theorem dX1_isAnyNear_56 : decode cX1_isAnyNear 56 = .ok (.iconst 1, 1) := dk_4 (dk_at dksX1_isAnyNear_2 10 rfl rfl)
theorem dX1_isAnyNear_57 : decode cX1_isAnyNear 57 = .ok (.ireturn, 1) := dk_172 (dk_at dksX1_isAnyNear_2 11 rfl rfl)
theorem dX1_isAnyNear_58 : decode cX1_isAnyNear 58 = .ok (.iinc 4 1, 3) := dk_132 4 1 (dk_at dksX1_isAnyNear_2 12 rfl rfl)
theorem dX1_isAnyNear_61 : decode cX1_isAnyNear 61 = .ok (.goto (-58), 3) := dk_167 255 198 (dk_at dksX1_isAnyNear_2 15 rfl rfl)
theorem dX1_isAnyNear_64 : decode cX1_isAnyNear 64 = .ok (.iconst 0, 1) := dk_3 (dk_at dksX1_isAnyNear_2 18 rfl rfl)
theorem dX1_isAnyNear_65 : decode cX1_isAnyNear 65 = .ok (.ireturn, 1) := dk_172 (dk_at dksX1_isAnyNear_2 19 rfl rfl)
abbrev cX1_booking : ByteArray := prog_1_method_19_code
def yX1_booking : MethodName := ⟨RX1, "booking", "(I)LHallPlan$Booking;"⟩
def dkwX1_booking_0 : List UInt8 := [42, 180, 0, 25, 180, 0, 160, 27, 185, 0, 164, 2, 0, 192, 0, 62, 176]
abbrev dktX1_booking_0 : List UInt8 := dkwX1_booking_0 ++ []
theorem dksX1_booking_0 : cX1_booking.data.toList.drop 0 = dktX1_booking_0 := by decide +kernel
theorem dX1_booking_0 : decode cX1_booking 0 = .ok (.aload_n 0, 1) := dk_42 (dk_at dksX1_booking_0 0 rfl rfl)
theorem dX1_booking_1 : decode cX1_booking 1 = .ok (.getfield 25, 3) := dk_180 0 25 (dk_at dksX1_booking_0 1 rfl rfl)
theorem dX1_booking_4 : decode cX1_booking 4 = .ok (.getfield 160, 3) := dk_180 0 160 (dk_at dksX1_booking_0 4 rfl rfl)
theorem dX1_booking_7 : decode cX1_booking 7 = .ok (.iload_n 1, 1) := dk_27 (dk_at dksX1_booking_0 7 rfl rfl)
theorem dX1_booking_8 : decode cX1_booking 8 = .ok (.invokeinterface 164 2, 5) := by decide +kernel
theorem dX1_booking_13 : decode cX1_booking 13 = .ok (.checkcast 62, 3) := dk_192 0 62 (dk_at dksX1_booking_0 13 rfl rfl)
theorem dX1_booking_16 : decode cX1_booking 16 = .ok (.areturn, 1) := dk_176 (dk_at dksX1_booking_0 16 rfl rfl)
abbrev cX1_isNear : ByteArray := prog_1_method_21_code
def yX1_isNear : MethodName := ⟨RX1, "isNear", "(LHallPlan$Booking;LHallPlan$Event;I)Z"⟩
def dkwX1_isNear_3 : List UInt8 := [164, 0, 7, 4, 167, 0, 4, 3, 172]
abbrev dktX1_isNear_3 : List UInt8 := dkwX1_isNear_3 ++ []
def dkwX1_isNear_2 : List UInt8 := [182, 0, 195, 21, 4, 96, 29, 164, 0, 23, 29, 44, 180, 0, 198, 96, 21, 5, 96, 43, 180, 0, 201]
abbrev dktX1_isNear_2 : List UInt8 := dkwX1_isNear_2 ++ dktX1_isNear_3
def dkwX1_isNear_1 : List UInt8 := [180, 0, 16, 180, 0, 185, 44, 180, 0, 192, 50, 43, 180, 0, 189, 180, 0, 192, 46, 54, 5, 43]
abbrev dktX1_isNear_1 : List UInt8 := dkwX1_isNear_1 ++ dktX1_isNear_2
def dkwX1_isNear_0 : List UInt8 := [42, 180, 0, 16, 180, 0, 185, 43, 180, 0, 189, 180, 0, 192, 50, 44, 180, 0, 192, 46, 54, 4, 42]
abbrev dktX1_isNear_0 : List UInt8 := dkwX1_isNear_0 ++ dktX1_isNear_1
theorem dksX1_isNear_0 : cX1_isNear.data.toList.drop 0 = dktX1_isNear_0 := by decide +kernel
theorem dksX1_isNear_1 : cX1_isNear.data.toList.drop 23 = dktX1_isNear_1 := dk_seg dksX1_isNear_0 23 rfl rfl
theorem dksX1_isNear_2 : cX1_isNear.data.toList.drop 45 = dktX1_isNear_2 := dk_seg dksX1_isNear_1 22 rfl rfl
theorem dksX1_isNear_3 : cX1_isNear.data.toList.drop 68 = dktX1_isNear_3 := dk_seg dksX1_isNear_2 23 rfl rfl
theorem dX1_isNear_0 : decode cX1_isNear 0 = .ok (.aload_n 0, 1) := dk_42 (dk_at dksX1_isNear_0 0 rfl rfl)
theorem dX1_isNear_1 : decode cX1_isNear 1 = .ok (.getfield 16, 3) := dk_180 0 16 (dk_at dksX1_isNear_0 1 rfl rfl)
theorem dX1_isNear_4 : decode cX1_isNear 4 = .ok (.getfield 185, 3) := dk_180 0 185 (dk_at dksX1_isNear_0 4 rfl rfl)
theorem dX1_isNear_7 : decode cX1_isNear 7 = .ok (.aload_n 1, 1) := dk_43 (dk_at dksX1_isNear_0 7 rfl rfl)
theorem dX1_isNear_8 : decode cX1_isNear 8 = .ok (.getfield 189, 3) := dk_180 0 189 (dk_at dksX1_isNear_0 8 rfl rfl)
theorem dX1_isNear_11 : decode cX1_isNear 11 = .ok (.getfield 192, 3) := dk_180 0 192 (dk_at dksX1_isNear_0 11 rfl rfl)
theorem dX1_isNear_14 : decode cX1_isNear 14 = .ok (.aaload, 1) := dk_50 (dk_at dksX1_isNear_0 14 rfl rfl)
theorem dX1_isNear_15 : decode cX1_isNear 15 = .ok (.aload_n 2, 1) := dk_44 (dk_at dksX1_isNear_0 15 rfl rfl)
theorem dX1_isNear_16 : decode cX1_isNear 16 = .ok (.getfield 192, 3) := dk_180 0 192 (dk_at dksX1_isNear_0 16 rfl rfl)
theorem dX1_isNear_19 : decode cX1_isNear 19 = .ok (.iaload, 1) := dk_46 (dk_at dksX1_isNear_0 19 rfl rfl)
theorem dX1_isNear_20 : decode cX1_isNear 20 = .ok (.istore 4, 2) := dk_54 4 (dk_at dksX1_isNear_0 20 rfl rfl)
theorem dX1_isNear_22 : decode cX1_isNear 22 = .ok (.aload_n 0, 1) := dk_42 (dk_at dksX1_isNear_0 22 rfl rfl)
theorem dX1_isNear_23 : decode cX1_isNear 23 = .ok (.getfield 16, 3) := dk_180 0 16 (dk_at dksX1_isNear_1 0 rfl rfl)
theorem dX1_isNear_26 : decode cX1_isNear 26 = .ok (.getfield 185, 3) := dk_180 0 185 (dk_at dksX1_isNear_1 3 rfl rfl)
theorem dX1_isNear_29 : decode cX1_isNear 29 = .ok (.aload_n 2, 1) := dk_44 (dk_at dksX1_isNear_1 6 rfl rfl)
theorem dX1_isNear_30 : decode cX1_isNear 30 = .ok (.getfield 192, 3) := dk_180 0 192 (dk_at dksX1_isNear_1 7 rfl rfl)
theorem dX1_isNear_33 : decode cX1_isNear 33 = .ok (.aaload, 1) := dk_50 (dk_at dksX1_isNear_1 10 rfl rfl)
theorem dX1_isNear_34 : decode cX1_isNear 34 = .ok (.aload_n 1, 1) := dk_43 (dk_at dksX1_isNear_1 11 rfl rfl)
theorem dX1_isNear_35 : decode cX1_isNear 35 = .ok (.getfield 189, 3) := dk_180 0 189 (dk_at dksX1_isNear_1 12 rfl rfl)
theorem dX1_isNear_38 : decode cX1_isNear 38 = .ok (.getfield 192, 3) := dk_180 0 192 (dk_at dksX1_isNear_1 15 rfl rfl)
theorem dX1_isNear_41 : decode cX1_isNear 41 = .ok (.iaload, 1) := dk_46 (dk_at dksX1_isNear_1 18 rfl rfl)
theorem dX1_isNear_42 : decode cX1_isNear 42 = .ok (.istore 5, 2) := dk_54 5 (dk_at dksX1_isNear_1 19 rfl rfl)
theorem dX1_isNear_44 : decode cX1_isNear 44 = .ok (.aload_n 1, 1) := dk_43 (dk_at dksX1_isNear_1 21 rfl rfl)
theorem dX1_isNear_45 : decode cX1_isNear 45 = .ok (.invokevirtual 195, 3) := dk_182 0 195 (dk_at dksX1_isNear_2 0 rfl rfl)
theorem dX1_isNear_48 : decode cX1_isNear 48 = .ok (.iload 4, 2) := dk_21 4 (dk_at dksX1_isNear_2 3 rfl rfl)
theorem dX1_isNear_50 : decode cX1_isNear 50 = .ok (.iadd, 1) := dk_96 (dk_at dksX1_isNear_2 5 rfl rfl)
theorem dX1_isNear_51 : decode cX1_isNear 51 = .ok (.iload_n 3, 1) := dk_29 (dk_at dksX1_isNear_2 6 rfl rfl)
theorem dX1_isNear_52 : decode cX1_isNear 52 = .ok (.if_icmp .le 23, 3) := dk_164 0 23 (dk_at dksX1_isNear_2 7 rfl rfl)
theorem dX1_isNear_55 : decode cX1_isNear 55 = .ok (.iload_n 3, 1) := dk_29 (dk_at dksX1_isNear_2 10 rfl rfl)
theorem dX1_isNear_56 : decode cX1_isNear 56 = .ok (.aload_n 2, 1) := dk_44 (dk_at dksX1_isNear_2 11 rfl rfl)
theorem dX1_isNear_57 : decode cX1_isNear 57 = .ok (.getfield 198, 3) := dk_180 0 198 (dk_at dksX1_isNear_2 12 rfl rfl)
theorem dX1_isNear_60 : decode cX1_isNear 60 = .ok (.iadd, 1) := dk_96 (dk_at dksX1_isNear_2 15 rfl rfl)
theorem dX1_isNear_61 : decode cX1_isNear 61 = .ok (.iload 5, 2) := dk_21 5 (dk_at dksX1_isNear_2 16 rfl rfl)
theorem dX1_isNear_63 : decode cX1_isNear 63 = .ok (.iadd, 1) := dk_96 (dk_at dksX1_isNear_2 18 rfl rfl)
theorem dX1_isNear_64 : decode cX1_isNear 64 = .ok (.aload_n 1, 1) := dk_43 (dk_at dksX1_isNear_2 19 rfl rfl)
theorem dX1_isNear_65 : decode cX1_isNear 65 = .ok (.getfield 201, 3) := dk_180 0 201 (dk_at dksX1_isNear_2 20 rfl rfl)
theorem dX1_isNear_68 : decode cX1_isNear 68 = .ok (.if_icmp .le 7, 3) := dk_164 0 7 (dk_at dksX1_isNear_3 0 rfl rfl)
theorem dX1_isNear_71 : decode cX1_isNear 71 = .ok (.iconst 1, 1) := dk_4 (dk_at dksX1_isNear_3 3 rfl rfl)
theorem dX1_isNear_72 : decode cX1_isNear 72 = .ok (.goto 4, 3) := dk_167 0 4 (dk_at dksX1_isNear_3 4 rfl rfl)
theorem dX1_isNear_75 : decode cX1_isNear 75 = .ok (.iconst 0, 1) := dk_3 (dk_at dksX1_isNear_3 7 rfl rfl)
theorem dX1_isNear_76 : decode cX1_isNear 76 = .ok (.ireturn, 1) := dk_172 (dk_at dksX1_isNear_3 8 rfl rfl)
abbrev cX1_lambda_new_6 : ByteArray := prog_1_method_90_code
def yX1_lambda_new_6 : MethodName := ⟨RX1, "lambda$new$6", "(LHallPlan$Event;II)Z"⟩
def dkwX1_lambda_new_6_0 : List UInt8 := [42, 43, 29, 182, 1, 229, 172]
abbrev dktX1_lambda_new_6_0 : List UInt8 := dkwX1_lambda_new_6_0 ++ []
theorem dksX1_lambda_new_6_0 : cX1_lambda_new_6.data.toList.drop 0 = dktX1_lambda_new_6_0 := by decide +kernel
theorem dX1_lambda_new_6_0 : decode cX1_lambda_new_6 0 = .ok (.aload_n 0, 1) := dk_42 (dk_at dksX1_lambda_new_6_0 0 rfl rfl)
theorem dX1_lambda_new_6_1 : decode cX1_lambda_new_6 1 = .ok (.aload_n 1, 1) := dk_43 (dk_at dksX1_lambda_new_6_0 1 rfl rfl)
theorem dX1_lambda_new_6_2 : decode cX1_lambda_new_6 2 = .ok (.iload_n 3, 1) := dk_29 (dk_at dksX1_lambda_new_6_0 2 rfl rfl)
theorem dX1_lambda_new_6_3 : decode cX1_lambda_new_6 3 = .ok (.invokevirtual 485, 3) := dk_182 1 229 (dk_at dksX1_lambda_new_6_0 3 rfl rfl)
theorem dX1_lambda_new_6_6 : decode cX1_lambda_new_6 6 = .ok (.ireturn, 1) := dk_172 (dk_at dksX1_lambda_new_6_0 6 rfl rfl)
abbrev cX1_lacks : ByteArray := prog_1_method_25_code
def yX1_lacks : MethodName := ⟨RX1, "lacks", "(LHallPlan$Event;I)Z"⟩
def dkwX1_lacks_4 : List UInt8 := [3, 172]
abbrev dktX1_lacks_4 : List UInt8 := dkwX1_lacks_4 ++ []
def dkwX1_lacks_3 : List UInt8 := [180, 0, 221, 96, 182, 0, 240, 96, 25, 4, 180, 0, 244, 164, 0, 5, 4, 172, 132, 3, 1, 167, 255, 169]
abbrev dktX1_lacks_3 : List UInt8 := dkwX1_lacks_3 ++ dktX1_lacks_4
def dkwX1_lacks_2 : List UInt8 := [180, 0, 228, 29, 46, 42, 29, 28, 25, 4, 180, 0, 221, 100, 28, 43, 180, 0, 198, 96, 25, 4]
abbrev dktX1_lacks_2 : List UInt8 := dkwX1_lacks_2 ++ dktX1_lacks_3
def dkwX1_lacks_1 : List UInt8 := [180, 0, 157, 29, 185, 0, 164, 2, 0, 192, 0, 219, 58, 4, 43, 180, 0, 228, 29, 46, 158, 0, 44, 43]
abbrev dktX1_lacks_1 : List UInt8 := dkwX1_lacks_1 ++ dktX1_lacks_2
def dkwX1_lacks_0 : List UInt8 := [3, 62, 29, 42, 180, 0, 16, 180, 0, 157, 185, 0, 136, 1, 0, 162, 0, 77, 42, 180, 0, 16]
abbrev dktX1_lacks_0 : List UInt8 := dkwX1_lacks_0 ++ dktX1_lacks_1
theorem dksX1_lacks_0 : cX1_lacks.data.toList.drop 0 = dktX1_lacks_0 := by decide +kernel
theorem dksX1_lacks_1 : cX1_lacks.data.toList.drop 22 = dktX1_lacks_1 := dk_seg dksX1_lacks_0 22 rfl rfl
theorem dksX1_lacks_2 : cX1_lacks.data.toList.drop 46 = dktX1_lacks_2 := dk_seg dksX1_lacks_1 24 rfl rfl
theorem dksX1_lacks_3 : cX1_lacks.data.toList.drop 68 = dktX1_lacks_3 := dk_seg dksX1_lacks_2 22 rfl rfl
theorem dksX1_lacks_4 : cX1_lacks.data.toList.drop 92 = dktX1_lacks_4 := dk_seg dksX1_lacks_3 24 rfl rfl
theorem dX1_lacks_0 : decode cX1_lacks 0 = .ok (.iconst 0, 1) := dk_3 (dk_at dksX1_lacks_0 0 rfl rfl)
theorem dX1_lacks_1 : decode cX1_lacks 1 = .ok (.istore_n 3, 1) := dk_62 (dk_at dksX1_lacks_0 1 rfl rfl)
theorem dX1_lacks_2 : decode cX1_lacks 2 = .ok (.iload_n 3, 1) := dk_29 (dk_at dksX1_lacks_0 2 rfl rfl)
theorem dX1_lacks_3 : decode cX1_lacks 3 = .ok (.aload_n 0, 1) := dk_42 (dk_at dksX1_lacks_0 3 rfl rfl)
theorem dX1_lacks_4 : decode cX1_lacks 4 = .ok (.getfield 16, 3) := dk_180 0 16 (dk_at dksX1_lacks_0 4 rfl rfl)
theorem dX1_lacks_7 : decode cX1_lacks 7 = .ok (.getfield 157, 3) := dk_180 0 157 (dk_at dksX1_lacks_0 7 rfl rfl)
theorem dX1_lacks_10 : decode cX1_lacks 10 = .ok (.invokeinterface 136 1, 5) := by decide +kernel
theorem dX1_lacks_15 : decode cX1_lacks 15 = .ok (.if_icmp .ge 77, 3) := dk_162 0 77 (dk_at dksX1_lacks_0 15 rfl rfl)
theorem dX1_lacks_18 : decode cX1_lacks 18 = .ok (.aload_n 0, 1) := dk_42 (dk_at dksX1_lacks_0 18 rfl rfl)
theorem dX1_lacks_19 : decode cX1_lacks 19 = .ok (.getfield 16, 3) := dk_180 0 16 (dk_at dksX1_lacks_0 19 rfl rfl)
theorem dX1_lacks_22 : decode cX1_lacks 22 = .ok (.getfield 157, 3) := dk_180 0 157 (dk_at dksX1_lacks_1 0 rfl rfl)
theorem dX1_lacks_25 : decode cX1_lacks 25 = .ok (.iload_n 3, 1) := dk_29 (dk_at dksX1_lacks_1 3 rfl rfl)
theorem dX1_lacks_26 : decode cX1_lacks 26 = .ok (.invokeinterface 164 2, 5) := by decide +kernel
theorem dX1_lacks_31 : decode cX1_lacks 31 = .ok (.checkcast 219, 3) := dk_192 0 219 (dk_at dksX1_lacks_1 9 rfl rfl)
theorem dX1_lacks_34 : decode cX1_lacks 34 = .ok (.astore 4, 2) := dk_58 4 (dk_at dksX1_lacks_1 12 rfl rfl)
theorem dX1_lacks_36 : decode cX1_lacks 36 = .ok (.aload_n 1, 1) := dk_43 (dk_at dksX1_lacks_1 14 rfl rfl)
theorem dX1_lacks_37 : decode cX1_lacks 37 = .ok (.getfield 228, 3) := dk_180 0 228 (dk_at dksX1_lacks_1 15 rfl rfl)
theorem dX1_lacks_40 : decode cX1_lacks 40 = .ok (.iload_n 3, 1) := dk_29 (dk_at dksX1_lacks_1 18 rfl rfl)
theorem dX1_lacks_41 : decode cX1_lacks 41 = .ok (.iaload, 1) := dk_46 (dk_at dksX1_lacks_1 19 rfl rfl)
theorem dX1_lacks_42 : decode cX1_lacks 42 = .ok (.ifCond .le 44, 3) := dk_158 0 44 (dk_at dksX1_lacks_1 20 rfl rfl)
theorem dX1_lacks_45 : decode cX1_lacks 45 = .ok (.aload_n 1, 1) := dk_43 (dk_at dksX1_lacks_1 23 rfl rfl)
theorem dX1_lacks_46 : decode cX1_lacks 46 = .ok (.getfield 228, 3) := dk_180 0 228 (dk_at dksX1_lacks_2 0 rfl rfl)
theorem dX1_lacks_49 : decode cX1_lacks 49 = .ok (.iload_n 3, 1) := dk_29 (dk_at dksX1_lacks_2 3 rfl rfl)
theorem dX1_lacks_50 : decode cX1_lacks 50 = .ok (.iaload, 1) := dk_46 (dk_at dksX1_lacks_2 4 rfl rfl)
theorem dX1_lacks_51 : decode cX1_lacks 51 = .ok (.aload_n 0, 1) := dk_42 (dk_at dksX1_lacks_2 5 rfl rfl)
theorem dX1_lacks_52 : decode cX1_lacks 52 = .ok (.iload_n 3, 1) := dk_29 (dk_at dksX1_lacks_2 6 rfl rfl)
theorem dX1_lacks_53 : decode cX1_lacks 53 = .ok (.iload_n 2, 1) := dk_28 (dk_at dksX1_lacks_2 7 rfl rfl)
theorem dX1_lacks_54 : decode cX1_lacks 54 = .ok (.aload 4, 2) := dk_25 4 (dk_at dksX1_lacks_2 8 rfl rfl)
theorem dX1_lacks_56 : decode cX1_lacks 56 = .ok (.getfield 221, 3) := dk_180 0 221 (dk_at dksX1_lacks_2 10 rfl rfl)
theorem dX1_lacks_59 : decode cX1_lacks 59 = .ok (.isub, 1) := dk_100 (dk_at dksX1_lacks_2 13 rfl rfl)
theorem dX1_lacks_60 : decode cX1_lacks 60 = .ok (.iload_n 2, 1) := dk_28 (dk_at dksX1_lacks_2 14 rfl rfl)
theorem dX1_lacks_61 : decode cX1_lacks 61 = .ok (.aload_n 1, 1) := dk_43 (dk_at dksX1_lacks_2 15 rfl rfl)
theorem dX1_lacks_62 : decode cX1_lacks 62 = .ok (.getfield 198, 3) := dk_180 0 198 (dk_at dksX1_lacks_2 16 rfl rfl)
theorem dX1_lacks_65 : decode cX1_lacks 65 = .ok (.iadd, 1) := dk_96 (dk_at dksX1_lacks_2 19 rfl rfl)
theorem dX1_lacks_66 : decode cX1_lacks 66 = .ok (.aload 4, 2) := dk_25 4 (dk_at dksX1_lacks_2 20 rfl rfl)
theorem dX1_lacks_68 : decode cX1_lacks 68 = .ok (.getfield 221, 3) := dk_180 0 221 (dk_at dksX1_lacks_3 0 rfl rfl)
theorem dX1_lacks_71 : decode cX1_lacks 71 = .ok (.iadd, 1) := dk_96 (dk_at dksX1_lacks_3 3 rfl rfl)
theorem dX1_lacks_72 : decode cX1_lacks 72 = .ok (.invokevirtual 240, 3) := dk_182 0 240 (dk_at dksX1_lacks_3 4 rfl rfl)
theorem dX1_lacks_75 : decode cX1_lacks 75 = .ok (.iadd, 1) := dk_96 (dk_at dksX1_lacks_3 7 rfl rfl)
theorem dX1_lacks_76 : decode cX1_lacks 76 = .ok (.aload 4, 2) := dk_25 4 (dk_at dksX1_lacks_3 8 rfl rfl)
theorem dX1_lacks_78 : decode cX1_lacks 78 = .ok (.getfield 244, 3) := dk_180 0 244 (dk_at dksX1_lacks_3 10 rfl rfl)
theorem dX1_lacks_81 : decode cX1_lacks 81 = .ok (.if_icmp .le 5, 3) := dk_164 0 5 (dk_at dksX1_lacks_3 13 rfl rfl)
theorem dX1_lacks_84 : decode cX1_lacks 84 = .ok (.iconst 1, 1) := dk_4 (dk_at dksX1_lacks_3 16 rfl rfl)
theorem dX1_lacks_85 : decode cX1_lacks 85 = .ok (.ireturn, 1) := dk_172 (dk_at dksX1_lacks_3 17 rfl rfl)
theorem dX1_lacks_86 : decode cX1_lacks 86 = .ok (.iinc 3 1, 3) := dk_132 3 1 (dk_at dksX1_lacks_3 18 rfl rfl)
theorem dX1_lacks_89 : decode cX1_lacks 89 = .ok (.goto (-87), 3) := dk_167 255 169 (dk_at dksX1_lacks_3 21 rfl rfl)
theorem dX1_lacks_92 : decode cX1_lacks 92 = .ok (.iconst 0, 1) := dk_3 (dk_at dksX1_lacks_4 0 rfl rfl)
theorem dX1_lacks_93 : decode cX1_lacks 93 = .ok (.ireturn, 1) := dk_172 (dk_at dksX1_lacks_4 1 rfl rfl)
abbrev cX1_mostHeld : ByteArray := prog_1_method_24_code
def yX1_mostHeld : MethodName := ⟨RX1, "mostHeld", "(III)I"⟩
def dkwX1_mostHeld_9 : List UInt8 := [21, 7, 184, 0, 231, 54, 6, 132, 8, 1, 167, 255, 225, 21, 6, 172]
abbrev dktX1_mostHeld_9 : List UInt8 := dkwX1_mostHeld_9 ++ []
def dkwX1_mostHeld_8 : List UInt8 := [3, 54, 8, 21, 8, 21, 5, 162, 0, 30, 21, 7, 42, 180, 0, 58, 21, 8, 46, 96, 54, 7, 21, 6]
abbrev dktX1_mostHeld_8 : List UInt8 := dkwX1_mostHeld_8 ++ dktX1_mostHeld_9
def dkwX1_mostHeld_7 : List UInt8 := [25, 7, 180, 0, 189, 180, 0, 228, 27, 46, 100, 79, 132, 6, 1, 167, 255, 135, 3, 54, 6, 3, 54, 7]
abbrev dktX1_mostHeld_7 : List UInt8 := dkwX1_mostHeld_7 ++ dktX1_mostHeld_8
def dkwX1_mostHeld_6 : List UInt8 := [180, 0, 189, 180, 0, 228, 27, 46, 96, 79, 42, 180, 0, 58, 21, 9, 28, 100, 16, 15, 108, 92, 46]
abbrev dktX1_mostHeld_6 : List UInt8 := dkwX1_mostHeld_6 ++ dktX1_mostHeld_7
def dkwX1_mostHeld_5 : List UInt8 := [21, 8, 21, 9, 162, 0, 53, 42, 180, 0, 58, 21, 8, 28, 100, 16, 15, 108, 92, 46, 25, 7]
abbrev dktX1_mostHeld_5 : List UInt8 := dkwX1_mostHeld_5 ++ dktX1_mostHeld_6
def dkwX1_mostHeld_4 : List UInt8 := [54, 8, 29, 25, 7, 182, 0, 195, 21, 4, 96, 184, 0, 237, 54, 9, 25, 7, 182, 0, 208, 153, 0, 60]
abbrev dktX1_mostHeld_4 : List UInt8 := dkwX1_mostHeld_4 ++ dktX1_mostHeld_5
def dkwX1_mostHeld_3 : List UInt8 := [162, 0, 110, 42, 21, 6, 182, 0, 204, 58, 7, 28, 25, 7, 180, 0, 201, 21, 4, 100, 184, 0, 231]
abbrev dktX1_mostHeld_3 : List UInt8 := dkwX1_mostHeld_3 ++ dktX1_mostHeld_4
def dkwX1_mostHeld_2 : List UInt8 := [132, 6, 1, 167, 255, 238, 3, 54, 6, 21, 6, 42, 180, 0, 25, 180, 0, 160, 185, 0, 136, 1, 0]
abbrev dktX1_mostHeld_2 : List UInt8 := dkwX1_mostHeld_2 ++ dktX1_mostHeld_3
def dkwX1_mostHeld_1 : List UInt8 := [16, 15, 108, 54, 5, 3, 54, 6, 21, 6, 21, 5, 163, 0, 17, 42, 180, 0, 58, 21, 6, 3, 79]
abbrev dktX1_mostHeld_1 : List UInt8 := dkwX1_mostHeld_1 ++ dktX1_mostHeld_2
def dkwX1_mostHeld_0 : List UInt8 := [42, 180, 0, 16, 180, 0, 157, 27, 185, 0, 164, 2, 0, 192, 0, 219, 180, 0, 221, 54, 4, 29, 28, 100]
abbrev dktX1_mostHeld_0 : List UInt8 := dkwX1_mostHeld_0 ++ dktX1_mostHeld_1
theorem dksX1_mostHeld_0 : cX1_mostHeld.data.toList.drop 0 = dktX1_mostHeld_0 := by decide +kernel
theorem dksX1_mostHeld_1 : cX1_mostHeld.data.toList.drop 24 = dktX1_mostHeld_1 := dk_seg dksX1_mostHeld_0 24 rfl rfl
theorem dksX1_mostHeld_2 : cX1_mostHeld.data.toList.drop 47 = dktX1_mostHeld_2 := dk_seg dksX1_mostHeld_1 23 rfl rfl
theorem dksX1_mostHeld_3 : cX1_mostHeld.data.toList.drop 70 = dktX1_mostHeld_3 := dk_seg dksX1_mostHeld_2 23 rfl rfl
theorem dksX1_mostHeld_4 : cX1_mostHeld.data.toList.drop 93 = dktX1_mostHeld_4 := dk_seg dksX1_mostHeld_3 23 rfl rfl
theorem dksX1_mostHeld_5 : cX1_mostHeld.data.toList.drop 117 = dktX1_mostHeld_5 := dk_seg dksX1_mostHeld_4 24 rfl rfl
theorem dksX1_mostHeld_6 : cX1_mostHeld.data.toList.drop 139 = dktX1_mostHeld_6 := dk_seg dksX1_mostHeld_5 22 rfl rfl
theorem dksX1_mostHeld_7 : cX1_mostHeld.data.toList.drop 162 = dktX1_mostHeld_7 := dk_seg dksX1_mostHeld_6 23 rfl rfl
theorem dksX1_mostHeld_8 : cX1_mostHeld.data.toList.drop 186 = dktX1_mostHeld_8 := dk_seg dksX1_mostHeld_7 24 rfl rfl
theorem dksX1_mostHeld_9 : cX1_mostHeld.data.toList.drop 210 = dktX1_mostHeld_9 := dk_seg dksX1_mostHeld_8 24 rfl rfl
theorem dX1_mostHeld_0 : decode cX1_mostHeld 0 = .ok (.aload_n 0, 1) := dk_42 (dk_at dksX1_mostHeld_0 0 rfl rfl)
theorem dX1_mostHeld_1 : decode cX1_mostHeld 1 = .ok (.getfield 16, 3) := dk_180 0 16 (dk_at dksX1_mostHeld_0 1 rfl rfl)
theorem dX1_mostHeld_4 : decode cX1_mostHeld 4 = .ok (.getfield 157, 3) := dk_180 0 157 (dk_at dksX1_mostHeld_0 4 rfl rfl)
theorem dX1_mostHeld_7 : decode cX1_mostHeld 7 = .ok (.iload_n 1, 1) := dk_27 (dk_at dksX1_mostHeld_0 7 rfl rfl)
theorem dX1_mostHeld_8 : decode cX1_mostHeld 8 = .ok (.invokeinterface 164 2, 5) := by decide +kernel
theorem dX1_mostHeld_13 : decode cX1_mostHeld 13 = .ok (.checkcast 219, 3) := dk_192 0 219 (dk_at dksX1_mostHeld_0 13 rfl rfl)
theorem dX1_mostHeld_16 : decode cX1_mostHeld 16 = .ok (.getfield 221, 3) := dk_180 0 221 (dk_at dksX1_mostHeld_0 16 rfl rfl)
theorem dX1_mostHeld_19 : decode cX1_mostHeld 19 = .ok (.istore 4, 2) := dk_54 4 (dk_at dksX1_mostHeld_0 19 rfl rfl)
theorem dX1_mostHeld_21 : decode cX1_mostHeld 21 = .ok (.iload_n 3, 1) := dk_29 (dk_at dksX1_mostHeld_0 21 rfl rfl)
theorem dX1_mostHeld_22 : decode cX1_mostHeld 22 = .ok (.iload_n 2, 1) := dk_28 (dk_at dksX1_mostHeld_0 22 rfl rfl)
theorem dX1_mostHeld_23 : decode cX1_mostHeld 23 = .ok (.isub, 1) := dk_100 (dk_at dksX1_mostHeld_0 23 rfl rfl)
theorem dX1_mostHeld_24 : decode cX1_mostHeld 24 = .ok (.bipush 15, 2) := dk_16 15 (dk_at dksX1_mostHeld_1 0 rfl rfl)
theorem dX1_mostHeld_26 : decode cX1_mostHeld 26 = .ok (.idiv, 1) := dk_108 (dk_at dksX1_mostHeld_1 2 rfl rfl)
theorem dX1_mostHeld_27 : decode cX1_mostHeld 27 = .ok (.istore 5, 2) := dk_54 5 (dk_at dksX1_mostHeld_1 3 rfl rfl)
theorem dX1_mostHeld_29 : decode cX1_mostHeld 29 = .ok (.iconst 0, 1) := dk_3 (dk_at dksX1_mostHeld_1 5 rfl rfl)
theorem dX1_mostHeld_30 : decode cX1_mostHeld 30 = .ok (.istore 6, 2) := dk_54 6 (dk_at dksX1_mostHeld_1 6 rfl rfl)
theorem dX1_mostHeld_32 : decode cX1_mostHeld 32 = .ok (.iload 6, 2) := dk_21 6 (dk_at dksX1_mostHeld_1 8 rfl rfl)
theorem dX1_mostHeld_34 : decode cX1_mostHeld 34 = .ok (.iload 5, 2) := dk_21 5 (dk_at dksX1_mostHeld_1 10 rfl rfl)
theorem dX1_mostHeld_36 : decode cX1_mostHeld 36 = .ok (.if_icmp .gt 17, 3) := dk_163 0 17 (dk_at dksX1_mostHeld_1 12 rfl rfl)
theorem dX1_mostHeld_39 : decode cX1_mostHeld 39 = .ok (.aload_n 0, 1) := dk_42 (dk_at dksX1_mostHeld_1 15 rfl rfl)
theorem dX1_mostHeld_40 : decode cX1_mostHeld 40 = .ok (.getfield 58, 3) := dk_180 0 58 (dk_at dksX1_mostHeld_1 16 rfl rfl)
theorem dX1_mostHeld_43 : decode cX1_mostHeld 43 = .ok (.iload 6, 2) := dk_21 6 (dk_at dksX1_mostHeld_1 19 rfl rfl)
theorem dX1_mostHeld_45 : decode cX1_mostHeld 45 = .ok (.iconst 0, 1) := dk_3 (dk_at dksX1_mostHeld_1 21 rfl rfl)
theorem dX1_mostHeld_46 : decode cX1_mostHeld 46 = .ok (.iastore, 1) := dk_79 (dk_at dksX1_mostHeld_1 22 rfl rfl)
theorem dX1_mostHeld_47 : decode cX1_mostHeld 47 = .ok (.iinc 6 1, 3) := dk_132 6 1 (dk_at dksX1_mostHeld_2 0 rfl rfl)
theorem dX1_mostHeld_50 : decode cX1_mostHeld 50 = .ok (.goto (-18), 3) := dk_167 255 238 (dk_at dksX1_mostHeld_2 3 rfl rfl)
theorem dX1_mostHeld_53 : decode cX1_mostHeld 53 = .ok (.iconst 0, 1) := dk_3 (dk_at dksX1_mostHeld_2 6 rfl rfl)
theorem dX1_mostHeld_54 : decode cX1_mostHeld 54 = .ok (.istore 6, 2) := dk_54 6 (dk_at dksX1_mostHeld_2 7 rfl rfl)
theorem dX1_mostHeld_56 : decode cX1_mostHeld 56 = .ok (.iload 6, 2) := dk_21 6 (dk_at dksX1_mostHeld_2 9 rfl rfl)
theorem dX1_mostHeld_58 : decode cX1_mostHeld 58 = .ok (.aload_n 0, 1) := dk_42 (dk_at dksX1_mostHeld_2 11 rfl rfl)
theorem dX1_mostHeld_59 : decode cX1_mostHeld 59 = .ok (.getfield 25, 3) := dk_180 0 25 (dk_at dksX1_mostHeld_2 12 rfl rfl)
theorem dX1_mostHeld_62 : decode cX1_mostHeld 62 = .ok (.getfield 160, 3) := dk_180 0 160 (dk_at dksX1_mostHeld_2 15 rfl rfl)
theorem dX1_mostHeld_65 : decode cX1_mostHeld 65 = .ok (.invokeinterface 136 1, 5) := by decide +kernel
theorem dX1_mostHeld_70 : decode cX1_mostHeld 70 = .ok (.if_icmp .ge 110, 3) := dk_162 0 110 (dk_at dksX1_mostHeld_3 0 rfl rfl)
theorem dX1_mostHeld_73 : decode cX1_mostHeld 73 = .ok (.aload_n 0, 1) := dk_42 (dk_at dksX1_mostHeld_3 3 rfl rfl)
theorem dX1_mostHeld_74 : decode cX1_mostHeld 74 = .ok (.iload 6, 2) := dk_21 6 (dk_at dksX1_mostHeld_3 4 rfl rfl)
theorem dX1_mostHeld_76 : decode cX1_mostHeld 76 = .ok (.invokevirtual 204, 3) := dk_182 0 204 (dk_at dksX1_mostHeld_3 6 rfl rfl)
theorem dX1_mostHeld_79 : decode cX1_mostHeld 79 = .ok (.astore 7, 2) := dk_58 7 (dk_at dksX1_mostHeld_3 9 rfl rfl)
theorem dX1_mostHeld_81 : decode cX1_mostHeld 81 = .ok (.iload_n 2, 1) := dk_28 (dk_at dksX1_mostHeld_3 11 rfl rfl)
theorem dX1_mostHeld_82 : decode cX1_mostHeld 82 = .ok (.aload 7, 2) := dk_25 7 (dk_at dksX1_mostHeld_3 12 rfl rfl)
theorem dX1_mostHeld_84 : decode cX1_mostHeld 84 = .ok (.getfield 201, 3) := dk_180 0 201 (dk_at dksX1_mostHeld_3 14 rfl rfl)
theorem dX1_mostHeld_87 : decode cX1_mostHeld 87 = .ok (.iload 4, 2) := dk_21 4 (dk_at dksX1_mostHeld_3 17 rfl rfl)
theorem dX1_mostHeld_89 : decode cX1_mostHeld 89 = .ok (.isub, 1) := dk_100 (dk_at dksX1_mostHeld_3 19 rfl rfl)
theorem dX1_mostHeld_90 : decode cX1_mostHeld 90 = .ok (.invokestatic 231, 3) := dk_184 0 231 (dk_at dksX1_mostHeld_3 20 rfl rfl)
theorem dX1_mostHeld_93 : decode cX1_mostHeld 93 = .ok (.istore 8, 2) := dk_54 8 (dk_at dksX1_mostHeld_4 0 rfl rfl)
theorem dX1_mostHeld_95 : decode cX1_mostHeld 95 = .ok (.iload_n 3, 1) := dk_29 (dk_at dksX1_mostHeld_4 2 rfl rfl)
theorem dX1_mostHeld_96 : decode cX1_mostHeld 96 = .ok (.aload 7, 2) := dk_25 7 (dk_at dksX1_mostHeld_4 3 rfl rfl)
theorem dX1_mostHeld_98 : decode cX1_mostHeld 98 = .ok (.invokevirtual 195, 3) := dk_182 0 195 (dk_at dksX1_mostHeld_4 5 rfl rfl)
theorem dX1_mostHeld_101 : decode cX1_mostHeld 101 = .ok (.iload 4, 2) := dk_21 4 (dk_at dksX1_mostHeld_4 8 rfl rfl)
theorem dX1_mostHeld_103 : decode cX1_mostHeld 103 = .ok (.iadd, 1) := dk_96 (dk_at dksX1_mostHeld_4 10 rfl rfl)
theorem dX1_mostHeld_104 : decode cX1_mostHeld 104 = .ok (.invokestatic 237, 3) := dk_184 0 237 (dk_at dksX1_mostHeld_4 11 rfl rfl)
theorem dX1_mostHeld_107 : decode cX1_mostHeld 107 = .ok (.istore 9, 2) := dk_54 9 (dk_at dksX1_mostHeld_4 14 rfl rfl)
theorem dX1_mostHeld_109 : decode cX1_mostHeld 109 = .ok (.aload 7, 2) := dk_25 7 (dk_at dksX1_mostHeld_4 16 rfl rfl)
theorem dX1_mostHeld_111 : decode cX1_mostHeld 111 = .ok (.invokevirtual 208, 3) := dk_182 0 208 (dk_at dksX1_mostHeld_4 18 rfl rfl)
theorem dX1_mostHeld_114 : decode cX1_mostHeld 114 = .ok (.ifCond .eq 60, 3) := dk_153 0 60 (dk_at dksX1_mostHeld_4 21 rfl rfl)
theorem dX1_mostHeld_117 : decode cX1_mostHeld 117 = .ok (.iload 8, 2) := dk_21 8 (dk_at dksX1_mostHeld_5 0 rfl rfl)
theorem dX1_mostHeld_119 : decode cX1_mostHeld 119 = .ok (.iload 9, 2) := dk_21 9 (dk_at dksX1_mostHeld_5 2 rfl rfl)
theorem dX1_mostHeld_121 : decode cX1_mostHeld 121 = .ok (.if_icmp .ge 53, 3) := dk_162 0 53 (dk_at dksX1_mostHeld_5 4 rfl rfl)
theorem dX1_mostHeld_124 : decode cX1_mostHeld 124 = .ok (.aload_n 0, 1) := dk_42 (dk_at dksX1_mostHeld_5 7 rfl rfl)
theorem dX1_mostHeld_125 : decode cX1_mostHeld 125 = .ok (.getfield 58, 3) := dk_180 0 58 (dk_at dksX1_mostHeld_5 8 rfl rfl)
theorem dX1_mostHeld_128 : decode cX1_mostHeld 128 = .ok (.iload 8, 2) := dk_21 8 (dk_at dksX1_mostHeld_5 11 rfl rfl)
theorem dX1_mostHeld_130 : decode cX1_mostHeld 130 = .ok (.iload_n 2, 1) := dk_28 (dk_at dksX1_mostHeld_5 13 rfl rfl)
theorem dX1_mostHeld_131 : decode cX1_mostHeld 131 = .ok (.isub, 1) := dk_100 (dk_at dksX1_mostHeld_5 14 rfl rfl)
theorem dX1_mostHeld_132 : decode cX1_mostHeld 132 = .ok (.bipush 15, 2) := dk_16 15 (dk_at dksX1_mostHeld_5 15 rfl rfl)
theorem dX1_mostHeld_134 : decode cX1_mostHeld 134 = .ok (.idiv, 1) := dk_108 (dk_at dksX1_mostHeld_5 17 rfl rfl)
theorem dX1_mostHeld_135 : decode cX1_mostHeld 135 = .ok (.dup2, 1) := dk_92 (dk_at dksX1_mostHeld_5 18 rfl rfl)
theorem dX1_mostHeld_136 : decode cX1_mostHeld 136 = .ok (.iaload, 1) := dk_46 (dk_at dksX1_mostHeld_5 19 rfl rfl)
theorem dX1_mostHeld_137 : decode cX1_mostHeld 137 = .ok (.aload 7, 2) := dk_25 7 (dk_at dksX1_mostHeld_5 20 rfl rfl)
theorem dX1_mostHeld_139 : decode cX1_mostHeld 139 = .ok (.getfield 189, 3) := dk_180 0 189 (dk_at dksX1_mostHeld_6 0 rfl rfl)
theorem dX1_mostHeld_142 : decode cX1_mostHeld 142 = .ok (.getfield 228, 3) := dk_180 0 228 (dk_at dksX1_mostHeld_6 3 rfl rfl)
theorem dX1_mostHeld_145 : decode cX1_mostHeld 145 = .ok (.iload_n 1, 1) := dk_27 (dk_at dksX1_mostHeld_6 6 rfl rfl)
theorem dX1_mostHeld_146 : decode cX1_mostHeld 146 = .ok (.iaload, 1) := dk_46 (dk_at dksX1_mostHeld_6 7 rfl rfl)
theorem dX1_mostHeld_147 : decode cX1_mostHeld 147 = .ok (.iadd, 1) := dk_96 (dk_at dksX1_mostHeld_6 8 rfl rfl)
theorem dX1_mostHeld_148 : decode cX1_mostHeld 148 = .ok (.iastore, 1) := dk_79 (dk_at dksX1_mostHeld_6 9 rfl rfl)
theorem dX1_mostHeld_149 : decode cX1_mostHeld 149 = .ok (.aload_n 0, 1) := dk_42 (dk_at dksX1_mostHeld_6 10 rfl rfl)
theorem dX1_mostHeld_150 : decode cX1_mostHeld 150 = .ok (.getfield 58, 3) := dk_180 0 58 (dk_at dksX1_mostHeld_6 11 rfl rfl)
theorem dX1_mostHeld_153 : decode cX1_mostHeld 153 = .ok (.iload 9, 2) := dk_21 9 (dk_at dksX1_mostHeld_6 14 rfl rfl)
theorem dX1_mostHeld_155 : decode cX1_mostHeld 155 = .ok (.iload_n 2, 1) := dk_28 (dk_at dksX1_mostHeld_6 16 rfl rfl)
theorem dX1_mostHeld_156 : decode cX1_mostHeld 156 = .ok (.isub, 1) := dk_100 (dk_at dksX1_mostHeld_6 17 rfl rfl)
theorem dX1_mostHeld_157 : decode cX1_mostHeld 157 = .ok (.bipush 15, 2) := dk_16 15 (dk_at dksX1_mostHeld_6 18 rfl rfl)
theorem dX1_mostHeld_159 : decode cX1_mostHeld 159 = .ok (.idiv, 1) := dk_108 (dk_at dksX1_mostHeld_6 20 rfl rfl)
theorem dX1_mostHeld_160 : decode cX1_mostHeld 160 = .ok (.dup2, 1) := dk_92 (dk_at dksX1_mostHeld_6 21 rfl rfl)
theorem dX1_mostHeld_161 : decode cX1_mostHeld 161 = .ok (.iaload, 1) := dk_46 (dk_at dksX1_mostHeld_6 22 rfl rfl)
theorem dX1_mostHeld_162 : decode cX1_mostHeld 162 = .ok (.aload 7, 2) := dk_25 7 (dk_at dksX1_mostHeld_7 0 rfl rfl)
theorem dX1_mostHeld_164 : decode cX1_mostHeld 164 = .ok (.getfield 189, 3) := dk_180 0 189 (dk_at dksX1_mostHeld_7 2 rfl rfl)
theorem dX1_mostHeld_167 : decode cX1_mostHeld 167 = .ok (.getfield 228, 3) := dk_180 0 228 (dk_at dksX1_mostHeld_7 5 rfl rfl)
theorem dX1_mostHeld_170 : decode cX1_mostHeld 170 = .ok (.iload_n 1, 1) := dk_27 (dk_at dksX1_mostHeld_7 8 rfl rfl)
theorem dX1_mostHeld_171 : decode cX1_mostHeld 171 = .ok (.iaload, 1) := dk_46 (dk_at dksX1_mostHeld_7 9 rfl rfl)
theorem dX1_mostHeld_172 : decode cX1_mostHeld 172 = .ok (.isub, 1) := dk_100 (dk_at dksX1_mostHeld_7 10 rfl rfl)
theorem dX1_mostHeld_173 : decode cX1_mostHeld 173 = .ok (.iastore, 1) := dk_79 (dk_at dksX1_mostHeld_7 11 rfl rfl)
theorem dX1_mostHeld_174 : decode cX1_mostHeld 174 = .ok (.iinc 6 1, 3) := dk_132 6 1 (dk_at dksX1_mostHeld_7 12 rfl rfl)
theorem dX1_mostHeld_177 : decode cX1_mostHeld 177 = .ok (.goto (-121), 3) := dk_167 255 135 (dk_at dksX1_mostHeld_7 15 rfl rfl)
theorem dX1_mostHeld_180 : decode cX1_mostHeld 180 = .ok (.iconst 0, 1) := dk_3 (dk_at dksX1_mostHeld_7 18 rfl rfl)
theorem dX1_mostHeld_181 : decode cX1_mostHeld 181 = .ok (.istore 6, 2) := dk_54 6 (dk_at dksX1_mostHeld_7 19 rfl rfl)
theorem dX1_mostHeld_183 : decode cX1_mostHeld 183 = .ok (.iconst 0, 1) := dk_3 (dk_at dksX1_mostHeld_7 21 rfl rfl)
theorem dX1_mostHeld_184 : decode cX1_mostHeld 184 = .ok (.istore 7, 2) := dk_54 7 (dk_at dksX1_mostHeld_7 22 rfl rfl)
theorem dX1_mostHeld_186 : decode cX1_mostHeld 186 = .ok (.iconst 0, 1) := dk_3 (dk_at dksX1_mostHeld_8 0 rfl rfl)
theorem dX1_mostHeld_187 : decode cX1_mostHeld 187 = .ok (.istore 8, 2) := dk_54 8 (dk_at dksX1_mostHeld_8 1 rfl rfl)
theorem dX1_mostHeld_189 : decode cX1_mostHeld 189 = .ok (.iload 8, 2) := dk_21 8 (dk_at dksX1_mostHeld_8 3 rfl rfl)
theorem dX1_mostHeld_191 : decode cX1_mostHeld 191 = .ok (.iload 5, 2) := dk_21 5 (dk_at dksX1_mostHeld_8 5 rfl rfl)
theorem dX1_mostHeld_193 : decode cX1_mostHeld 193 = .ok (.if_icmp .ge 30, 3) := dk_162 0 30 (dk_at dksX1_mostHeld_8 7 rfl rfl)
theorem dX1_mostHeld_196 : decode cX1_mostHeld 196 = .ok (.iload 7, 2) := dk_21 7 (dk_at dksX1_mostHeld_8 10 rfl rfl)
theorem dX1_mostHeld_198 : decode cX1_mostHeld 198 = .ok (.aload_n 0, 1) := dk_42 (dk_at dksX1_mostHeld_8 12 rfl rfl)
theorem dX1_mostHeld_199 : decode cX1_mostHeld 199 = .ok (.getfield 58, 3) := dk_180 0 58 (dk_at dksX1_mostHeld_8 13 rfl rfl)
theorem dX1_mostHeld_202 : decode cX1_mostHeld 202 = .ok (.iload 8, 2) := dk_21 8 (dk_at dksX1_mostHeld_8 16 rfl rfl)
theorem dX1_mostHeld_204 : decode cX1_mostHeld 204 = .ok (.iaload, 1) := dk_46 (dk_at dksX1_mostHeld_8 18 rfl rfl)
theorem dX1_mostHeld_205 : decode cX1_mostHeld 205 = .ok (.iadd, 1) := dk_96 (dk_at dksX1_mostHeld_8 19 rfl rfl)
theorem dX1_mostHeld_206 : decode cX1_mostHeld 206 = .ok (.istore 7, 2) := dk_54 7 (dk_at dksX1_mostHeld_8 20 rfl rfl)
theorem dX1_mostHeld_208 : decode cX1_mostHeld 208 = .ok (.iload 6, 2) := dk_21 6 (dk_at dksX1_mostHeld_8 22 rfl rfl)
theorem dX1_mostHeld_210 : decode cX1_mostHeld 210 = .ok (.iload 7, 2) := dk_21 7 (dk_at dksX1_mostHeld_9 0 rfl rfl)
theorem dX1_mostHeld_212 : decode cX1_mostHeld 212 = .ok (.invokestatic 231, 3) := dk_184 0 231 (dk_at dksX1_mostHeld_9 2 rfl rfl)
theorem dX1_mostHeld_215 : decode cX1_mostHeld 215 = .ok (.istore 6, 2) := dk_54 6 (dk_at dksX1_mostHeld_9 5 rfl rfl)
theorem dX1_mostHeld_217 : decode cX1_mostHeld 217 = .ok (.iinc 8 1, 3) := dk_132 8 1 (dk_at dksX1_mostHeld_9 7 rfl rfl)
theorem dX1_mostHeld_220 : decode cX1_mostHeld 220 = .ok (.goto (-31), 3) := dk_167 255 225 (dk_at dksX1_mostHeld_9 10 rfl rfl)
theorem dX1_mostHeld_223 : decode cX1_mostHeld 223 = .ok (.iload 6, 2) := dk_21 6 (dk_at dksX1_mostHeld_9 13 rfl rfl)
theorem dX1_mostHeld_225 : decode cX1_mostHeld 225 = .ok (.ireturn, 1) := dk_172 (dk_at dksX1_mostHeld_9 15 rfl rfl)
abbrev cX1_errorPosition : ByteArray := prog_1_method_11_code
def yX1_errorPosition : MethodName := ⟨RX1, "errorPosition", "()I"⟩
def dkwX1_errorPosition_0 : List UInt8 := [187, 0, 109, 89, 42, 183, 0, 111, 182, 0, 114, 87, 2, 172, 76, 43, 180, 0, 120, 172]
abbrev dktX1_errorPosition_0 : List UInt8 := dkwX1_errorPosition_0 ++ []
theorem dksX1_errorPosition_0 : cX1_errorPosition.data.toList.drop 0 = dktX1_errorPosition_0 := by decide +kernel
theorem dX1_errorPosition_0 : decode cX1_errorPosition 0 = .ok (.new 109, 3) := dk_187 0 109 (dk_at dksX1_errorPosition_0 0 rfl rfl)
theorem dX1_errorPosition_3 : decode cX1_errorPosition 3 = .ok (.dup, 1) := dk_89 (dk_at dksX1_errorPosition_0 3 rfl rfl)
theorem dX1_errorPosition_4 : decode cX1_errorPosition 4 = .ok (.aload_n 0, 1) := dk_42 (dk_at dksX1_errorPosition_0 4 rfl rfl)
theorem dX1_errorPosition_5 : decode cX1_errorPosition 5 = .ok (.invokespecial 111, 3) := dk_183 0 111 (dk_at dksX1_errorPosition_0 5 rfl rfl)
theorem dX1_errorPosition_8 : decode cX1_errorPosition 8 = .ok (.invokevirtual 114, 3) := dk_182 0 114 (dk_at dksX1_errorPosition_0 8 rfl rfl)
theorem dX1_errorPosition_11 : decode cX1_errorPosition 11 = .ok (.pop, 1) := dk_87 (dk_at dksX1_errorPosition_0 11 rfl rfl)
theorem dX1_errorPosition_12 : decode cX1_errorPosition 12 = .ok (.iconst (-1), 1) := dk_2 (dk_at dksX1_errorPosition_0 12 rfl rfl)
theorem dX1_errorPosition_13 : decode cX1_errorPosition 13 = .ok (.ireturn, 1) := dk_172 (dk_at dksX1_errorPosition_0 13 rfl rfl)
theorem dX1_errorPosition_14 : decode cX1_errorPosition 14 = .ok (.astore_n 1, 1) := dk_76 (dk_at dksX1_errorPosition_0 14 rfl rfl)
theorem dX1_errorPosition_15 : decode cX1_errorPosition 15 = .ok (.aload_n 1, 1) := dk_43 (dk_at dksX1_errorPosition_0 15 rfl rfl)
theorem dX1_errorPosition_16 : decode cX1_errorPosition 16 = .ok (.getfield 120, 3) := dk_180 0 120 (dk_at dksX1_errorPosition_0 16 rfl rfl)
theorem dX1_errorPosition_19 : decode cX1_errorPosition 19 = .ok (.ireturn, 1) := dk_172 (dk_at dksX1_errorPosition_0 19 rfl rfl)
abbrev cX1_in : ByteArray := prog_1_method_2_code
def yX1_in : MethodName := ⟨RX1, "in", "(III)Z"⟩
def dkwX1_in_0 : List UInt8 := [26, 27, 161, 0, 12, 26, 28, 163, 0, 7, 4, 167, 0, 4, 3, 172]
abbrev dktX1_in_0 : List UInt8 := dkwX1_in_0 ++ []
theorem dksX1_in_0 : cX1_in.data.toList.drop 0 = dktX1_in_0 := by decide +kernel
theorem dX1_in_0 : decode cX1_in 0 = .ok (.iload_n 0, 1) := dk_26 (dk_at dksX1_in_0 0 rfl rfl)
theorem dX1_in_1 : decode cX1_in 1 = .ok (.iload_n 1, 1) := dk_27 (dk_at dksX1_in_0 1 rfl rfl)
theorem dX1_in_2 : decode cX1_in 2 = .ok (.if_icmp .lt 12, 3) := dk_161 0 12 (dk_at dksX1_in_0 2 rfl rfl)
theorem dX1_in_5 : decode cX1_in 5 = .ok (.iload_n 0, 1) := dk_26 (dk_at dksX1_in_0 5 rfl rfl)
theorem dX1_in_6 : decode cX1_in 6 = .ok (.iload_n 2, 1) := dk_28 (dk_at dksX1_in_0 6 rfl rfl)
theorem dX1_in_7 : decode cX1_in 7 = .ok (.if_icmp .gt 7, 3) := dk_163 0 7 (dk_at dksX1_in_0 7 rfl rfl)
theorem dX1_in_10 : decode cX1_in 10 = .ok (.iconst 1, 1) := dk_4 (dk_at dksX1_in_0 10 rfl rfl)
theorem dX1_in_11 : decode cX1_in 11 = .ok (.goto 4, 3) := dk_167 0 4 (dk_at dksX1_in_0 11 rfl rfl)
theorem dX1_in_14 : decode cX1_in 14 = .ok (.iconst 0, 1) := dk_3 (dk_at dksX1_in_0 14 rfl rfl)
theorem dX1_in_15 : decode cX1_in 15 = .ok (.ireturn, 1) := dk_172 (dk_at dksX1_in_0 15 rfl rfl)
abbrev cX1_closure : ByteArray := prog_1_method_10_code
def yX1_closure : MethodName := ⟨RX1, "closure", "(III)LHallPlan$Closure;"⟩
def dkwX1_closure_0 : List UInt8 := [26, 28, 27, 186, 0, 105, 0, 0, 176]
abbrev dktX1_closure_0 : List UInt8 := dkwX1_closure_0 ++ []
theorem dksX1_closure_0 : cX1_closure.data.toList.drop 0 = dktX1_closure_0 := by decide +kernel
theorem dX1_closure_0 : decode cX1_closure 0 = .ok (.iload_n 0, 1) := dk_26 (dk_at dksX1_closure_0 0 rfl rfl)
theorem dX1_closure_1 : decode cX1_closure 1 = .ok (.iload_n 2, 1) := dk_28 (dk_at dksX1_closure_0 1 rfl rfl)
theorem dX1_closure_2 : decode cX1_closure 2 = .ok (.iload_n 1, 1) := dk_27 (dk_at dksX1_closure_0 2 rfl rfl)
theorem dX1_closure_3 : decode cX1_closure 3 = .ok (.invokedynamic 105, 5) := by decide +kernel
theorem dX1_closure_8 : decode cX1_closure 8 = .ok (.areturn, 1) := dk_176 (dk_at dksX1_closure_0 8 rfl rfl)
abbrev cX1_lambda_closure_0 : ByteArray := prog_1_method_96_code
def yX1_lambda_closure_0 : MethodName := ⟨RX1, "lambda$closure$0", "(IIIIII)Z"⟩
def dkwX1_lambda_closure_0_0 : List UInt8 := [29, 26, 160, 0, 19, 21, 4, 27, 162, 0, 13, 28, 21, 5, 162, 0, 7, 4, 167, 0, 4, 3, 172]
abbrev dktX1_lambda_closure_0_0 : List UInt8 := dkwX1_lambda_closure_0_0 ++ []
theorem dksX1_lambda_closure_0_0 : cX1_lambda_closure_0.data.toList.drop 0 = dktX1_lambda_closure_0_0 := by decide +kernel
theorem dX1_lambda_closure_0_0 : decode cX1_lambda_closure_0 0 = .ok (.iload_n 3, 1) := dk_29 (dk_at dksX1_lambda_closure_0_0 0 rfl rfl)
theorem dX1_lambda_closure_0_1 : decode cX1_lambda_closure_0 1 = .ok (.iload_n 0, 1) := dk_26 (dk_at dksX1_lambda_closure_0_0 1 rfl rfl)
theorem dX1_lambda_closure_0_2 : decode cX1_lambda_closure_0 2 = .ok (.if_icmp .ne 19, 3) := dk_160 0 19 (dk_at dksX1_lambda_closure_0_0 2 rfl rfl)
theorem dX1_lambda_closure_0_5 : decode cX1_lambda_closure_0 5 = .ok (.iload 4, 2) := dk_21 4 (dk_at dksX1_lambda_closure_0_0 5 rfl rfl)
theorem dX1_lambda_closure_0_7 : decode cX1_lambda_closure_0 7 = .ok (.iload_n 1, 1) := dk_27 (dk_at dksX1_lambda_closure_0_0 7 rfl rfl)
theorem dX1_lambda_closure_0_8 : decode cX1_lambda_closure_0 8 = .ok (.if_icmp .ge 13, 3) := dk_162 0 13 (dk_at dksX1_lambda_closure_0_0 8 rfl rfl)
theorem dX1_lambda_closure_0_11 : decode cX1_lambda_closure_0 11 = .ok (.iload_n 2, 1) := dk_28 (dk_at dksX1_lambda_closure_0_0 11 rfl rfl)
theorem dX1_lambda_closure_0_12 : decode cX1_lambda_closure_0 12 = .ok (.iload 5, 2) := dk_21 5 (dk_at dksX1_lambda_closure_0_0 12 rfl rfl)
theorem dX1_lambda_closure_0_14 : decode cX1_lambda_closure_0 14 = .ok (.if_icmp .ge 7, 3) := dk_162 0 7 (dk_at dksX1_lambda_closure_0_0 14 rfl rfl)
theorem dX1_lambda_closure_0_17 : decode cX1_lambda_closure_0 17 = .ok (.iconst 1, 1) := dk_4 (dk_at dksX1_lambda_closure_0_0 17 rfl rfl)
theorem dX1_lambda_closure_0_18 : decode cX1_lambda_closure_0 18 = .ok (.goto 4, 3) := dk_167 0 4 (dk_at dksX1_lambda_closure_0_0 18 rfl rfl)
theorem dX1_lambda_closure_0_21 : decode cX1_lambda_closure_0 21 = .ok (.iconst 0, 1) := dk_3 (dk_at dksX1_lambda_closure_0_0 21 rfl rfl)
theorem dX1_lambda_closure_0_22 : decode cX1_lambda_closure_0 22 = .ok (.ireturn, 1) := dk_172 (dk_at dksX1_lambda_closure_0_0 22 rfl rfl)
abbrev cX1_now : ByteArray := prog_1_method_64_code
def yX1_now : MethodName := ⟨RX1, "now", "()I"⟩
def dkwX1_now_0 : List UInt8 := [42, 180, 0, 25, 180, 1, 16, 172]
abbrev dktX1_now_0 : List UInt8 := dkwX1_now_0 ++ []
theorem dksX1_now_0 : cX1_now.data.toList.drop 0 = dktX1_now_0 := by decide +kernel
theorem dX1_now_0 : decode cX1_now 0 = .ok (.aload_n 0, 1) := dk_42 (dk_at dksX1_now_0 0 rfl rfl)
theorem dX1_now_1 : decode cX1_now 1 = .ok (.getfield 25, 3) := dk_180 0 25 (dk_at dksX1_now_0 1 rfl rfl)
theorem dX1_now_4 : decode cX1_now 4 = .ok (.getfield 272, 3) := dk_180 1 16 (dk_at dksX1_now_0 4 rfl rfl)
theorem dX1_now_7 : decode cX1_now 7 = .ok (.ireturn, 1) := dk_172 (dk_at dksX1_now_0 7 rfl rfl)
abbrev cX1_bookingCount : ByteArray := prog_1_method_65_code
def yX1_bookingCount : MethodName := ⟨RX1, "bookingCount", "()I"⟩
def dkwX1_bookingCount_0 : List UInt8 := [42, 180, 0, 25, 180, 0, 160, 185, 0, 136, 1, 0, 172]
abbrev dktX1_bookingCount_0 : List UInt8 := dkwX1_bookingCount_0 ++ []
theorem dksX1_bookingCount_0 : cX1_bookingCount.data.toList.drop 0 = dktX1_bookingCount_0 := by decide +kernel
theorem dX1_bookingCount_0 : decode cX1_bookingCount 0 = .ok (.aload_n 0, 1) := dk_42 (dk_at dksX1_bookingCount_0 0 rfl rfl)
theorem dX1_bookingCount_1 : decode cX1_bookingCount 1 = .ok (.getfield 25, 3) := dk_180 0 25 (dk_at dksX1_bookingCount_0 1 rfl rfl)
theorem dX1_bookingCount_4 : decode cX1_bookingCount 4 = .ok (.getfield 160, 3) := dk_180 0 160 (dk_at dksX1_bookingCount_0 4 rfl rfl)
theorem dX1_bookingCount_7 : decode cX1_bookingCount 7 = .ok (.invokeinterface 136 1, 5) := by decide +kernel
theorem dX1_bookingCount_12 : decode cX1_bookingCount 12 = .ok (.ireturn, 1) := dk_172 (dk_at dksX1_bookingCount_0 12 rfl rfl)
abbrev cX1_requestCount : ByteArray := prog_1_method_68_code
def yX1_requestCount : MethodName := ⟨RX1, "requestCount", "()I"⟩
def dkwX1_requestCount_0 : List UInt8 := [42, 180, 0, 25, 180, 1, 133, 185, 0, 136, 1, 0, 172]
abbrev dktX1_requestCount_0 : List UInt8 := dkwX1_requestCount_0 ++ []
theorem dksX1_requestCount_0 : cX1_requestCount.data.toList.drop 0 = dktX1_requestCount_0 := by decide +kernel
theorem dX1_requestCount_0 : decode cX1_requestCount 0 = .ok (.aload_n 0, 1) := dk_42 (dk_at dksX1_requestCount_0 0 rfl rfl)
theorem dX1_requestCount_1 : decode cX1_requestCount 1 = .ok (.getfield 25, 3) := dk_180 0 25 (dk_at dksX1_requestCount_0 1 rfl rfl)
theorem dX1_requestCount_4 : decode cX1_requestCount 4 = .ok (.getfield 389, 3) := dk_180 1 133 (dk_at dksX1_requestCount_0 4 rfl rfl)
theorem dX1_requestCount_7 : decode cX1_requestCount 7 = .ok (.invokeinterface 136 1, 5) := by decide +kernel
theorem dX1_requestCount_12 : decode cX1_requestCount 12 = .ok (.ireturn, 1) := dk_172 (dk_at dksX1_requestCount_0 12 rfl rfl)
abbrev cX1_revenue : ByteArray := prog_1_method_70_code
def yX1_revenue : MethodName := ⟨RX1, "revenue", "()I"⟩
def dkwX1_revenue_2 : List UInt8 := [182, 0, 204, 180, 1, 127, 96, 60, 132, 2, 1, 167, 255, 204, 27, 172]
abbrev dktX1_revenue_2 : List UInt8 := dkwX1_revenue_2 ++ []
def dkwX1_revenue_1 : List UInt8 := [182, 0, 204, 180, 1, 36, 153, 0, 14, 42, 28, 182, 0, 204, 180, 1, 2, 167, 0, 11, 42, 28]
abbrev dktX1_revenue_1 : List UInt8 := dkwX1_revenue_1 ++ dktX1_revenue_2
def dkwX1_revenue_0 : List UInt8 := [3, 60, 3, 61, 28, 42, 180, 0, 25, 180, 0, 160, 185, 0, 136, 1, 0, 162, 0, 42, 27, 42, 28]
abbrev dktX1_revenue_0 : List UInt8 := dkwX1_revenue_0 ++ dktX1_revenue_1
theorem dksX1_revenue_0 : cX1_revenue.data.toList.drop 0 = dktX1_revenue_0 := by decide +kernel
theorem dksX1_revenue_1 : cX1_revenue.data.toList.drop 23 = dktX1_revenue_1 := dk_seg dksX1_revenue_0 23 rfl rfl
theorem dksX1_revenue_2 : cX1_revenue.data.toList.drop 45 = dktX1_revenue_2 := dk_seg dksX1_revenue_1 22 rfl rfl
theorem dX1_revenue_0 : decode cX1_revenue 0 = .ok (.iconst 0, 1) := dk_3 (dk_at dksX1_revenue_0 0 rfl rfl)
theorem dX1_revenue_1 : decode cX1_revenue 1 = .ok (.istore_n 1, 1) := dk_60 (dk_at dksX1_revenue_0 1 rfl rfl)
theorem dX1_revenue_2 : decode cX1_revenue 2 = .ok (.iconst 0, 1) := dk_3 (dk_at dksX1_revenue_0 2 rfl rfl)
theorem dX1_revenue_3 : decode cX1_revenue 3 = .ok (.istore_n 2, 1) := dk_61 (dk_at dksX1_revenue_0 3 rfl rfl)
theorem dX1_revenue_4 : decode cX1_revenue 4 = .ok (.iload_n 2, 1) := dk_28 (dk_at dksX1_revenue_0 4 rfl rfl)
theorem dX1_revenue_5 : decode cX1_revenue 5 = .ok (.aload_n 0, 1) := dk_42 (dk_at dksX1_revenue_0 5 rfl rfl)
theorem dX1_revenue_6 : decode cX1_revenue 6 = .ok (.getfield 25, 3) := dk_180 0 25 (dk_at dksX1_revenue_0 6 rfl rfl)
theorem dX1_revenue_9 : decode cX1_revenue 9 = .ok (.getfield 160, 3) := dk_180 0 160 (dk_at dksX1_revenue_0 9 rfl rfl)
theorem dX1_revenue_12 : decode cX1_revenue 12 = .ok (.invokeinterface 136 1, 5) := by decide +kernel
theorem dX1_revenue_17 : decode cX1_revenue 17 = .ok (.if_icmp .ge 42, 3) := dk_162 0 42 (dk_at dksX1_revenue_0 17 rfl rfl)
theorem dX1_revenue_20 : decode cX1_revenue 20 = .ok (.iload_n 1, 1) := dk_27 (dk_at dksX1_revenue_0 20 rfl rfl)
theorem dX1_revenue_21 : decode cX1_revenue 21 = .ok (.aload_n 0, 1) := dk_42 (dk_at dksX1_revenue_0 21 rfl rfl)
theorem dX1_revenue_22 : decode cX1_revenue 22 = .ok (.iload_n 2, 1) := dk_28 (dk_at dksX1_revenue_0 22 rfl rfl)
theorem dX1_revenue_23 : decode cX1_revenue 23 = .ok (.invokevirtual 204, 3) := dk_182 0 204 (dk_at dksX1_revenue_1 0 rfl rfl)
theorem dX1_revenue_26 : decode cX1_revenue 26 = .ok (.getfield 292, 3) := dk_180 1 36 (dk_at dksX1_revenue_1 3 rfl rfl)
theorem dX1_revenue_29 : decode cX1_revenue 29 = .ok (.ifCond .eq 14, 3) := dk_153 0 14 (dk_at dksX1_revenue_1 6 rfl rfl)
theorem dX1_revenue_32 : decode cX1_revenue 32 = .ok (.aload_n 0, 1) := dk_42 (dk_at dksX1_revenue_1 9 rfl rfl)
theorem dX1_revenue_33 : decode cX1_revenue 33 = .ok (.iload_n 2, 1) := dk_28 (dk_at dksX1_revenue_1 10 rfl rfl)
theorem dX1_revenue_34 : decode cX1_revenue 34 = .ok (.invokevirtual 204, 3) := dk_182 0 204 (dk_at dksX1_revenue_1 11 rfl rfl)
theorem dX1_revenue_37 : decode cX1_revenue 37 = .ok (.getfield 258, 3) := dk_180 1 2 (dk_at dksX1_revenue_1 14 rfl rfl)
theorem dX1_revenue_40 : decode cX1_revenue 40 = .ok (.goto 11, 3) := dk_167 0 11 (dk_at dksX1_revenue_1 17 rfl rfl)
theorem dX1_revenue_43 : decode cX1_revenue 43 = .ok (.aload_n 0, 1) := dk_42 (dk_at dksX1_revenue_1 20 rfl rfl)
theorem dX1_revenue_44 : decode cX1_revenue 44 = .ok (.iload_n 2, 1) := dk_28 (dk_at dksX1_revenue_1 21 rfl rfl)
theorem dX1_revenue_45 : decode cX1_revenue 45 = .ok (.invokevirtual 204, 3) := dk_182 0 204 (dk_at dksX1_revenue_2 0 rfl rfl)
theorem dX1_revenue_48 : decode cX1_revenue 48 = .ok (.getfield 383, 3) := dk_180 1 127 (dk_at dksX1_revenue_2 3 rfl rfl)
theorem dX1_revenue_51 : decode cX1_revenue 51 = .ok (.iadd, 1) := dk_96 (dk_at dksX1_revenue_2 6 rfl rfl)
theorem dX1_revenue_52 : decode cX1_revenue 52 = .ok (.istore_n 1, 1) := dk_60 (dk_at dksX1_revenue_2 7 rfl rfl)
theorem dX1_revenue_53 : decode cX1_revenue 53 = .ok (.iinc 2 1, 3) := dk_132 2 1 (dk_at dksX1_revenue_2 8 rfl rfl)
theorem dX1_revenue_56 : decode cX1_revenue 56 = .ok (.goto (-52), 3) := dk_167 255 204 (dk_at dksX1_revenue_2 11 rfl rfl)
theorem dX1_revenue_59 : decode cX1_revenue 59 = .ok (.iload_n 1, 1) := dk_27 (dk_at dksX1_revenue_2 14 rfl rfl)
theorem dX1_revenue_60 : decode cX1_revenue 60 = .ok (.ireturn, 1) := dk_172 (dk_at dksX1_revenue_2 15 rfl rfl)
abbrev cX1_undoCount : ByteArray := prog_1_method_87_code
def yX1_undoCount : MethodName := ⟨RX1, "undoCount", "()I"⟩
def dkwX1_undoCount_0 : List UInt8 := [42, 180, 0, 39, 182, 0, 142, 172]
abbrev dktX1_undoCount_0 : List UInt8 := dkwX1_undoCount_0 ++ []
theorem dksX1_undoCount_0 : cX1_undoCount.data.toList.drop 0 = dktX1_undoCount_0 := by decide +kernel
theorem dX1_undoCount_0 : decode cX1_undoCount 0 = .ok (.aload_n 0, 1) := dk_42 (dk_at dksX1_undoCount_0 0 rfl rfl)
theorem dX1_undoCount_1 : decode cX1_undoCount 1 = .ok (.getfield 39, 3) := dk_180 0 39 (dk_at dksX1_undoCount_0 1 rfl rfl)
theorem dX1_undoCount_4 : decode cX1_undoCount 4 = .ok (.invokevirtual 142, 3) := dk_182 0 142 (dk_at dksX1_undoCount_0 4 rfl rfl)
theorem dX1_undoCount_7 : decode cX1_undoCount 7 = .ok (.ireturn, 1) := dk_172 (dk_at dksX1_undoCount_0 7 rfl rfl)
abbrev cX1_save : ByteArray := prog_1_method_88_code
def yX1_save : MethodName := ⟨RX1, "save", "()I"⟩
def dkwX1_save_0 : List UInt8 := [42, 187, 0, 20, 89, 42, 180, 0, 25, 183, 0, 147, 181, 0, 126, 42, 180, 0, 25, 180, 1, 16, 172]
abbrev dktX1_save_0 : List UInt8 := dkwX1_save_0 ++ []
theorem dksX1_save_0 : cX1_save.data.toList.drop 0 = dktX1_save_0 := by decide +kernel
theorem dX1_save_0 : decode cX1_save 0 = .ok (.aload_n 0, 1) := dk_42 (dk_at dksX1_save_0 0 rfl rfl)
theorem dX1_save_1 : decode cX1_save 1 = .ok (.new 20, 3) := dk_187 0 20 (dk_at dksX1_save_0 1 rfl rfl)
theorem dX1_save_4 : decode cX1_save 4 = .ok (.dup, 1) := dk_89 (dk_at dksX1_save_0 4 rfl rfl)
theorem dX1_save_5 : decode cX1_save 5 = .ok (.aload_n 0, 1) := dk_42 (dk_at dksX1_save_0 5 rfl rfl)
theorem dX1_save_6 : decode cX1_save 6 = .ok (.getfield 25, 3) := dk_180 0 25 (dk_at dksX1_save_0 6 rfl rfl)
theorem dX1_save_9 : decode cX1_save 9 = .ok (.invokespecial 147, 3) := dk_183 0 147 (dk_at dksX1_save_0 9 rfl rfl)
theorem dX1_save_12 : decode cX1_save 12 = .ok (.putfield 126, 3) := dk_181 0 126 (dk_at dksX1_save_0 12 rfl rfl)
theorem dX1_save_15 : decode cX1_save 15 = .ok (.aload_n 0, 1) := dk_42 (dk_at dksX1_save_0 15 rfl rfl)
theorem dX1_save_16 : decode cX1_save 16 = .ok (.getfield 25, 3) := dk_180 0 25 (dk_at dksX1_save_0 16 rfl rfl)
theorem dX1_save_19 : decode cX1_save 19 = .ok (.getfield 272, 3) := dk_180 1 16 (dk_at dksX1_save_0 19 rfl rfl)
theorem dX1_save_22 : decode cX1_save 22 = .ok (.ireturn, 1) := dk_172 (dk_at dksX1_save_0 22 rfl rfl)
abbrev cX1_append : ByteArray := prog_1_method_8_code
def yX1_append : MethodName := ⟨RX1, "append", "(IIIII)I"⟩
def dkwX1_append_6 : List UInt8 := [180, 0, 90, 172]
abbrev dktX1_append_6 : List UInt8 := dkwX1_append_6 ++ []
def dkwX1_append_5 : List UInt8 := [21, 8, 184, 0, 86, 145, 84, 42, 89, 180, 0, 90, 4, 96, 181, 0, 90, 132, 8, 1, 167, 255, 209, 42]
abbrev dktX1_append_5 : List UInt8 := dkwX1_append_5 ++ dktX1_append_6
def dkwX1_append_4 : List UInt8 := [162, 0, 46, 25, 6, 21, 8, 184, 0, 86, 153, 0, 30, 42, 180, 0, 9, 42, 180, 0, 90, 25, 6]
abbrev dktX1_append_4 : List UInt8 := dkwX1_append_4 ++ dktX1_append_5
def dkwX1_append_3 : List UInt8 := [21, 7, 96, 17, 3, 32, 163, 0, 7, 4, 167, 0, 4, 3, 184, 0, 94, 3, 54, 8, 21, 8, 16, 20]
abbrev dktX1_append_3 : List UInt8 := dkwX1_append_3 ++ dktX1_append_4
def dkwX1_append_2 : List UInt8 := [184, 0, 86, 154, 0, 7, 3, 167, 0, 4, 4, 96, 54, 7, 132, 8, 1, 167, 255, 226, 42, 180, 0, 90]
abbrev dktX1_append_2 : List UInt8 := dkwX1_append_2 ++ dktX1_append_3
def dkwX1_append_1 : List UInt8 := [79, 58, 6, 3, 54, 7, 3, 54, 8, 21, 8, 16, 20, 162, 0, 29, 21, 7, 25, 6, 21, 8]
abbrev dktX1_append_1 : List UInt8 := dkwX1_append_1 ++ dktX1_append_2
def dkwX1_append_0 : List UInt8 := [8, 188, 10, 89, 3, 27, 79, 89, 4, 28, 79, 89, 5, 29, 79, 89, 6, 21, 4, 79, 89, 7, 21, 5]
abbrev dktX1_append_0 : List UInt8 := dkwX1_append_0 ++ dktX1_append_1
theorem dksX1_append_0 : cX1_append.data.toList.drop 0 = dktX1_append_0 := by decide +kernel
theorem dksX1_append_1 : cX1_append.data.toList.drop 24 = dktX1_append_1 := dk_seg dksX1_append_0 24 rfl rfl
theorem dksX1_append_2 : cX1_append.data.toList.drop 46 = dktX1_append_2 := dk_seg dksX1_append_1 22 rfl rfl
theorem dksX1_append_3 : cX1_append.data.toList.drop 70 = dktX1_append_3 := dk_seg dksX1_append_2 24 rfl rfl
theorem dksX1_append_4 : cX1_append.data.toList.drop 94 = dktX1_append_4 := dk_seg dksX1_append_3 24 rfl rfl
theorem dksX1_append_5 : cX1_append.data.toList.drop 117 = dktX1_append_5 := dk_seg dksX1_append_4 23 rfl rfl
theorem dksX1_append_6 : cX1_append.data.toList.drop 141 = dktX1_append_6 := dk_seg dksX1_append_5 24 rfl rfl
theorem dX1_append_0 : decode cX1_append 0 = .ok (.iconst 5, 1) := dk_8 (dk_at dksX1_append_0 0 rfl rfl)
theorem dX1_append_1 : decode cX1_append 1 = .ok (.newarray .int, 2) := dk_188_10 (dk_at dksX1_append_0 1 rfl rfl)
theorem dX1_append_3 : decode cX1_append 3 = .ok (.dup, 1) := dk_89 (dk_at dksX1_append_0 3 rfl rfl)
theorem dX1_append_4 : decode cX1_append 4 = .ok (.iconst 0, 1) := dk_3 (dk_at dksX1_append_0 4 rfl rfl)
theorem dX1_append_5 : decode cX1_append 5 = .ok (.iload_n 1, 1) := dk_27 (dk_at dksX1_append_0 5 rfl rfl)
theorem dX1_append_6 : decode cX1_append 6 = .ok (.iastore, 1) := dk_79 (dk_at dksX1_append_0 6 rfl rfl)
theorem dX1_append_7 : decode cX1_append 7 = .ok (.dup, 1) := dk_89 (dk_at dksX1_append_0 7 rfl rfl)
theorem dX1_append_8 : decode cX1_append 8 = .ok (.iconst 1, 1) := dk_4 (dk_at dksX1_append_0 8 rfl rfl)
theorem dX1_append_9 : decode cX1_append 9 = .ok (.iload_n 2, 1) := dk_28 (dk_at dksX1_append_0 9 rfl rfl)
theorem dX1_append_10 : decode cX1_append 10 = .ok (.iastore, 1) := dk_79 (dk_at dksX1_append_0 10 rfl rfl)
theorem dX1_append_11 : decode cX1_append 11 = .ok (.dup, 1) := dk_89 (dk_at dksX1_append_0 11 rfl rfl)
theorem dX1_append_12 : decode cX1_append 12 = .ok (.iconst 2, 1) := dk_5 (dk_at dksX1_append_0 12 rfl rfl)
theorem dX1_append_13 : decode cX1_append 13 = .ok (.iload_n 3, 1) := dk_29 (dk_at dksX1_append_0 13 rfl rfl)
theorem dX1_append_14 : decode cX1_append 14 = .ok (.iastore, 1) := dk_79 (dk_at dksX1_append_0 14 rfl rfl)
theorem dX1_append_15 : decode cX1_append 15 = .ok (.dup, 1) := dk_89 (dk_at dksX1_append_0 15 rfl rfl)
theorem dX1_append_16 : decode cX1_append 16 = .ok (.iconst 3, 1) := dk_6 (dk_at dksX1_append_0 16 rfl rfl)
theorem dX1_append_17 : decode cX1_append 17 = .ok (.iload 4, 2) := dk_21 4 (dk_at dksX1_append_0 17 rfl rfl)
theorem dX1_append_19 : decode cX1_append 19 = .ok (.iastore, 1) := dk_79 (dk_at dksX1_append_0 19 rfl rfl)
theorem dX1_append_20 : decode cX1_append 20 = .ok (.dup, 1) := dk_89 (dk_at dksX1_append_0 20 rfl rfl)
theorem dX1_append_21 : decode cX1_append 21 = .ok (.iconst 4, 1) := dk_7 (dk_at dksX1_append_0 21 rfl rfl)
theorem dX1_append_22 : decode cX1_append 22 = .ok (.iload 5, 2) := dk_21 5 (dk_at dksX1_append_0 22 rfl rfl)
theorem dX1_append_24 : decode cX1_append 24 = .ok (.iastore, 1) := dk_79 (dk_at dksX1_append_1 0 rfl rfl)
theorem dX1_append_25 : decode cX1_append 25 = .ok (.astore 6, 2) := dk_58 6 (dk_at dksX1_append_1 1 rfl rfl)
theorem dX1_append_27 : decode cX1_append 27 = .ok (.iconst 0, 1) := dk_3 (dk_at dksX1_append_1 3 rfl rfl)
theorem dX1_append_28 : decode cX1_append 28 = .ok (.istore 7, 2) := dk_54 7 (dk_at dksX1_append_1 4 rfl rfl)
theorem dX1_append_30 : decode cX1_append 30 = .ok (.iconst 0, 1) := dk_3 (dk_at dksX1_append_1 6 rfl rfl)
theorem dX1_append_31 : decode cX1_append 31 = .ok (.istore 8, 2) := dk_54 8 (dk_at dksX1_append_1 7 rfl rfl)
theorem dX1_append_33 : decode cX1_append 33 = .ok (.iload 8, 2) := dk_21 8 (dk_at dksX1_append_1 9 rfl rfl)
theorem dX1_append_35 : decode cX1_append 35 = .ok (.bipush 20, 2) := dk_16 20 (dk_at dksX1_append_1 11 rfl rfl)
theorem dX1_append_37 : decode cX1_append 37 = .ok (.if_icmp .ge 29, 3) := dk_162 0 29 (dk_at dksX1_append_1 13 rfl rfl)
theorem dX1_append_40 : decode cX1_append 40 = .ok (.iload 7, 2) := dk_21 7 (dk_at dksX1_append_1 16 rfl rfl)
theorem dX1_append_42 : decode cX1_append 42 = .ok (.aload 6, 2) := dk_25 6 (dk_at dksX1_append_1 18 rfl rfl)
theorem dX1_append_44 : decode cX1_append 44 = .ok (.iload 8, 2) := dk_21 8 (dk_at dksX1_append_1 20 rfl rfl)
theorem dX1_append_46 : decode cX1_append 46 = .ok (.invokestatic 86, 3) := dk_184 0 86 (dk_at dksX1_append_2 0 rfl rfl)
theorem dX1_append_49 : decode cX1_append 49 = .ok (.ifCond .ne 7, 3) := dk_154 0 7 (dk_at dksX1_append_2 3 rfl rfl)
theorem dX1_append_52 : decode cX1_append 52 = .ok (.iconst 0, 1) := dk_3 (dk_at dksX1_append_2 6 rfl rfl)
theorem dX1_append_53 : decode cX1_append 53 = .ok (.goto 4, 3) := dk_167 0 4 (dk_at dksX1_append_2 7 rfl rfl)
theorem dX1_append_56 : decode cX1_append 56 = .ok (.iconst 1, 1) := dk_4 (dk_at dksX1_append_2 10 rfl rfl)
theorem dX1_append_57 : decode cX1_append 57 = .ok (.iadd, 1) := dk_96 (dk_at dksX1_append_2 11 rfl rfl)
theorem dX1_append_58 : decode cX1_append 58 = .ok (.istore 7, 2) := dk_54 7 (dk_at dksX1_append_2 12 rfl rfl)
theorem dX1_append_60 : decode cX1_append 60 = .ok (.iinc 8 1, 3) := dk_132 8 1 (dk_at dksX1_append_2 14 rfl rfl)
theorem dX1_append_63 : decode cX1_append 63 = .ok (.goto (-30), 3) := dk_167 255 226 (dk_at dksX1_append_2 17 rfl rfl)
theorem dX1_append_66 : decode cX1_append 66 = .ok (.aload_n 0, 1) := dk_42 (dk_at dksX1_append_2 20 rfl rfl)
theorem dX1_append_67 : decode cX1_append 67 = .ok (.getfield 90, 3) := dk_180 0 90 (dk_at dksX1_append_2 21 rfl rfl)
theorem dX1_append_70 : decode cX1_append 70 = .ok (.iload 7, 2) := dk_21 7 (dk_at dksX1_append_3 0 rfl rfl)
theorem dX1_append_72 : decode cX1_append 72 = .ok (.iadd, 1) := dk_96 (dk_at dksX1_append_3 2 rfl rfl)
theorem dX1_append_73 : decode cX1_append 73 = .ok (.sipush 800, 3) := dk_17 3 32 (dk_at dksX1_append_3 3 rfl rfl)
theorem dX1_append_76 : decode cX1_append 76 = .ok (.if_icmp .gt 7, 3) := dk_163 0 7 (dk_at dksX1_append_3 6 rfl rfl)
theorem dX1_append_79 : decode cX1_append 79 = .ok (.iconst 1, 1) := dk_4 (dk_at dksX1_append_3 9 rfl rfl)
theorem dX1_append_80 : decode cX1_append 80 = .ok (.goto 4, 3) := dk_167 0 4 (dk_at dksX1_append_3 10 rfl rfl)
theorem dX1_append_83 : decode cX1_append 83 = .ok (.iconst 0, 1) := dk_3 (dk_at dksX1_append_3 13 rfl rfl)
theorem dX1_append_84 : decode cX1_append 84 = .ok (.invokestatic 94, 3) := dk_184 0 94 (dk_at dksX1_append_3 14 rfl rfl)
theorem dX1_append_87 : decode cX1_append 87 = .ok (.iconst 0, 1) := dk_3 (dk_at dksX1_append_3 17 rfl rfl)
theorem dX1_append_88 : decode cX1_append 88 = .ok (.istore 8, 2) := dk_54 8 (dk_at dksX1_append_3 18 rfl rfl)
theorem dX1_append_90 : decode cX1_append 90 = .ok (.iload 8, 2) := dk_21 8 (dk_at dksX1_append_3 20 rfl rfl)
theorem dX1_append_92 : decode cX1_append 92 = .ok (.bipush 20, 2) := dk_16 20 (dk_at dksX1_append_3 22 rfl rfl)
theorem dX1_append_94 : decode cX1_append 94 = .ok (.if_icmp .ge 46, 3) := dk_162 0 46 (dk_at dksX1_append_4 0 rfl rfl)
theorem dX1_append_97 : decode cX1_append 97 = .ok (.aload 6, 2) := dk_25 6 (dk_at dksX1_append_4 3 rfl rfl)
theorem dX1_append_99 : decode cX1_append 99 = .ok (.iload 8, 2) := dk_21 8 (dk_at dksX1_append_4 5 rfl rfl)
theorem dX1_append_101 : decode cX1_append 101 = .ok (.invokestatic 86, 3) := dk_184 0 86 (dk_at dksX1_append_4 7 rfl rfl)
theorem dX1_append_104 : decode cX1_append 104 = .ok (.ifCond .eq 30, 3) := dk_153 0 30 (dk_at dksX1_append_4 10 rfl rfl)
theorem dX1_append_107 : decode cX1_append 107 = .ok (.aload_n 0, 1) := dk_42 (dk_at dksX1_append_4 13 rfl rfl)
theorem dX1_append_108 : decode cX1_append 108 = .ok (.getfield 9, 3) := dk_180 0 9 (dk_at dksX1_append_4 14 rfl rfl)
theorem dX1_append_111 : decode cX1_append 111 = .ok (.aload_n 0, 1) := dk_42 (dk_at dksX1_append_4 17 rfl rfl)
theorem dX1_append_112 : decode cX1_append 112 = .ok (.getfield 90, 3) := dk_180 0 90 (dk_at dksX1_append_4 18 rfl rfl)
theorem dX1_append_115 : decode cX1_append 115 = .ok (.aload 6, 2) := dk_25 6 (dk_at dksX1_append_4 21 rfl rfl)
theorem dX1_append_117 : decode cX1_append 117 = .ok (.iload 8, 2) := dk_21 8 (dk_at dksX1_append_5 0 rfl rfl)
theorem dX1_append_119 : decode cX1_append 119 = .ok (.invokestatic 86, 3) := dk_184 0 86 (dk_at dksX1_append_5 2 rfl rfl)
theorem dX1_append_122 : decode cX1_append 122 = .ok (.i2b, 1) := dk_145 (dk_at dksX1_append_5 5 rfl rfl)
theorem dX1_append_123 : decode cX1_append 123 = .ok (.bastore, 1) := dk_84 (dk_at dksX1_append_5 6 rfl rfl)
theorem dX1_append_124 : decode cX1_append 124 = .ok (.aload_n 0, 1) := dk_42 (dk_at dksX1_append_5 7 rfl rfl)
theorem dX1_append_125 : decode cX1_append 125 = .ok (.dup, 1) := dk_89 (dk_at dksX1_append_5 8 rfl rfl)
theorem dX1_append_126 : decode cX1_append 126 = .ok (.getfield 90, 3) := dk_180 0 90 (dk_at dksX1_append_5 9 rfl rfl)
theorem dX1_append_129 : decode cX1_append 129 = .ok (.iconst 1, 1) := dk_4 (dk_at dksX1_append_5 12 rfl rfl)
theorem dX1_append_130 : decode cX1_append 130 = .ok (.iadd, 1) := dk_96 (dk_at dksX1_append_5 13 rfl rfl)
theorem dX1_append_131 : decode cX1_append 131 = .ok (.putfield 90, 3) := dk_181 0 90 (dk_at dksX1_append_5 14 rfl rfl)
theorem dX1_append_134 : decode cX1_append 134 = .ok (.iinc 8 1, 3) := dk_132 8 1 (dk_at dksX1_append_5 17 rfl rfl)
theorem dX1_append_137 : decode cX1_append 137 = .ok (.goto (-47), 3) := dk_167 255 209 (dk_at dksX1_append_5 20 rfl rfl)
theorem dX1_append_140 : decode cX1_append 140 = .ok (.aload_n 0, 1) := dk_42 (dk_at dksX1_append_5 23 rfl rfl)
theorem dX1_append_141 : decode cX1_append 141 = .ok (.getfield 90, 3) := dk_180 0 90 (dk_at dksX1_append_6 0 rfl rfl)
theorem dX1_append_144 : decode cX1_append 144 = .ok (.ireturn, 1) := dk_172 (dk_at dksX1_append_6 3 rfl rfl)
abbrev cX1_byteOf : ByteArray := prog_1_method_7_code
def yX1_byteOf : MethodName := ⟨RX1, "byteOf", "([II)I"⟩
def dkwX1_byteOf_0 : List UInt8 := [42, 27, 7, 108, 46, 16, 24, 16, 8, 27, 7, 112, 104, 100, 124, 17, 0, 255, 126, 172]
abbrev dktX1_byteOf_0 : List UInt8 := dkwX1_byteOf_0 ++ []
theorem dksX1_byteOf_0 : cX1_byteOf.data.toList.drop 0 = dktX1_byteOf_0 := by decide +kernel
theorem dX1_byteOf_0 : decode cX1_byteOf 0 = .ok (.aload_n 0, 1) := dk_42 (dk_at dksX1_byteOf_0 0 rfl rfl)
theorem dX1_byteOf_1 : decode cX1_byteOf 1 = .ok (.iload_n 1, 1) := dk_27 (dk_at dksX1_byteOf_0 1 rfl rfl)
theorem dX1_byteOf_2 : decode cX1_byteOf 2 = .ok (.iconst 4, 1) := dk_7 (dk_at dksX1_byteOf_0 2 rfl rfl)
theorem dX1_byteOf_3 : decode cX1_byteOf 3 = .ok (.idiv, 1) := dk_108 (dk_at dksX1_byteOf_0 3 rfl rfl)
theorem dX1_byteOf_4 : decode cX1_byteOf 4 = .ok (.iaload, 1) := dk_46 (dk_at dksX1_byteOf_0 4 rfl rfl)
theorem dX1_byteOf_5 : decode cX1_byteOf 5 = .ok (.bipush 24, 2) := dk_16 24 (dk_at dksX1_byteOf_0 5 rfl rfl)
theorem dX1_byteOf_7 : decode cX1_byteOf 7 = .ok (.bipush 8, 2) := dk_16 8 (dk_at dksX1_byteOf_0 7 rfl rfl)
theorem dX1_byteOf_9 : decode cX1_byteOf 9 = .ok (.iload_n 1, 1) := dk_27 (dk_at dksX1_byteOf_0 9 rfl rfl)
theorem dX1_byteOf_10 : decode cX1_byteOf 10 = .ok (.iconst 4, 1) := dk_7 (dk_at dksX1_byteOf_0 10 rfl rfl)
theorem dX1_byteOf_11 : decode cX1_byteOf 11 = .ok (.irem, 1) := dk_112 (dk_at dksX1_byteOf_0 11 rfl rfl)
theorem dX1_byteOf_12 : decode cX1_byteOf 12 = .ok (.imul, 1) := dk_104 (dk_at dksX1_byteOf_0 12 rfl rfl)
theorem dX1_byteOf_13 : decode cX1_byteOf 13 = .ok (.isub, 1) := dk_100 (dk_at dksX1_byteOf_0 13 rfl rfl)
theorem dX1_byteOf_14 : decode cX1_byteOf 14 = .ok (.iushr, 1) := dk_124 (dk_at dksX1_byteOf_0 14 rfl rfl)
theorem dX1_byteOf_15 : decode cX1_byteOf 15 = .ok (.sipush 255, 3) := dk_17 0 255 (dk_at dksX1_byteOf_0 15 rfl rfl)
theorem dX1_byteOf_18 : decode cX1_byteOf 18 = .ok (.iand, 1) := dk_126 (dk_at dksX1_byteOf_0 18 rfl rfl)
theorem dX1_byteOf_19 : decode cX1_byteOf 19 = .ok (.ireturn, 1) := dk_172 (dk_at dksX1_byteOf_0 19 rfl rfl)
abbrev cX1_needState : ByteArray := prog_1_method_3_code
def yX1_needState : MethodName := ⟨RX1, "needState", "(Z)V"⟩
def dkwX1_needState_0 : List UInt8 := [26, 154, 0, 11, 187, 0, 74, 89, 183, 0, 76, 191, 177]
abbrev dktX1_needState_0 : List UInt8 := dkwX1_needState_0 ++ []
theorem dksX1_needState_0 : cX1_needState.data.toList.drop 0 = dktX1_needState_0 := by decide +kernel
theorem dX1_needState_0 : decode cX1_needState 0 = .ok (.iload_n 0, 1) := dk_26 (dk_at dksX1_needState_0 0 rfl rfl)
theorem dX1_needState_1 : decode cX1_needState 1 = .ok (.ifCond .ne 11, 3) := dk_154 0 11 (dk_at dksX1_needState_0 1 rfl rfl)
theorem dX1_needState_4 : decode cX1_needState 4 = .ok (.new 74, 3) := dk_187 0 74 (dk_at dksX1_needState_0 4 rfl rfl)
theorem dX1_needState_7 : decode cX1_needState 7 = .ok (.dup, 1) := dk_89 (dk_at dksX1_needState_0 7 rfl rfl)
theorem dX1_needState_8 : decode cX1_needState 8 = .ok (.invokespecial 76, 3) := dk_183 0 76 (dk_at dksX1_needState_0 8 rfl rfl)
theorem dX1_needState_11 : decode cX1_needState 11 = .ok (.athrow, 1) := dk_191 (dk_at dksX1_needState_0 11 rfl rfl)
theorem dX1_needState_12 : decode cX1_needState 12 = .ok (.return_, 1) := dk_177 (dk_at dksX1_needState_0 12 rfl rfl)
abbrev cX1_truncate : ByteArray := prog_1_method_9_code
def yX1_truncate : MethodName := ⟨RX1, "truncate", "(I)I"⟩
def dkwX1_truncate_0 : List UInt8 := [27, 3, 42, 180, 0, 90, 184, 0, 98, 184, 0, 102, 42, 27, 181, 0, 90, 27, 172]
abbrev dktX1_truncate_0 : List UInt8 := dkwX1_truncate_0 ++ []
theorem dksX1_truncate_0 : cX1_truncate.data.toList.drop 0 = dktX1_truncate_0 := by decide +kernel
theorem dX1_truncate_0 : decode cX1_truncate 0 = .ok (.iload_n 1, 1) := dk_27 (dk_at dksX1_truncate_0 0 rfl rfl)
theorem dX1_truncate_1 : decode cX1_truncate 1 = .ok (.iconst 0, 1) := dk_3 (dk_at dksX1_truncate_0 1 rfl rfl)
theorem dX1_truncate_2 : decode cX1_truncate 2 = .ok (.aload_n 0, 1) := dk_42 (dk_at dksX1_truncate_0 2 rfl rfl)
theorem dX1_truncate_3 : decode cX1_truncate 3 = .ok (.getfield 90, 3) := dk_180 0 90 (dk_at dksX1_truncate_0 3 rfl rfl)
theorem dX1_truncate_6 : decode cX1_truncate 6 = .ok (.invokestatic 98, 3) := dk_184 0 98 (dk_at dksX1_truncate_0 6 rfl rfl)
theorem dX1_truncate_9 : decode cX1_truncate 9 = .ok (.invokestatic 102, 3) := dk_184 0 102 (dk_at dksX1_truncate_0 9 rfl rfl)
theorem dX1_truncate_12 : decode cX1_truncate 12 = .ok (.aload_n 0, 1) := dk_42 (dk_at dksX1_truncate_0 12 rfl rfl)
theorem dX1_truncate_13 : decode cX1_truncate 13 = .ok (.iload_n 1, 1) := dk_27 (dk_at dksX1_truncate_0 13 rfl rfl)
theorem dX1_truncate_14 : decode cX1_truncate 14 = .ok (.putfield 90, 3) := dk_181 0 90 (dk_at dksX1_truncate_0 14 rfl rfl)
theorem dX1_truncate_17 : decode cX1_truncate 17 = .ok (.iload_n 1, 1) := dk_27 (dk_at dksX1_truncate_0 17 rfl rfl)
theorem dX1_truncate_18 : decode cX1_truncate 18 = .ok (.ireturn, 1) := dk_172 (dk_at dksX1_truncate_0 18 rfl rfl)
abbrev cX1_needValue : ByteArray := prog_1_method_4_code
def yX1_needValue : MethodName := ⟨RX1, "needValue", "(Z)V"⟩
def dkwX1_needValue_0 : List UInt8 := [26, 154, 0, 11, 187, 0, 77, 89, 183, 0, 79, 191, 177]
abbrev dktX1_needValue_0 : List UInt8 := dkwX1_needValue_0 ++ []
theorem dksX1_needValue_0 : cX1_needValue.data.toList.drop 0 = dktX1_needValue_0 := by decide +kernel
theorem dX1_needValue_0 : decode cX1_needValue 0 = .ok (.iload_n 0, 1) := dk_26 (dk_at dksX1_needValue_0 0 rfl rfl)
theorem dX1_needValue_1 : decode cX1_needValue 1 = .ok (.ifCond .ne 11, 3) := dk_154 0 11 (dk_at dksX1_needValue_0 1 rfl rfl)
theorem dX1_needValue_4 : decode cX1_needValue 4 = .ok (.new 77, 3) := dk_187 0 77 (dk_at dksX1_needValue_0 4 rfl rfl)
theorem dX1_needValue_7 : decode cX1_needValue 7 = .ok (.dup, 1) := dk_89 (dk_at dksX1_needValue_0 7 rfl rfl)
theorem dX1_needValue_8 : decode cX1_needValue 8 = .ok (.invokespecial 79, 3) := dk_183 0 79 (dk_at dksX1_needValue_0 8 rfl rfl)
theorem dX1_needValue_11 : decode cX1_needValue 11 = .ok (.athrow, 1) := dk_191 (dk_at dksX1_needValue_0 11 rfl rfl)
theorem dX1_needValue_12 : decode cX1_needValue 12 = .ok (.return_, 1) := dk_177 (dk_at dksX1_needValue_0 12 rfl rfl)
abbrev cX1_load : ByteArray := prog_1_method_12_code
def yX1_load : MethodName := ⟨RX1, "load", "()I"⟩
def dkwX1_load_3 : List UInt8 := [182, 0, 129, 42, 180, 0, 16, 180, 0, 132, 185, 0, 136, 1, 0, 172]
abbrev dktX1_load_3 : List UInt8 := dkwX1_load_3 ++ []
def dkwX1_load_2 : List UInt8 := [181, 0, 25, 42, 187, 0, 29, 89, 183, 0, 31, 181, 0, 32, 42, 1, 181, 0, 126, 42, 180, 0, 39]
abbrev dktX1_load_2 : List UInt8 := dkwX1_load_2 ++ dktX1_load_3
def dkwX1_load_1 : List UInt8 := [43, 183, 0, 123, 191, 42, 3, 181, 0, 90, 42, 187, 0, 20, 89, 42, 180, 0, 16, 183, 0, 22]
abbrev dktX1_load_1 : List UInt8 := dkwX1_load_1 ++ dktX1_load_2
def dkwX1_load_0 : List UInt8 := [42, 187, 0, 109, 89, 42, 183, 0, 111, 182, 0, 114, 181, 0, 16, 167, 0, 14, 76, 187, 0, 77, 89, 1]
abbrev dktX1_load_0 : List UInt8 := dkwX1_load_0 ++ dktX1_load_1
theorem dksX1_load_0 : cX1_load.data.toList.drop 0 = dktX1_load_0 := by decide +kernel
theorem dksX1_load_1 : cX1_load.data.toList.drop 24 = dktX1_load_1 := dk_seg dksX1_load_0 24 rfl rfl
theorem dksX1_load_2 : cX1_load.data.toList.drop 46 = dktX1_load_2 := dk_seg dksX1_load_1 22 rfl rfl
theorem dksX1_load_3 : cX1_load.data.toList.drop 69 = dktX1_load_3 := dk_seg dksX1_load_2 23 rfl rfl
theorem dX1_load_0 : decode cX1_load 0 = .ok (.aload_n 0, 1) := dk_42 (dk_at dksX1_load_0 0 rfl rfl)
theorem dX1_load_1 : decode cX1_load 1 = .ok (.new 109, 3) := dk_187 0 109 (dk_at dksX1_load_0 1 rfl rfl)
theorem dX1_load_4 : decode cX1_load 4 = .ok (.dup, 1) := dk_89 (dk_at dksX1_load_0 4 rfl rfl)
theorem dX1_load_5 : decode cX1_load 5 = .ok (.aload_n 0, 1) := dk_42 (dk_at dksX1_load_0 5 rfl rfl)
theorem dX1_load_6 : decode cX1_load 6 = .ok (.invokespecial 111, 3) := dk_183 0 111 (dk_at dksX1_load_0 6 rfl rfl)
theorem dX1_load_9 : decode cX1_load 9 = .ok (.invokevirtual 114, 3) := dk_182 0 114 (dk_at dksX1_load_0 9 rfl rfl)
theorem dX1_load_12 : decode cX1_load 12 = .ok (.putfield 16, 3) := dk_181 0 16 (dk_at dksX1_load_0 12 rfl rfl)
theorem dX1_load_15 : decode cX1_load 15 = .ok (.goto 14, 3) := dk_167 0 14 (dk_at dksX1_load_0 15 rfl rfl)
theorem dX1_load_18 : decode cX1_load 18 = .ok (.astore_n 1, 1) := dk_76 (dk_at dksX1_load_0 18 rfl rfl)
theorem dX1_load_19 : decode cX1_load 19 = .ok (.new 77, 3) := dk_187 0 77 (dk_at dksX1_load_0 19 rfl rfl)
theorem dX1_load_22 : decode cX1_load 22 = .ok (.dup, 1) := dk_89 (dk_at dksX1_load_0 22 rfl rfl)
theorem dX1_load_23 : decode cX1_load 23 = .ok (.aconst_null, 1) := dk_1 (dk_at dksX1_load_0 23 rfl rfl)
theorem dX1_load_24 : decode cX1_load 24 = .ok (.aload_n 1, 1) := dk_43 (dk_at dksX1_load_1 0 rfl rfl)
theorem dX1_load_25 : decode cX1_load 25 = .ok (.invokespecial 123, 3) := dk_183 0 123 (dk_at dksX1_load_1 1 rfl rfl)
theorem dX1_load_28 : decode cX1_load 28 = .ok (.athrow, 1) := dk_191 (dk_at dksX1_load_1 4 rfl rfl)
theorem dX1_load_29 : decode cX1_load 29 = .ok (.aload_n 0, 1) := dk_42 (dk_at dksX1_load_1 5 rfl rfl)
theorem dX1_load_30 : decode cX1_load 30 = .ok (.iconst 0, 1) := dk_3 (dk_at dksX1_load_1 6 rfl rfl)
theorem dX1_load_31 : decode cX1_load 31 = .ok (.putfield 90, 3) := dk_181 0 90 (dk_at dksX1_load_1 7 rfl rfl)
theorem dX1_load_34 : decode cX1_load 34 = .ok (.aload_n 0, 1) := dk_42 (dk_at dksX1_load_1 10 rfl rfl)
theorem dX1_load_35 : decode cX1_load 35 = .ok (.new 20, 3) := dk_187 0 20 (dk_at dksX1_load_1 11 rfl rfl)
theorem dX1_load_38 : decode cX1_load 38 = .ok (.dup, 1) := dk_89 (dk_at dksX1_load_1 14 rfl rfl)
theorem dX1_load_39 : decode cX1_load 39 = .ok (.aload_n 0, 1) := dk_42 (dk_at dksX1_load_1 15 rfl rfl)
theorem dX1_load_40 : decode cX1_load 40 = .ok (.getfield 16, 3) := dk_180 0 16 (dk_at dksX1_load_1 16 rfl rfl)
theorem dX1_load_43 : decode cX1_load 43 = .ok (.invokespecial 22, 3) := dk_183 0 22 (dk_at dksX1_load_1 19 rfl rfl)
theorem dX1_load_46 : decode cX1_load 46 = .ok (.putfield 25, 3) := dk_181 0 25 (dk_at dksX1_load_2 0 rfl rfl)
theorem dX1_load_49 : decode cX1_load 49 = .ok (.aload_n 0, 1) := dk_42 (dk_at dksX1_load_2 3 rfl rfl)
theorem dX1_load_50 : decode cX1_load 50 = .ok (.new 29, 3) := dk_187 0 29 (dk_at dksX1_load_2 4 rfl rfl)
theorem dX1_load_53 : decode cX1_load 53 = .ok (.dup, 1) := dk_89 (dk_at dksX1_load_2 7 rfl rfl)
theorem dX1_load_54 : decode cX1_load 54 = .ok (.invokespecial 31, 3) := dk_183 0 31 (dk_at dksX1_load_2 8 rfl rfl)
theorem dX1_load_57 : decode cX1_load 57 = .ok (.putfield 32, 3) := dk_181 0 32 (dk_at dksX1_load_2 11 rfl rfl)
theorem dX1_load_60 : decode cX1_load 60 = .ok (.aload_n 0, 1) := dk_42 (dk_at dksX1_load_2 14 rfl rfl)
theorem dX1_load_61 : decode cX1_load 61 = .ok (.aconst_null, 1) := dk_1 (dk_at dksX1_load_2 15 rfl rfl)
theorem dX1_load_62 : decode cX1_load 62 = .ok (.putfield 126, 3) := dk_181 0 126 (dk_at dksX1_load_2 16 rfl rfl)
theorem dX1_load_65 : decode cX1_load 65 = .ok (.aload_n 0, 1) := dk_42 (dk_at dksX1_load_2 19 rfl rfl)
theorem dX1_load_66 : decode cX1_load 66 = .ok (.getfield 39, 3) := dk_180 0 39 (dk_at dksX1_load_2 20 rfl rfl)
theorem dX1_load_69 : decode cX1_load 69 = .ok (.invokevirtual 129, 3) := dk_182 0 129 (dk_at dksX1_load_3 0 rfl rfl)
theorem dX1_load_72 : decode cX1_load 72 = .ok (.aload_n 0, 1) := dk_42 (dk_at dksX1_load_3 3 rfl rfl)
theorem dX1_load_73 : decode cX1_load 73 = .ok (.getfield 16, 3) := dk_180 0 16 (dk_at dksX1_load_3 4 rfl rfl)
theorem dX1_load_76 : decode cX1_load 76 = .ok (.getfield 132, 3) := dk_180 0 132 (dk_at dksX1_load_3 7 rfl rfl)
theorem dX1_load_79 : decode cX1_load 79 = .ok (.invokeinterface 136 1, 5) := by decide +kernel
theorem dX1_load_84 : decode cX1_load 84 = .ok (.ireturn, 1) := dk_172 (dk_at dksX1_load_3 15 rfl rfl)
abbrev cX1_draft : ByteArray := prog_1_method_41_code
def yX1_draft : MethodName := ⟨RX1, "draft", "(III)I"⟩
def dkwX1_draft_3 : List UInt8 := [181, 0, 32, 21, 4, 172]
abbrev dktX1_draft_3 : List UInt8 := dkwX1_draft_3 ++ []
def dkwX1_draft_2 : List UInt8 := [42, 180, 0, 32, 180, 0, 198, 54, 4, 42, 187, 0, 29, 89, 27, 28, 29, 3, 188, 10, 183, 1, 92]
abbrev dktX1_draft_2 : List UInt8 := dkwX1_draft_2 ++ dktX1_draft_3
def dkwX1_draft_1 : List UInt8 := [17, 5, 160, 184, 0, 98, 153, 0, 14, 29, 16, 15, 112, 154, 0, 7, 4, 167, 0, 4, 3, 184, 0, 102]
abbrev dktX1_draft_1 : List UInt8 := dkwX1_draft_1 ++ dktX1_draft_2
def dkwX1_draft_0 : List UInt8 := [42, 27, 182, 1, 89, 184, 1, 33, 28, 4, 17, 11, 184, 184, 0, 98, 153, 0, 26, 29, 16, 15]
abbrev dktX1_draft_0 : List UInt8 := dkwX1_draft_0 ++ dktX1_draft_1
theorem dksX1_draft_0 : cX1_draft.data.toList.drop 0 = dktX1_draft_0 := by decide +kernel
theorem dksX1_draft_1 : cX1_draft.data.toList.drop 22 = dktX1_draft_1 := dk_seg dksX1_draft_0 22 rfl rfl
theorem dksX1_draft_2 : cX1_draft.data.toList.drop 46 = dktX1_draft_2 := dk_seg dksX1_draft_1 24 rfl rfl
theorem dksX1_draft_3 : cX1_draft.data.toList.drop 69 = dktX1_draft_3 := dk_seg dksX1_draft_2 23 rfl rfl
theorem dX1_draft_0 : decode cX1_draft 0 = .ok (.aload_n 0, 1) := dk_42 (dk_at dksX1_draft_0 0 rfl rfl)
theorem dX1_draft_1 : decode cX1_draft 1 = .ok (.iload_n 1, 1) := dk_27 (dk_at dksX1_draft_0 1 rfl rfl)
theorem dX1_draft_2 : decode cX1_draft 2 = .ok (.invokevirtual 345, 3) := dk_182 1 89 (dk_at dksX1_draft_0 2 rfl rfl)
theorem dX1_draft_5 : decode cX1_draft 5 = .ok (.invokestatic 289, 3) := dk_184 1 33 (dk_at dksX1_draft_0 5 rfl rfl)
theorem dX1_draft_8 : decode cX1_draft 8 = .ok (.iload_n 2, 1) := dk_28 (dk_at dksX1_draft_0 8 rfl rfl)
theorem dX1_draft_9 : decode cX1_draft 9 = .ok (.iconst 1, 1) := dk_4 (dk_at dksX1_draft_0 9 rfl rfl)
theorem dX1_draft_10 : decode cX1_draft 10 = .ok (.sipush 3000, 3) := dk_17 11 184 (dk_at dksX1_draft_0 10 rfl rfl)
theorem dX1_draft_13 : decode cX1_draft 13 = .ok (.invokestatic 98, 3) := dk_184 0 98 (dk_at dksX1_draft_0 13 rfl rfl)
theorem dX1_draft_16 : decode cX1_draft 16 = .ok (.ifCond .eq 26, 3) := dk_153 0 26 (dk_at dksX1_draft_0 16 rfl rfl)
theorem dX1_draft_19 : decode cX1_draft 19 = .ok (.iload_n 3, 1) := dk_29 (dk_at dksX1_draft_0 19 rfl rfl)
theorem dX1_draft_20 : decode cX1_draft 20 = .ok (.bipush 15, 2) := dk_16 15 (dk_at dksX1_draft_0 20 rfl rfl)
theorem dX1_draft_22 : decode cX1_draft 22 = .ok (.sipush 1440, 3) := dk_17 5 160 (dk_at dksX1_draft_1 0 rfl rfl)
theorem dX1_draft_25 : decode cX1_draft 25 = .ok (.invokestatic 98, 3) := dk_184 0 98 (dk_at dksX1_draft_1 3 rfl rfl)
theorem dX1_draft_28 : decode cX1_draft 28 = .ok (.ifCond .eq 14, 3) := dk_153 0 14 (dk_at dksX1_draft_1 6 rfl rfl)
theorem dX1_draft_31 : decode cX1_draft 31 = .ok (.iload_n 3, 1) := dk_29 (dk_at dksX1_draft_1 9 rfl rfl)
theorem dX1_draft_32 : decode cX1_draft 32 = .ok (.bipush 15, 2) := dk_16 15 (dk_at dksX1_draft_1 10 rfl rfl)
theorem dX1_draft_34 : decode cX1_draft 34 = .ok (.irem, 1) := dk_112 (dk_at dksX1_draft_1 12 rfl rfl)
theorem dX1_draft_35 : decode cX1_draft 35 = .ok (.ifCond .ne 7, 3) := dk_154 0 7 (dk_at dksX1_draft_1 13 rfl rfl)
theorem dX1_draft_38 : decode cX1_draft 38 = .ok (.iconst 1, 1) := dk_4 (dk_at dksX1_draft_1 16 rfl rfl)
theorem dX1_draft_39 : decode cX1_draft 39 = .ok (.goto 4, 3) := dk_167 0 4 (dk_at dksX1_draft_1 17 rfl rfl)
theorem dX1_draft_42 : decode cX1_draft 42 = .ok (.iconst 0, 1) := dk_3 (dk_at dksX1_draft_1 20 rfl rfl)
theorem dX1_draft_43 : decode cX1_draft 43 = .ok (.invokestatic 102, 3) := dk_184 0 102 (dk_at dksX1_draft_1 21 rfl rfl)
theorem dX1_draft_46 : decode cX1_draft 46 = .ok (.aload_n 0, 1) := dk_42 (dk_at dksX1_draft_2 0 rfl rfl)
theorem dX1_draft_47 : decode cX1_draft 47 = .ok (.getfield 32, 3) := dk_180 0 32 (dk_at dksX1_draft_2 1 rfl rfl)
theorem dX1_draft_50 : decode cX1_draft 50 = .ok (.getfield 198, 3) := dk_180 0 198 (dk_at dksX1_draft_2 4 rfl rfl)
theorem dX1_draft_53 : decode cX1_draft 53 = .ok (.istore 4, 2) := dk_54 4 (dk_at dksX1_draft_2 7 rfl rfl)
theorem dX1_draft_55 : decode cX1_draft 55 = .ok (.aload_n 0, 1) := dk_42 (dk_at dksX1_draft_2 9 rfl rfl)
theorem dX1_draft_56 : decode cX1_draft 56 = .ok (.new 29, 3) := dk_187 0 29 (dk_at dksX1_draft_2 10 rfl rfl)
theorem dX1_draft_59 : decode cX1_draft 59 = .ok (.dup, 1) := dk_89 (dk_at dksX1_draft_2 13 rfl rfl)
theorem dX1_draft_60 : decode cX1_draft 60 = .ok (.iload_n 1, 1) := dk_27 (dk_at dksX1_draft_2 14 rfl rfl)
theorem dX1_draft_61 : decode cX1_draft 61 = .ok (.iload_n 2, 1) := dk_28 (dk_at dksX1_draft_2 15 rfl rfl)
theorem dX1_draft_62 : decode cX1_draft 62 = .ok (.iload_n 3, 1) := dk_29 (dk_at dksX1_draft_2 16 rfl rfl)
theorem dX1_draft_63 : decode cX1_draft 63 = .ok (.iconst 0, 1) := dk_3 (dk_at dksX1_draft_2 17 rfl rfl)
theorem dX1_draft_64 : decode cX1_draft 64 = .ok (.newarray .int, 2) := dk_188_10 (dk_at dksX1_draft_2 18 rfl rfl)
theorem dX1_draft_66 : decode cX1_draft 66 = .ok (.invokespecial 348, 3) := dk_183 1 92 (dk_at dksX1_draft_2 20 rfl rfl)
theorem dX1_draft_69 : decode cX1_draft 69 = .ok (.putfield 32, 3) := dk_181 0 32 (dk_at dksX1_draft_3 0 rfl rfl)
theorem dX1_draft_72 : decode cX1_draft 72 = .ok (.iload 4, 2) := dk_21 4 (dk_at dksX1_draft_3 3 rfl rfl)
theorem dX1_draft_74 : decode cX1_draft 74 = .ok (.ireturn, 1) := dk_172 (dk_at dksX1_draft_3 5 rfl rfl)
abbrev cX1_isType : ByteArray := prog_1_method_15_code
def yX1_isType : MethodName := ⟨RX1, "isType", "(I)Z"⟩
def dkwX1_isType_0 : List UInt8 := [27, 3, 42, 180, 0, 16, 180, 0, 154, 4, 100, 184, 0, 98, 172]
abbrev dktX1_isType_0 : List UInt8 := dkwX1_isType_0 ++ []
theorem dksX1_isType_0 : cX1_isType.data.toList.drop 0 = dktX1_isType_0 := by decide +kernel
theorem dX1_isType_0 : decode cX1_isType 0 = .ok (.iload_n 1, 1) := dk_27 (dk_at dksX1_isType_0 0 rfl rfl)
theorem dX1_isType_1 : decode cX1_isType 1 = .ok (.iconst 0, 1) := dk_3 (dk_at dksX1_isType_0 1 rfl rfl)
theorem dX1_isType_2 : decode cX1_isType 2 = .ok (.aload_n 0, 1) := dk_42 (dk_at dksX1_isType_0 2 rfl rfl)
theorem dX1_isType_3 : decode cX1_isType 3 = .ok (.getfield 16, 3) := dk_180 0 16 (dk_at dksX1_isType_0 3 rfl rfl)
theorem dX1_isType_6 : decode cX1_isType 6 = .ok (.getfield 154, 3) := dk_180 0 154 (dk_at dksX1_isType_0 6 rfl rfl)
theorem dX1_isType_9 : decode cX1_isType 9 = .ok (.iconst 1, 1) := dk_4 (dk_at dksX1_isType_0 9 rfl rfl)
theorem dX1_isType_10 : decode cX1_isType 10 = .ok (.isub, 1) := dk_100 (dk_at dksX1_isType_0 10 rfl rfl)
theorem dX1_isType_11 : decode cX1_isType 11 = .ok (.invokestatic 98, 3) := dk_184 0 98 (dk_at dksX1_isType_0 11 rfl rfl)
theorem dX1_isType_14 : decode cX1_isType 14 = .ok (.ireturn, 1) := dk_172 (dk_at dksX1_isType_0 14 rfl rfl)
abbrev cX1_needIndex : ByteArray := prog_1_method_5_code
def yX1_needIndex : MethodName := ⟨RX1, "needIndex", "(Z)V"⟩
def dkwX1_needIndex_0 : List UInt8 := [26, 154, 0, 11, 187, 0, 80, 89, 183, 0, 82, 191, 177]
abbrev dktX1_needIndex_0 : List UInt8 := dkwX1_needIndex_0 ++ []
theorem dksX1_needIndex_0 : cX1_needIndex.data.toList.drop 0 = dktX1_needIndex_0 := by decide +kernel
theorem dX1_needIndex_0 : decode cX1_needIndex 0 = .ok (.iload_n 0, 1) := dk_26 (dk_at dksX1_needIndex_0 0 rfl rfl)
theorem dX1_needIndex_1 : decode cX1_needIndex 1 = .ok (.ifCond .ne 11, 3) := dk_154 0 11 (dk_at dksX1_needIndex_0 1 rfl rfl)
theorem dX1_needIndex_4 : decode cX1_needIndex 4 = .ok (.new 80, 3) := dk_187 0 80 (dk_at dksX1_needIndex_0 4 rfl rfl)
theorem dX1_needIndex_7 : decode cX1_needIndex 7 = .ok (.dup, 1) := dk_89 (dk_at dksX1_needIndex_0 7 rfl rfl)
theorem dX1_needIndex_8 : decode cX1_needIndex 8 = .ok (.invokespecial 82, 3) := dk_183 0 82 (dk_at dksX1_needIndex_0 8 rfl rfl)
theorem dX1_needIndex_11 : decode cX1_needIndex 11 = .ok (.athrow, 1) := dk_191 (dk_at dksX1_needIndex_0 11 rfl rfl)
theorem dX1_needIndex_12 : decode cX1_needIndex 12 = .ok (.return_, 1) := dk_177 (dk_at dksX1_needIndex_0 12 rfl rfl)
abbrev cX1_need : ByteArray := prog_1_method_42_code
def yX1_need : MethodName := ⟨RX1, "need", "(II)I"⟩
def dkwX1_need_2 : List UInt8 := [180, 0, 32, 27, 28, 182, 1, 98, 181, 0, 32, 29, 172]
abbrev dktX1_need_2 : List UInt8 := dkwX1_need_2 ++ []
def dkwX1_need_1 : List UInt8 := [192, 0, 219, 180, 0, 244, 184, 0, 98, 184, 0, 102, 42, 180, 0, 32, 180, 0, 228, 27, 46, 62, 42, 42]
abbrev dktX1_need_1 : List UInt8 := dkwX1_need_1 ++ dktX1_need_2
def dkwX1_need_0 : List UInt8 := [42, 27, 182, 1, 95, 184, 1, 33, 28, 3, 42, 180, 0, 16, 180, 0, 157, 27, 185, 0, 164, 2, 0]
abbrev dktX1_need_0 : List UInt8 := dkwX1_need_0 ++ dktX1_need_1
theorem dksX1_need_0 : cX1_need.data.toList.drop 0 = dktX1_need_0 := by decide +kernel
theorem dksX1_need_1 : cX1_need.data.toList.drop 23 = dktX1_need_1 := dk_seg dksX1_need_0 23 rfl rfl
theorem dksX1_need_2 : cX1_need.data.toList.drop 47 = dktX1_need_2 := dk_seg dksX1_need_1 24 rfl rfl
theorem dX1_need_0 : decode cX1_need 0 = .ok (.aload_n 0, 1) := dk_42 (dk_at dksX1_need_0 0 rfl rfl)
theorem dX1_need_1 : decode cX1_need 1 = .ok (.iload_n 1, 1) := dk_27 (dk_at dksX1_need_0 1 rfl rfl)
theorem dX1_need_2 : decode cX1_need 2 = .ok (.invokevirtual 351, 3) := dk_182 1 95 (dk_at dksX1_need_0 2 rfl rfl)
theorem dX1_need_5 : decode cX1_need 5 = .ok (.invokestatic 289, 3) := dk_184 1 33 (dk_at dksX1_need_0 5 rfl rfl)
theorem dX1_need_8 : decode cX1_need 8 = .ok (.iload_n 2, 1) := dk_28 (dk_at dksX1_need_0 8 rfl rfl)
theorem dX1_need_9 : decode cX1_need 9 = .ok (.iconst 0, 1) := dk_3 (dk_at dksX1_need_0 9 rfl rfl)
theorem dX1_need_10 : decode cX1_need 10 = .ok (.aload_n 0, 1) := dk_42 (dk_at dksX1_need_0 10 rfl rfl)
theorem dX1_need_11 : decode cX1_need 11 = .ok (.getfield 16, 3) := dk_180 0 16 (dk_at dksX1_need_0 11 rfl rfl)
theorem dX1_need_14 : decode cX1_need 14 = .ok (.getfield 157, 3) := dk_180 0 157 (dk_at dksX1_need_0 14 rfl rfl)
theorem dX1_need_17 : decode cX1_need 17 = .ok (.iload_n 1, 1) := dk_27 (dk_at dksX1_need_0 17 rfl rfl)
theorem dX1_need_18 : decode cX1_need 18 = .ok (.invokeinterface 164 2, 5) := by decide +kernel
theorem dX1_need_23 : decode cX1_need 23 = .ok (.checkcast 219, 3) := dk_192 0 219 (dk_at dksX1_need_1 0 rfl rfl)
theorem dX1_need_26 : decode cX1_need 26 = .ok (.getfield 244, 3) := dk_180 0 244 (dk_at dksX1_need_1 3 rfl rfl)
theorem dX1_need_29 : decode cX1_need 29 = .ok (.invokestatic 98, 3) := dk_184 0 98 (dk_at dksX1_need_1 6 rfl rfl)
theorem dX1_need_32 : decode cX1_need 32 = .ok (.invokestatic 102, 3) := dk_184 0 102 (dk_at dksX1_need_1 9 rfl rfl)
theorem dX1_need_35 : decode cX1_need 35 = .ok (.aload_n 0, 1) := dk_42 (dk_at dksX1_need_1 12 rfl rfl)
theorem dX1_need_36 : decode cX1_need 36 = .ok (.getfield 32, 3) := dk_180 0 32 (dk_at dksX1_need_1 13 rfl rfl)
theorem dX1_need_39 : decode cX1_need 39 = .ok (.getfield 228, 3) := dk_180 0 228 (dk_at dksX1_need_1 16 rfl rfl)
theorem dX1_need_42 : decode cX1_need 42 = .ok (.iload_n 1, 1) := dk_27 (dk_at dksX1_need_1 19 rfl rfl)
theorem dX1_need_43 : decode cX1_need 43 = .ok (.iaload, 1) := dk_46 (dk_at dksX1_need_1 20 rfl rfl)
theorem dX1_need_44 : decode cX1_need 44 = .ok (.istore_n 3, 1) := dk_62 (dk_at dksX1_need_1 21 rfl rfl)
theorem dX1_need_45 : decode cX1_need 45 = .ok (.aload_n 0, 1) := dk_42 (dk_at dksX1_need_1 22 rfl rfl)
theorem dX1_need_46 : decode cX1_need 46 = .ok (.aload_n 0, 1) := dk_42 (dk_at dksX1_need_1 23 rfl rfl)
theorem dX1_need_47 : decode cX1_need 47 = .ok (.getfield 32, 3) := dk_180 0 32 (dk_at dksX1_need_2 0 rfl rfl)
theorem dX1_need_50 : decode cX1_need 50 = .ok (.iload_n 1, 1) := dk_27 (dk_at dksX1_need_2 3 rfl rfl)
theorem dX1_need_51 : decode cX1_need 51 = .ok (.iload_n 2, 1) := dk_28 (dk_at dksX1_need_2 4 rfl rfl)
theorem dX1_need_52 : decode cX1_need 52 = .ok (.invokevirtual 354, 3) := dk_182 1 98 (dk_at dksX1_need_2 5 rfl rfl)
theorem dX1_need_55 : decode cX1_need 55 = .ok (.putfield 32, 3) := dk_181 0 32 (dk_at dksX1_need_2 8 rfl rfl)
theorem dX1_need_58 : decode cX1_need 58 = .ok (.iload_n 3, 1) := dk_29 (dk_at dksX1_need_2 11 rfl rfl)
theorem dX1_need_59 : decode cX1_need 59 = .ok (.ireturn, 1) := dk_172 (dk_at dksX1_need_2 12 rfl rfl)
abbrev cX1_isKind : ByteArray := prog_1_method_16_code
def yX1_isKind : MethodName := ⟨RX1, "isKind", "(I)Z"⟩
def dkwX1_isKind_0 : List UInt8 := [27, 3, 42, 180, 0, 16, 180, 0, 157, 185, 0, 136, 1, 0, 4, 100, 184, 0, 98, 172]
abbrev dktX1_isKind_0 : List UInt8 := dkwX1_isKind_0 ++ []
theorem dksX1_isKind_0 : cX1_isKind.data.toList.drop 0 = dktX1_isKind_0 := by decide +kernel
theorem dX1_isKind_0 : decode cX1_isKind 0 = .ok (.iload_n 1, 1) := dk_27 (dk_at dksX1_isKind_0 0 rfl rfl)
theorem dX1_isKind_1 : decode cX1_isKind 1 = .ok (.iconst 0, 1) := dk_3 (dk_at dksX1_isKind_0 1 rfl rfl)
theorem dX1_isKind_2 : decode cX1_isKind 2 = .ok (.aload_n 0, 1) := dk_42 (dk_at dksX1_isKind_0 2 rfl rfl)
theorem dX1_isKind_3 : decode cX1_isKind 3 = .ok (.getfield 16, 3) := dk_180 0 16 (dk_at dksX1_isKind_0 3 rfl rfl)
theorem dX1_isKind_6 : decode cX1_isKind 6 = .ok (.getfield 157, 3) := dk_180 0 157 (dk_at dksX1_isKind_0 6 rfl rfl)
theorem dX1_isKind_9 : decode cX1_isKind 9 = .ok (.invokeinterface 136 1, 5) := by decide +kernel
theorem dX1_isKind_14 : decode cX1_isKind 14 = .ok (.iconst 1, 1) := dk_4 (dk_at dksX1_isKind_0 14 rfl rfl)
theorem dX1_isKind_15 : decode cX1_isKind 15 = .ok (.isub, 1) := dk_100 (dk_at dksX1_isKind_0 15 rfl rfl)
theorem dX1_isKind_16 : decode cX1_isKind 16 = .ok (.invokestatic 98, 3) := dk_184 0 98 (dk_at dksX1_isKind_0 16 rfl rfl)
theorem dX1_isKind_19 : decode cX1_isKind 19 = .ok (.ireturn, 1) := dk_172 (dk_at dksX1_isKind_0 19 rfl rfl)
abbrev cX1_book : ByteArray := prog_1_method_45_code
def yX1_book : MethodName := ⟨RX1, "book", "(II)I"⟩
def dkwX1_book_2 : List UInt8 := [167, 0, 4, 3, 184, 0, 94, 42, 182, 1, 79, 42, 42, 180, 0, 32, 27, 28, 182, 1, 113, 172]
abbrev dktX1_book_2 : List UInt8 := dkwX1_book_2 ++ []
def dkwX1_book_1 : List UInt8 := [185, 0, 136, 1, 0, 16, 60, 162, 0, 20, 42, 42, 180, 0, 32, 27, 28, 182, 1, 4, 154, 0, 7, 4]
abbrev dktX1_book_1 : List UInt8 := dkwX1_book_1 ++ dktX1_book_2
def dkwX1_book_0 : List UInt8 := [42, 27, 28, 182, 1, 109, 42, 180, 0, 16, 180, 0, 154, 158, 0, 37, 42, 180, 0, 25, 180, 0, 160]
abbrev dktX1_book_0 : List UInt8 := dkwX1_book_0 ++ dktX1_book_1
theorem dksX1_book_0 : cX1_book.data.toList.drop 0 = dktX1_book_0 := by decide +kernel
theorem dksX1_book_1 : cX1_book.data.toList.drop 23 = dktX1_book_1 := dk_seg dksX1_book_0 23 rfl rfl
theorem dksX1_book_2 : cX1_book.data.toList.drop 47 = dktX1_book_2 := dk_seg dksX1_book_1 24 rfl rfl
theorem dX1_book_0 : decode cX1_book 0 = .ok (.aload_n 0, 1) := dk_42 (dk_at dksX1_book_0 0 rfl rfl)
theorem dX1_book_1 : decode cX1_book 1 = .ok (.iload_n 1, 1) := dk_27 (dk_at dksX1_book_0 1 rfl rfl)
theorem dX1_book_2 : decode cX1_book 2 = .ok (.iload_n 2, 1) := dk_28 (dk_at dksX1_book_0 2 rfl rfl)
theorem dX1_book_3 : decode cX1_book 3 = .ok (.invokevirtual 365, 3) := dk_182 1 109 (dk_at dksX1_book_0 3 rfl rfl)
theorem dX1_book_6 : decode cX1_book 6 = .ok (.aload_n 0, 1) := dk_42 (dk_at dksX1_book_0 6 rfl rfl)
theorem dX1_book_7 : decode cX1_book 7 = .ok (.getfield 16, 3) := dk_180 0 16 (dk_at dksX1_book_0 7 rfl rfl)
theorem dX1_book_10 : decode cX1_book 10 = .ok (.getfield 154, 3) := dk_180 0 154 (dk_at dksX1_book_0 10 rfl rfl)
theorem dX1_book_13 : decode cX1_book 13 = .ok (.ifCond .le 37, 3) := dk_158 0 37 (dk_at dksX1_book_0 13 rfl rfl)
theorem dX1_book_16 : decode cX1_book 16 = .ok (.aload_n 0, 1) := dk_42 (dk_at dksX1_book_0 16 rfl rfl)
theorem dX1_book_17 : decode cX1_book 17 = .ok (.getfield 25, 3) := dk_180 0 25 (dk_at dksX1_book_0 17 rfl rfl)
theorem dX1_book_20 : decode cX1_book 20 = .ok (.getfield 160, 3) := dk_180 0 160 (dk_at dksX1_book_0 20 rfl rfl)
theorem dX1_book_23 : decode cX1_book 23 = .ok (.invokeinterface 136 1, 5) := by decide +kernel
theorem dX1_book_28 : decode cX1_book 28 = .ok (.bipush 60, 2) := dk_16 60 (dk_at dksX1_book_1 5 rfl rfl)
theorem dX1_book_30 : decode cX1_book 30 = .ok (.if_icmp .ge 20, 3) := dk_162 0 20 (dk_at dksX1_book_1 7 rfl rfl)
theorem dX1_book_33 : decode cX1_book 33 = .ok (.aload_n 0, 1) := dk_42 (dk_at dksX1_book_1 10 rfl rfl)
theorem dX1_book_34 : decode cX1_book 34 = .ok (.aload_n 0, 1) := dk_42 (dk_at dksX1_book_1 11 rfl rfl)
theorem dX1_book_35 : decode cX1_book 35 = .ok (.getfield 32, 3) := dk_180 0 32 (dk_at dksX1_book_1 12 rfl rfl)
theorem dX1_book_38 : decode cX1_book 38 = .ok (.iload_n 1, 1) := dk_27 (dk_at dksX1_book_1 15 rfl rfl)
theorem dX1_book_39 : decode cX1_book 39 = .ok (.iload_n 2, 1) := dk_28 (dk_at dksX1_book_1 16 rfl rfl)
theorem dX1_book_40 : decode cX1_book 40 = .ok (.invokevirtual 260, 3) := dk_182 1 4 (dk_at dksX1_book_1 17 rfl rfl)
theorem dX1_book_43 : decode cX1_book 43 = .ok (.ifCond .ne 7, 3) := dk_154 0 7 (dk_at dksX1_book_1 20 rfl rfl)
theorem dX1_book_46 : decode cX1_book 46 = .ok (.iconst 1, 1) := dk_4 (dk_at dksX1_book_1 23 rfl rfl)
theorem dX1_book_47 : decode cX1_book 47 = .ok (.goto 4, 3) := dk_167 0 4 (dk_at dksX1_book_2 0 rfl rfl)
theorem dX1_book_50 : decode cX1_book 50 = .ok (.iconst 0, 1) := dk_3 (dk_at dksX1_book_2 3 rfl rfl)
theorem dX1_book_51 : decode cX1_book 51 = .ok (.invokestatic 94, 3) := dk_184 0 94 (dk_at dksX1_book_2 4 rfl rfl)
theorem dX1_book_54 : decode cX1_book 54 = .ok (.aload_n 0, 1) := dk_42 (dk_at dksX1_book_2 7 rfl rfl)
theorem dX1_book_55 : decode cX1_book 55 = .ok (.invokevirtual 335, 3) := dk_182 1 79 (dk_at dksX1_book_2 8 rfl rfl)
theorem dX1_book_58 : decode cX1_book 58 = .ok (.aload_n 0, 1) := dk_42 (dk_at dksX1_book_2 11 rfl rfl)
theorem dX1_book_59 : decode cX1_book 59 = .ok (.aload_n 0, 1) := dk_42 (dk_at dksX1_book_2 12 rfl rfl)
theorem dX1_book_60 : decode cX1_book 60 = .ok (.getfield 32, 3) := dk_180 0 32 (dk_at dksX1_book_2 13 rfl rfl)
theorem dX1_book_63 : decode cX1_book 63 = .ok (.iload_n 1, 1) := dk_27 (dk_at dksX1_book_2 16 rfl rfl)
theorem dX1_book_64 : decode cX1_book 64 = .ok (.iload_n 2, 1) := dk_28 (dk_at dksX1_book_2 17 rfl rfl)
theorem dX1_book_65 : decode cX1_book 65 = .ok (.invokevirtual 369, 3) := dk_182 1 113 (dk_at dksX1_book_2 18 rfl rfl)
theorem dX1_book_68 : decode cX1_book 68 = .ok (.ireturn, 1) := dk_172 (dk_at dksX1_book_2 21 rfl rfl)
abbrev cX1_needHallAndStart : ByteArray := prog_1_method_43_code
def yX1_needHallAndStart : MethodName := ⟨RX1, "needHallAndStart", "(II)V"⟩
def dkwX1_needHallAndStart_0 : List UInt8 := [42, 27, 182, 1, 65, 184, 1, 33, 28, 184, 1, 68, 184, 0, 102, 177]
abbrev dktX1_needHallAndStart_0 : List UInt8 := dkwX1_needHallAndStart_0 ++ []
theorem dksX1_needHallAndStart_0 : cX1_needHallAndStart.data.toList.drop 0 = dktX1_needHallAndStart_0 := by decide +kernel
theorem dX1_needHallAndStart_0 : decode cX1_needHallAndStart 0 = .ok (.aload_n 0, 1) := dk_42 (dk_at dksX1_needHallAndStart_0 0 rfl rfl)
theorem dX1_needHallAndStart_1 : decode cX1_needHallAndStart 1 = .ok (.iload_n 1, 1) := dk_27 (dk_at dksX1_needHallAndStart_0 1 rfl rfl)
theorem dX1_needHallAndStart_2 : decode cX1_needHallAndStart 2 = .ok (.invokevirtual 321, 3) := dk_182 1 65 (dk_at dksX1_needHallAndStart_0 2 rfl rfl)
theorem dX1_needHallAndStart_5 : decode cX1_needHallAndStart 5 = .ok (.invokestatic 289, 3) := dk_184 1 33 (dk_at dksX1_needHallAndStart_0 5 rfl rfl)
theorem dX1_needHallAndStart_8 : decode cX1_needHallAndStart 8 = .ok (.iload_n 2, 1) := dk_28 (dk_at dksX1_needHallAndStart_0 8 rfl rfl)
theorem dX1_needHallAndStart_9 : decode cX1_needHallAndStart 9 = .ok (.invokestatic 324, 3) := dk_184 1 68 (dk_at dksX1_needHallAndStart_0 9 rfl rfl)
theorem dX1_needHallAndStart_12 : decode cX1_needHallAndStart 12 = .ok (.invokestatic 102, 3) := dk_184 0 102 (dk_at dksX1_needHallAndStart_0 12 rfl rfl)
theorem dX1_needHallAndStart_15 : decode cX1_needHallAndStart 15 = .ok (.return_, 1) := dk_177 (dk_at dksX1_needHallAndStart_0 15 rfl rfl)
abbrev cX1_isHall : ByteArray := prog_1_method_14_code
def yX1_isHall : MethodName := ⟨RX1, "isHall", "(I)Z"⟩
def dkwX1_isHall_0 : List UInt8 := [27, 3, 42, 180, 0, 16, 180, 0, 132, 185, 0, 136, 1, 0, 4, 100, 184, 0, 98, 172]
abbrev dktX1_isHall_0 : List UInt8 := dkwX1_isHall_0 ++ []
theorem dksX1_isHall_0 : cX1_isHall.data.toList.drop 0 = dktX1_isHall_0 := by decide +kernel
theorem dX1_isHall_0 : decode cX1_isHall 0 = .ok (.iload_n 1, 1) := dk_27 (dk_at dksX1_isHall_0 0 rfl rfl)
theorem dX1_isHall_1 : decode cX1_isHall 1 = .ok (.iconst 0, 1) := dk_3 (dk_at dksX1_isHall_0 1 rfl rfl)
theorem dX1_isHall_2 : decode cX1_isHall 2 = .ok (.aload_n 0, 1) := dk_42 (dk_at dksX1_isHall_0 2 rfl rfl)
theorem dX1_isHall_3 : decode cX1_isHall 3 = .ok (.getfield 16, 3) := dk_180 0 16 (dk_at dksX1_isHall_0 3 rfl rfl)
theorem dX1_isHall_6 : decode cX1_isHall 6 = .ok (.getfield 132, 3) := dk_180 0 132 (dk_at dksX1_isHall_0 6 rfl rfl)
theorem dX1_isHall_9 : decode cX1_isHall 9 = .ok (.invokeinterface 136 1, 5) := by decide +kernel
theorem dX1_isHall_14 : decode cX1_isHall 14 = .ok (.iconst 1, 1) := dk_4 (dk_at dksX1_isHall_0 14 rfl rfl)
theorem dX1_isHall_15 : decode cX1_isHall 15 = .ok (.isub, 1) := dk_100 (dk_at dksX1_isHall_0 15 rfl rfl)
theorem dX1_isHall_16 : decode cX1_isHall 16 = .ok (.invokestatic 98, 3) := dk_184 0 98 (dk_at dksX1_isHall_0 16 rfl rfl)
theorem dX1_isHall_19 : decode cX1_isHall 19 = .ok (.ireturn, 1) := dk_172 (dk_at dksX1_isHall_0 19 rfl rfl)
abbrev cX1_isStart : ByteArray := prog_1_method_18_code
def yX1_isStart : MethodName := ⟨RX1, "isStart", "(I)Z"⟩
def dkwX1_isStart_0 : List UInt8 := [26, 3, 18, 163, 184, 0, 98, 153, 0, 14, 26, 16, 15, 112, 154, 0, 7, 4, 167, 0, 4, 3, 172]
abbrev dktX1_isStart_0 : List UInt8 := dkwX1_isStart_0 ++ []
theorem dksX1_isStart_0 : cX1_isStart.data.toList.drop 0 = dktX1_isStart_0 := by decide +kernel
theorem dX1_isStart_0 : decode cX1_isStart 0 = .ok (.iload_n 0, 1) := dk_26 (dk_at dksX1_isStart_0 0 rfl rfl)
theorem dX1_isStart_1 : decode cX1_isStart 1 = .ok (.iconst 0, 1) := dk_3 (dk_at dksX1_isStart_0 1 rfl rfl)
theorem dX1_isStart_2 : decode cX1_isStart 2 = .ok (.ldc 163, 2) := dk_18 163 (dk_at dksX1_isStart_0 2 rfl rfl)
theorem dX1_isStart_4 : decode cX1_isStart 4 = .ok (.invokestatic 98, 3) := dk_184 0 98 (dk_at dksX1_isStart_0 4 rfl rfl)
theorem dX1_isStart_7 : decode cX1_isStart 7 = .ok (.ifCond .eq 14, 3) := dk_153 0 14 (dk_at dksX1_isStart_0 7 rfl rfl)
theorem dX1_isStart_10 : decode cX1_isStart 10 = .ok (.iload_n 0, 1) := dk_26 (dk_at dksX1_isStart_0 10 rfl rfl)
theorem dX1_isStart_11 : decode cX1_isStart 11 = .ok (.bipush 15, 2) := dk_16 15 (dk_at dksX1_isStart_0 11 rfl rfl)
theorem dX1_isStart_13 : decode cX1_isStart 13 = .ok (.irem, 1) := dk_112 (dk_at dksX1_isStart_0 13 rfl rfl)
theorem dX1_isStart_14 : decode cX1_isStart 14 = .ok (.ifCond .ne 7, 3) := dk_154 0 7 (dk_at dksX1_isStart_0 14 rfl rfl)
theorem dX1_isStart_17 : decode cX1_isStart 17 = .ok (.iconst 1, 1) := dk_4 (dk_at dksX1_isStart_0 17 rfl rfl)
theorem dX1_isStart_18 : decode cX1_isStart 18 = .ok (.goto 4, 3) := dk_167 0 4 (dk_at dksX1_isStart_0 18 rfl rfl)
theorem dX1_isStart_21 : decode cX1_isStart 21 = .ok (.iconst 0, 1) := dk_3 (dk_at dksX1_isStart_0 21 rfl rfl)
theorem dX1_isStart_22 : decode cX1_isStart 22 = .ok (.ireturn, 1) := dk_172 (dk_at dksX1_isStart_0 22 rfl rfl)
abbrev cX1_problemOf : ByteArray := prog_1_method_26_code
def yX1_problemOf : MethodName := ⟨RX1, "problemOf", "(LHallPlan$Event;II)I"⟩
def dkwX1_problemOf_1 : List UInt8 := [185, 0, 247, 4, 0, 153, 0, 6, 21, 4, 172, 132, 4, 1, 167, 255, 225, 3, 172]
abbrev dktX1_problemOf_1 : List UInt8 := dkwX1_problemOf_1 ++ []
def dkwX1_problemOf_0 : List UInt8 := [4, 54, 4, 21, 4, 16, 6, 163, 0, 30, 42, 180, 0, 45, 21, 4, 50, 43, 28, 29]
abbrev dktX1_problemOf_0 : List UInt8 := dkwX1_problemOf_0 ++ dktX1_problemOf_1
theorem dksX1_problemOf_0 : cX1_problemOf.data.toList.drop 0 = dktX1_problemOf_0 := by decide +kernel
theorem dksX1_problemOf_1 : cX1_problemOf.data.toList.drop 20 = dktX1_problemOf_1 := dk_seg dksX1_problemOf_0 20 rfl rfl
theorem dX1_problemOf_0 : decode cX1_problemOf 0 = .ok (.iconst 1, 1) := dk_4 (dk_at dksX1_problemOf_0 0 rfl rfl)
theorem dX1_problemOf_1 : decode cX1_problemOf 1 = .ok (.istore 4, 2) := dk_54 4 (dk_at dksX1_problemOf_0 1 rfl rfl)
theorem dX1_problemOf_3 : decode cX1_problemOf 3 = .ok (.iload 4, 2) := dk_21 4 (dk_at dksX1_problemOf_0 3 rfl rfl)
theorem dX1_problemOf_5 : decode cX1_problemOf 5 = .ok (.bipush 6, 2) := dk_16 6 (dk_at dksX1_problemOf_0 5 rfl rfl)
theorem dX1_problemOf_7 : decode cX1_problemOf 7 = .ok (.if_icmp .gt 30, 3) := dk_163 0 30 (dk_at dksX1_problemOf_0 7 rfl rfl)
theorem dX1_problemOf_10 : decode cX1_problemOf 10 = .ok (.aload_n 0, 1) := dk_42 (dk_at dksX1_problemOf_0 10 rfl rfl)
theorem dX1_problemOf_11 : decode cX1_problemOf 11 = .ok (.getfield 45, 3) := dk_180 0 45 (dk_at dksX1_problemOf_0 11 rfl rfl)
theorem dX1_problemOf_14 : decode cX1_problemOf 14 = .ok (.iload 4, 2) := dk_21 4 (dk_at dksX1_problemOf_0 14 rfl rfl)
theorem dX1_problemOf_16 : decode cX1_problemOf 16 = .ok (.aaload, 1) := dk_50 (dk_at dksX1_problemOf_0 16 rfl rfl)
theorem dX1_problemOf_17 : decode cX1_problemOf 17 = .ok (.aload_n 1, 1) := dk_43 (dk_at dksX1_problemOf_0 17 rfl rfl)
theorem dX1_problemOf_18 : decode cX1_problemOf 18 = .ok (.iload_n 2, 1) := dk_28 (dk_at dksX1_problemOf_0 18 rfl rfl)
theorem dX1_problemOf_19 : decode cX1_problemOf 19 = .ok (.iload_n 3, 1) := dk_29 (dk_at dksX1_problemOf_0 19 rfl rfl)
theorem dX1_problemOf_20 : decode cX1_problemOf 20 = .ok (.invokeinterface 247 4, 5) := by decide +kernel
theorem dX1_problemOf_25 : decode cX1_problemOf 25 = .ok (.ifCond .eq 6, 3) := dk_153 0 6 (dk_at dksX1_problemOf_1 5 rfl rfl)
theorem dX1_problemOf_28 : decode cX1_problemOf 28 = .ok (.iload 4, 2) := dk_21 4 (dk_at dksX1_problemOf_1 8 rfl rfl)
theorem dX1_problemOf_30 : decode cX1_problemOf 30 = .ok (.ireturn, 1) := dk_172 (dk_at dksX1_problemOf_1 10 rfl rfl)
theorem dX1_problemOf_31 : decode cX1_problemOf 31 = .ok (.iinc 4 1, 3) := dk_132 4 1 (dk_at dksX1_problemOf_1 11 rfl rfl)
theorem dX1_problemOf_34 : decode cX1_problemOf 34 = .ok (.goto (-31), 3) := dk_167 255 225 (dk_at dksX1_problemOf_1 14 rfl rfl)
theorem dX1_problemOf_37 : decode cX1_problemOf 37 = .ok (.iconst 0, 1) := dk_3 (dk_at dksX1_problemOf_1 17 rfl rfl)
theorem dX1_problemOf_38 : decode cX1_problemOf 38 = .ok (.ireturn, 1) := dk_172 (dk_at dksX1_problemOf_1 18 rfl rfl)
abbrev cX1_record : ByteArray := prog_1_method_13_code
def yX1_record : MethodName := ⟨RX1, "record", "()V"⟩
def dkwX1_record_1 : List UInt8 := [187, 0, 20, 89, 42, 180, 0, 25, 183, 0, 147, 182, 0, 150, 177]
abbrev dktX1_record_1 : List UInt8 := dkwX1_record_1 ++ []
def dkwX1_record_0 : List UInt8 := [42, 180, 0, 39, 182, 0, 142, 16, 8, 160, 0, 11, 42, 180, 0, 39, 182, 0, 143, 87, 42, 180, 0, 39]
abbrev dktX1_record_0 : List UInt8 := dkwX1_record_0 ++ dktX1_record_1
theorem dksX1_record_0 : cX1_record.data.toList.drop 0 = dktX1_record_0 := by decide +kernel
theorem dksX1_record_1 : cX1_record.data.toList.drop 24 = dktX1_record_1 := dk_seg dksX1_record_0 24 rfl rfl
theorem dX1_record_0 : decode cX1_record 0 = .ok (.aload_n 0, 1) := dk_42 (dk_at dksX1_record_0 0 rfl rfl)
theorem dX1_record_1 : decode cX1_record 1 = .ok (.getfield 39, 3) := dk_180 0 39 (dk_at dksX1_record_0 1 rfl rfl)
theorem dX1_record_4 : decode cX1_record 4 = .ok (.invokevirtual 142, 3) := dk_182 0 142 (dk_at dksX1_record_0 4 rfl rfl)
theorem dX1_record_7 : decode cX1_record 7 = .ok (.bipush 8, 2) := dk_16 8 (dk_at dksX1_record_0 7 rfl rfl)
theorem dX1_record_9 : decode cX1_record 9 = .ok (.if_icmp .ne 11, 3) := dk_160 0 11 (dk_at dksX1_record_0 9 rfl rfl)
theorem dX1_record_12 : decode cX1_record 12 = .ok (.aload_n 0, 1) := dk_42 (dk_at dksX1_record_0 12 rfl rfl)
theorem dX1_record_13 : decode cX1_record 13 = .ok (.getfield 39, 3) := dk_180 0 39 (dk_at dksX1_record_0 13 rfl rfl)
theorem dX1_record_16 : decode cX1_record 16 = .ok (.invokevirtual 143, 3) := dk_182 0 143 (dk_at dksX1_record_0 16 rfl rfl)
theorem dX1_record_19 : decode cX1_record 19 = .ok (.pop, 1) := dk_87 (dk_at dksX1_record_0 19 rfl rfl)
theorem dX1_record_20 : decode cX1_record 20 = .ok (.aload_n 0, 1) := dk_42 (dk_at dksX1_record_0 20 rfl rfl)
theorem dX1_record_21 : decode cX1_record 21 = .ok (.getfield 39, 3) := dk_180 0 39 (dk_at dksX1_record_0 21 rfl rfl)
theorem dX1_record_24 : decode cX1_record 24 = .ok (.new 20, 3) := dk_187 0 20 (dk_at dksX1_record_1 0 rfl rfl)
theorem dX1_record_27 : decode cX1_record 27 = .ok (.dup, 1) := dk_89 (dk_at dksX1_record_1 3 rfl rfl)
theorem dX1_record_28 : decode cX1_record 28 = .ok (.aload_n 0, 1) := dk_42 (dk_at dksX1_record_1 4 rfl rfl)
theorem dX1_record_29 : decode cX1_record 29 = .ok (.getfield 25, 3) := dk_180 0 25 (dk_at dksX1_record_1 5 rfl rfl)
theorem dX1_record_32 : decode cX1_record 32 = .ok (.invokespecial 147, 3) := dk_183 0 147 (dk_at dksX1_record_1 8 rfl rfl)
theorem dX1_record_35 : decode cX1_record 35 = .ok (.invokevirtual 150, 3) := dk_182 0 150 (dk_at dksX1_record_1 11 rfl rfl)
theorem dX1_record_38 : decode cX1_record 38 = .ok (.return_, 1) := dk_177 (dk_at dksX1_record_1 14 rfl rfl)
abbrev cX1_add : ByteArray := prog_1_method_44_code
def yX1_add : MethodName := ⟨RX1, "add", "(LHallPlan$Event;II)I"⟩
def dkwX1_add_1 : List UInt8 := [183, 1, 102, 185, 1, 105, 2, 0, 87, 42, 180, 0, 25, 180, 0, 160, 185, 0, 136, 1, 0, 4, 100, 172]
abbrev dktX1_add_1 : List UInt8 := dkwX1_add_1 ++ []
def dkwX1_add_0 : List UInt8 := [42, 180, 0, 25, 180, 0, 160, 187, 0, 62, 89, 43, 28, 29, 42, 180, 0, 16, 43, 28, 29, 182, 0, 254]
abbrev dktX1_add_0 : List UInt8 := dkwX1_add_0 ++ dktX1_add_1
theorem dksX1_add_0 : cX1_add.data.toList.drop 0 = dktX1_add_0 := by decide +kernel
theorem dksX1_add_1 : cX1_add.data.toList.drop 24 = dktX1_add_1 := dk_seg dksX1_add_0 24 rfl rfl
theorem dX1_add_0 : decode cX1_add 0 = .ok (.aload_n 0, 1) := dk_42 (dk_at dksX1_add_0 0 rfl rfl)
theorem dX1_add_1 : decode cX1_add 1 = .ok (.getfield 25, 3) := dk_180 0 25 (dk_at dksX1_add_0 1 rfl rfl)
theorem dX1_add_4 : decode cX1_add 4 = .ok (.getfield 160, 3) := dk_180 0 160 (dk_at dksX1_add_0 4 rfl rfl)
theorem dX1_add_7 : decode cX1_add 7 = .ok (.new 62, 3) := dk_187 0 62 (dk_at dksX1_add_0 7 rfl rfl)
theorem dX1_add_10 : decode cX1_add 10 = .ok (.dup, 1) := dk_89 (dk_at dksX1_add_0 10 rfl rfl)
theorem dX1_add_11 : decode cX1_add 11 = .ok (.aload_n 1, 1) := dk_43 (dk_at dksX1_add_0 11 rfl rfl)
theorem dX1_add_12 : decode cX1_add 12 = .ok (.iload_n 2, 1) := dk_28 (dk_at dksX1_add_0 12 rfl rfl)
theorem dX1_add_13 : decode cX1_add 13 = .ok (.iload_n 3, 1) := dk_29 (dk_at dksX1_add_0 13 rfl rfl)
theorem dX1_add_14 : decode cX1_add 14 = .ok (.aload_n 0, 1) := dk_42 (dk_at dksX1_add_0 14 rfl rfl)
theorem dX1_add_15 : decode cX1_add 15 = .ok (.getfield 16, 3) := dk_180 0 16 (dk_at dksX1_add_0 15 rfl rfl)
theorem dX1_add_18 : decode cX1_add 18 = .ok (.aload_n 1, 1) := dk_43 (dk_at dksX1_add_0 18 rfl rfl)
theorem dX1_add_19 : decode cX1_add 19 = .ok (.iload_n 2, 1) := dk_28 (dk_at dksX1_add_0 19 rfl rfl)
theorem dX1_add_20 : decode cX1_add 20 = .ok (.iload_n 3, 1) := dk_29 (dk_at dksX1_add_0 20 rfl rfl)
theorem dX1_add_21 : decode cX1_add 21 = .ok (.invokevirtual 254, 3) := dk_182 0 254 (dk_at dksX1_add_0 21 rfl rfl)
theorem dX1_add_24 : decode cX1_add 24 = .ok (.invokespecial 358, 3) := dk_183 1 102 (dk_at dksX1_add_1 0 rfl rfl)
theorem dX1_add_27 : decode cX1_add 27 = .ok (.invokeinterface 361 2, 5) := by decide +kernel
theorem dX1_add_32 : decode cX1_add 32 = .ok (.pop, 1) := dk_87 (dk_at dksX1_add_1 8 rfl rfl)
theorem dX1_add_33 : decode cX1_add 33 = .ok (.aload_n 0, 1) := dk_42 (dk_at dksX1_add_1 9 rfl rfl)
theorem dX1_add_34 : decode cX1_add 34 = .ok (.getfield 25, 3) := dk_180 0 25 (dk_at dksX1_add_1 10 rfl rfl)
theorem dX1_add_37 : decode cX1_add 37 = .ok (.getfield 160, 3) := dk_180 0 160 (dk_at dksX1_add_1 13 rfl rfl)
theorem dX1_add_40 : decode cX1_add 40 = .ok (.invokeinterface 136 1, 5) := by decide +kernel
theorem dX1_add_45 : decode cX1_add 45 = .ok (.iconst 1, 1) := dk_4 (dk_at dksX1_add_1 21 rfl rfl)
theorem dX1_add_46 : decode cX1_add 46 = .ok (.isub, 1) := dk_100 (dk_at dksX1_add_1 22 rfl rfl)
theorem dX1_add_47 : decode cX1_add 47 = .ok (.ireturn, 1) := dk_172 (dk_at dksX1_add_1 23 rfl rfl)
abbrev cX1_cancel : ByteArray := prog_1_method_49_code
def yX1_cancel : MethodName := ⟨RX1, "cancel", "(I)I"⟩
def dkwX1_cancel_1 : List UInt8 := [44, 3, 181, 1, 36, 42, 182, 1, 130, 44, 180, 1, 127, 172]
abbrev dktX1_cancel_1 : List UInt8 := dkwX1_cancel_1 ++ []
def dkwX1_cancel_0 : List UInt8 := [42, 27, 182, 1, 119, 42, 182, 1, 79, 42, 27, 182, 0, 204, 77, 44, 42, 44, 182, 1, 123, 181, 1, 127]
abbrev dktX1_cancel_0 : List UInt8 := dkwX1_cancel_0 ++ dktX1_cancel_1
theorem dksX1_cancel_0 : cX1_cancel.data.toList.drop 0 = dktX1_cancel_0 := by decide +kernel
theorem dksX1_cancel_1 : cX1_cancel.data.toList.drop 24 = dktX1_cancel_1 := dk_seg dksX1_cancel_0 24 rfl rfl
theorem dX1_cancel_0 : decode cX1_cancel 0 = .ok (.aload_n 0, 1) := dk_42 (dk_at dksX1_cancel_0 0 rfl rfl)
theorem dX1_cancel_1 : decode cX1_cancel 1 = .ok (.iload_n 1, 1) := dk_27 (dk_at dksX1_cancel_0 1 rfl rfl)
theorem dX1_cancel_2 : decode cX1_cancel 2 = .ok (.invokevirtual 375, 3) := dk_182 1 119 (dk_at dksX1_cancel_0 2 rfl rfl)
theorem dX1_cancel_5 : decode cX1_cancel 5 = .ok (.aload_n 0, 1) := dk_42 (dk_at dksX1_cancel_0 5 rfl rfl)
theorem dX1_cancel_6 : decode cX1_cancel 6 = .ok (.invokevirtual 335, 3) := dk_182 1 79 (dk_at dksX1_cancel_0 6 rfl rfl)
theorem dX1_cancel_9 : decode cX1_cancel 9 = .ok (.aload_n 0, 1) := dk_42 (dk_at dksX1_cancel_0 9 rfl rfl)
theorem dX1_cancel_10 : decode cX1_cancel 10 = .ok (.iload_n 1, 1) := dk_27 (dk_at dksX1_cancel_0 10 rfl rfl)
theorem dX1_cancel_11 : decode cX1_cancel 11 = .ok (.invokevirtual 204, 3) := dk_182 0 204 (dk_at dksX1_cancel_0 11 rfl rfl)
theorem dX1_cancel_14 : decode cX1_cancel 14 = .ok (.astore_n 2, 1) := dk_77 (dk_at dksX1_cancel_0 14 rfl rfl)
theorem dX1_cancel_15 : decode cX1_cancel 15 = .ok (.aload_n 2, 1) := dk_44 (dk_at dksX1_cancel_0 15 rfl rfl)
theorem dX1_cancel_16 : decode cX1_cancel 16 = .ok (.aload_n 0, 1) := dk_42 (dk_at dksX1_cancel_0 16 rfl rfl)
theorem dX1_cancel_17 : decode cX1_cancel 17 = .ok (.aload_n 2, 1) := dk_44 (dk_at dksX1_cancel_0 17 rfl rfl)
theorem dX1_cancel_18 : decode cX1_cancel 18 = .ok (.invokevirtual 379, 3) := dk_182 1 123 (dk_at dksX1_cancel_0 18 rfl rfl)
theorem dX1_cancel_21 : decode cX1_cancel 21 = .ok (.putfield 383, 3) := dk_181 1 127 (dk_at dksX1_cancel_0 21 rfl rfl)
theorem dX1_cancel_24 : decode cX1_cancel 24 = .ok (.aload_n 2, 1) := dk_44 (dk_at dksX1_cancel_1 0 rfl rfl)
theorem dX1_cancel_25 : decode cX1_cancel 25 = .ok (.iconst 0, 1) := dk_3 (dk_at dksX1_cancel_1 1 rfl rfl)
theorem dX1_cancel_26 : decode cX1_cancel 26 = .ok (.putfield 292, 3) := dk_181 1 36 (dk_at dksX1_cancel_1 2 rfl rfl)
theorem dX1_cancel_29 : decode cX1_cancel 29 = .ok (.aload_n 0, 1) := dk_42 (dk_at dksX1_cancel_1 5 rfl rfl)
theorem dX1_cancel_30 : decode cX1_cancel 30 = .ok (.invokevirtual 386, 3) := dk_182 1 130 (dk_at dksX1_cancel_1 6 rfl rfl)
theorem dX1_cancel_33 : decode cX1_cancel 33 = .ok (.aload_n 2, 1) := dk_44 (dk_at dksX1_cancel_1 9 rfl rfl)
theorem dX1_cancel_34 : decode cX1_cancel 34 = .ok (.getfield 383, 3) := dk_180 1 127 (dk_at dksX1_cancel_1 10 rfl rfl)
theorem dX1_cancel_37 : decode cX1_cancel 37 = .ok (.ireturn, 1) := dk_172 (dk_at dksX1_cancel_1 13 rfl rfl)
abbrev cX1_needOpenBooking : ByteArray := prog_1_method_47_code
def yX1_needOpenBooking : MethodName := ⟨RX1, "needOpenBooking", "(I)V"⟩
def dkwX1_needOpenBooking_0 : List UInt8 := [42, 27, 182, 1, 29, 184, 1, 33, 42, 42, 27, 182, 0, 204, 182, 1, 57, 184, 0, 94, 177]
abbrev dktX1_needOpenBooking_0 : List UInt8 := dkwX1_needOpenBooking_0 ++ []
theorem dksX1_needOpenBooking_0 : cX1_needOpenBooking.data.toList.drop 0 = dktX1_needOpenBooking_0 := by decide +kernel
theorem dX1_needOpenBooking_0 : decode cX1_needOpenBooking 0 = .ok (.aload_n 0, 1) := dk_42 (dk_at dksX1_needOpenBooking_0 0 rfl rfl)
theorem dX1_needOpenBooking_1 : decode cX1_needOpenBooking 1 = .ok (.iload_n 1, 1) := dk_27 (dk_at dksX1_needOpenBooking_0 1 rfl rfl)
theorem dX1_needOpenBooking_2 : decode cX1_needOpenBooking 2 = .ok (.invokevirtual 285, 3) := dk_182 1 29 (dk_at dksX1_needOpenBooking_0 2 rfl rfl)
theorem dX1_needOpenBooking_5 : decode cX1_needOpenBooking 5 = .ok (.invokestatic 289, 3) := dk_184 1 33 (dk_at dksX1_needOpenBooking_0 5 rfl rfl)
theorem dX1_needOpenBooking_8 : decode cX1_needOpenBooking 8 = .ok (.aload_n 0, 1) := dk_42 (dk_at dksX1_needOpenBooking_0 8 rfl rfl)
theorem dX1_needOpenBooking_9 : decode cX1_needOpenBooking 9 = .ok (.aload_n 0, 1) := dk_42 (dk_at dksX1_needOpenBooking_0 9 rfl rfl)
theorem dX1_needOpenBooking_10 : decode cX1_needOpenBooking 10 = .ok (.iload_n 1, 1) := dk_27 (dk_at dksX1_needOpenBooking_0 10 rfl rfl)
theorem dX1_needOpenBooking_11 : decode cX1_needOpenBooking 11 = .ok (.invokevirtual 204, 3) := dk_182 0 204 (dk_at dksX1_needOpenBooking_0 11 rfl rfl)
theorem dX1_needOpenBooking_14 : decode cX1_needOpenBooking 14 = .ok (.invokevirtual 313, 3) := dk_182 1 57 (dk_at dksX1_needOpenBooking_0 14 rfl rfl)
theorem dX1_needOpenBooking_17 : decode cX1_needOpenBooking 17 = .ok (.invokestatic 94, 3) := dk_184 0 94 (dk_at dksX1_needOpenBooking_0 17 rfl rfl)
theorem dX1_needOpenBooking_20 : decode cX1_needOpenBooking 20 = .ok (.return_, 1) := dk_177 (dk_at dksX1_needOpenBooking_0 20 rfl rfl)
abbrev cX1_isBooking : ByteArray := prog_1_method_17_code
def yX1_isBooking : MethodName := ⟨RX1, "isBooking", "(I)Z"⟩
def dkwX1_isBooking_0 : List UInt8 := [27, 3, 42, 180, 0, 25, 180, 0, 160, 185, 0, 136, 1, 0, 4, 100, 184, 0, 98, 172]
abbrev dktX1_isBooking_0 : List UInt8 := dkwX1_isBooking_0 ++ []
theorem dksX1_isBooking_0 : cX1_isBooking.data.toList.drop 0 = dktX1_isBooking_0 := by decide +kernel
theorem dX1_isBooking_0 : decode cX1_isBooking 0 = .ok (.iload_n 1, 1) := dk_27 (dk_at dksX1_isBooking_0 0 rfl rfl)
theorem dX1_isBooking_1 : decode cX1_isBooking 1 = .ok (.iconst 0, 1) := dk_3 (dk_at dksX1_isBooking_0 1 rfl rfl)
theorem dX1_isBooking_2 : decode cX1_isBooking 2 = .ok (.aload_n 0, 1) := dk_42 (dk_at dksX1_isBooking_0 2 rfl rfl)
theorem dX1_isBooking_3 : decode cX1_isBooking 3 = .ok (.getfield 25, 3) := dk_180 0 25 (dk_at dksX1_isBooking_0 3 rfl rfl)
theorem dX1_isBooking_6 : decode cX1_isBooking 6 = .ok (.getfield 160, 3) := dk_180 0 160 (dk_at dksX1_isBooking_0 6 rfl rfl)
theorem dX1_isBooking_9 : decode cX1_isBooking 9 = .ok (.invokeinterface 136 1, 5) := by decide +kernel
theorem dX1_isBooking_14 : decode cX1_isBooking 14 = .ok (.iconst 1, 1) := dk_4 (dk_at dksX1_isBooking_0 14 rfl rfl)
theorem dX1_isBooking_15 : decode cX1_isBooking 15 = .ok (.isub, 1) := dk_100 (dk_at dksX1_isBooking_0 15 rfl rfl)
theorem dX1_isBooking_16 : decode cX1_isBooking 16 = .ok (.invokestatic 98, 3) := dk_184 0 98 (dk_at dksX1_isBooking_0 16 rfl rfl)
theorem dX1_isBooking_19 : decode cX1_isBooking 19 = .ok (.ireturn, 1) := dk_172 (dk_at dksX1_isBooking_0 19 rfl rfl)
abbrev cX1_isLink : ByteArray := prog_1_method_36_code
def yX1_isLink : MethodName := ⟨RX1, "isLink", "(LHallPlan$Booking;)Z"⟩
def dkwX1_isLink_1 : List UInt8 := [167, 0, 4, 3, 172]
abbrev dktX1_isLink_1 : List UInt8 := dkwX1_isLink_1 ++ []
def dkwX1_isLink_0 : List UInt8 := [43, 180, 1, 36, 153, 0, 21, 43, 180, 0, 201, 42, 180, 0, 25, 180, 1, 16, 161, 0, 7, 4]
abbrev dktX1_isLink_0 : List UInt8 := dkwX1_isLink_0 ++ dktX1_isLink_1
theorem dksX1_isLink_0 : cX1_isLink.data.toList.drop 0 = dktX1_isLink_0 := by decide +kernel
theorem dksX1_isLink_1 : cX1_isLink.data.toList.drop 22 = dktX1_isLink_1 := dk_seg dksX1_isLink_0 22 rfl rfl
theorem dX1_isLink_0 : decode cX1_isLink 0 = .ok (.aload_n 1, 1) := dk_43 (dk_at dksX1_isLink_0 0 rfl rfl)
theorem dX1_isLink_1 : decode cX1_isLink 1 = .ok (.getfield 292, 3) := dk_180 1 36 (dk_at dksX1_isLink_0 1 rfl rfl)
theorem dX1_isLink_4 : decode cX1_isLink 4 = .ok (.ifCond .eq 21, 3) := dk_153 0 21 (dk_at dksX1_isLink_0 4 rfl rfl)
theorem dX1_isLink_7 : decode cX1_isLink 7 = .ok (.aload_n 1, 1) := dk_43 (dk_at dksX1_isLink_0 7 rfl rfl)
theorem dX1_isLink_8 : decode cX1_isLink 8 = .ok (.getfield 201, 3) := dk_180 0 201 (dk_at dksX1_isLink_0 8 rfl rfl)
theorem dX1_isLink_11 : decode cX1_isLink 11 = .ok (.aload_n 0, 1) := dk_42 (dk_at dksX1_isLink_0 11 rfl rfl)
theorem dX1_isLink_12 : decode cX1_isLink 12 = .ok (.getfield 25, 3) := dk_180 0 25 (dk_at dksX1_isLink_0 12 rfl rfl)
theorem dX1_isLink_15 : decode cX1_isLink 15 = .ok (.getfield 272, 3) := dk_180 1 16 (dk_at dksX1_isLink_0 15 rfl rfl)
theorem dX1_isLink_18 : decode cX1_isLink 18 = .ok (.if_icmp .lt 7, 3) := dk_161 0 7 (dk_at dksX1_isLink_0 18 rfl rfl)
theorem dX1_isLink_21 : decode cX1_isLink 21 = .ok (.iconst 1, 1) := dk_4 (dk_at dksX1_isLink_0 21 rfl rfl)
theorem dX1_isLink_22 : decode cX1_isLink 22 = .ok (.goto 4, 3) := dk_167 0 4 (dk_at dksX1_isLink_1 0 rfl rfl)
theorem dX1_isLink_25 : decode cX1_isLink 25 = .ok (.iconst 0, 1) := dk_3 (dk_at dksX1_isLink_1 3 rfl rfl)
theorem dX1_isLink_26 : decode cX1_isLink 26 = .ok (.ireturn, 1) := dk_172 (dk_at dksX1_isLink_1 4 rfl rfl)
abbrev cX1_feeOf : ByteArray := prog_1_method_46_code
def yX1_feeOf : MethodName := ⟨RX1, "feeOf", "(LHallPlan$Booking;)I"⟩
def dkwX1_feeOf_1 : List UInt8 := [182, 1, 115, 104, 16, 100, 108, 172]
abbrev dktX1_feeOf_1 : List UInt8 := dkwX1_feeOf_1 ++ []
def dkwX1_feeOf_0 : List UInt8 := [43, 180, 1, 2, 42, 180, 0, 16, 43, 180, 0, 201, 42, 180, 0, 25, 180, 1, 16, 100, 17, 5, 160, 108]
abbrev dktX1_feeOf_0 : List UInt8 := dkwX1_feeOf_0 ++ dktX1_feeOf_1
theorem dksX1_feeOf_0 : cX1_feeOf.data.toList.drop 0 = dktX1_feeOf_0 := by decide +kernel
theorem dksX1_feeOf_1 : cX1_feeOf.data.toList.drop 24 = dktX1_feeOf_1 := dk_seg dksX1_feeOf_0 24 rfl rfl
theorem dX1_feeOf_0 : decode cX1_feeOf 0 = .ok (.aload_n 1, 1) := dk_43 (dk_at dksX1_feeOf_0 0 rfl rfl)
theorem dX1_feeOf_1 : decode cX1_feeOf 1 = .ok (.getfield 258, 3) := dk_180 1 2 (dk_at dksX1_feeOf_0 1 rfl rfl)
theorem dX1_feeOf_4 : decode cX1_feeOf 4 = .ok (.aload_n 0, 1) := dk_42 (dk_at dksX1_feeOf_0 4 rfl rfl)
theorem dX1_feeOf_5 : decode cX1_feeOf 5 = .ok (.getfield 16, 3) := dk_180 0 16 (dk_at dksX1_feeOf_0 5 rfl rfl)
theorem dX1_feeOf_8 : decode cX1_feeOf 8 = .ok (.aload_n 1, 1) := dk_43 (dk_at dksX1_feeOf_0 8 rfl rfl)
theorem dX1_feeOf_9 : decode cX1_feeOf 9 = .ok (.getfield 201, 3) := dk_180 0 201 (dk_at dksX1_feeOf_0 9 rfl rfl)
theorem dX1_feeOf_12 : decode cX1_feeOf 12 = .ok (.aload_n 0, 1) := dk_42 (dk_at dksX1_feeOf_0 12 rfl rfl)
theorem dX1_feeOf_13 : decode cX1_feeOf 13 = .ok (.getfield 25, 3) := dk_180 0 25 (dk_at dksX1_feeOf_0 13 rfl rfl)
theorem dX1_feeOf_16 : decode cX1_feeOf 16 = .ok (.getfield 272, 3) := dk_180 1 16 (dk_at dksX1_feeOf_0 16 rfl rfl)
theorem dX1_feeOf_19 : decode cX1_feeOf 19 = .ok (.isub, 1) := dk_100 (dk_at dksX1_feeOf_0 19 rfl rfl)
theorem dX1_feeOf_20 : decode cX1_feeOf 20 = .ok (.sipush 1440, 3) := dk_17 5 160 (dk_at dksX1_feeOf_0 20 rfl rfl)
theorem dX1_feeOf_23 : decode cX1_feeOf 23 = .ok (.idiv, 1) := dk_108 (dk_at dksX1_feeOf_0 23 rfl rfl)
theorem dX1_feeOf_24 : decode cX1_feeOf 24 = .ok (.invokevirtual 371, 3) := dk_182 1 115 (dk_at dksX1_feeOf_1 0 rfl rfl)
theorem dX1_feeOf_27 : decode cX1_feeOf 27 = .ok (.imul, 1) := dk_104 (dk_at dksX1_feeOf_1 3 rfl rfl)
theorem dX1_feeOf_28 : decode cX1_feeOf 28 = .ok (.bipush 100, 2) := dk_16 100 (dk_at dksX1_feeOf_1 4 rfl rfl)
theorem dX1_feeOf_30 : decode cX1_feeOf 30 = .ok (.idiv, 1) := dk_108 (dk_at dksX1_feeOf_1 6 rfl rfl)
theorem dX1_feeOf_31 : decode cX1_feeOf 31 = .ok (.ireturn, 1) := dk_172 (dk_at dksX1_feeOf_1 7 rfl rfl)
abbrev cX1_serveRequests : ByteArray := prog_1_method_50_code
def yX1_serveRequests : MethodName := ⟨RX1, "serveRequests", "()V"⟩
def dkwX1_serveRequests_4 : List UInt8 := [177]
abbrev dktX1_serveRequests_4 : List UInt8 := dkwX1_serveRequests_4 ++ []
def dkwX1_serveRequests_3 : List UInt8 := [180, 1, 150, 44, 180, 1, 151, 44, 180, 1, 152, 182, 1, 113, 87, 43, 185, 1, 153, 1, 0, 167, 255, 178]
abbrev dktX1_serveRequests_3 : List UInt8 := dkwX1_serveRequests_3 ++ dktX1_serveRequests_4
def dkwX1_serveRequests_2 : List UInt8 := [162, 0, 45, 42, 44, 180, 1, 150, 44, 180, 1, 151, 44, 180, 1, 152, 182, 1, 4, 154, 0, 26, 42, 44]
abbrev dktX1_serveRequests_2 : List UInt8 := dkwX1_serveRequests_2 ++ dktX1_serveRequests_3
def dkwX1_serveRequests_1 : List UInt8 := [185, 1, 145, 1, 0, 192, 1, 148, 77, 42, 180, 0, 25, 180, 0, 160, 185, 0, 136, 1, 0, 16, 60]
abbrev dktX1_serveRequests_1 : List UInt8 := dkwX1_serveRequests_1 ++ dktX1_serveRequests_2
def dkwX1_serveRequests_0 : List UInt8 := [42, 180, 0, 25, 180, 1, 133, 185, 1, 136, 1, 0, 76, 43, 185, 1, 140, 1, 0, 153, 0, 75, 43]
abbrev dktX1_serveRequests_0 : List UInt8 := dkwX1_serveRequests_0 ++ dktX1_serveRequests_1
theorem dksX1_serveRequests_0 : cX1_serveRequests.data.toList.drop 0 = dktX1_serveRequests_0 := by decide +kernel
theorem dksX1_serveRequests_1 : cX1_serveRequests.data.toList.drop 23 = dktX1_serveRequests_1 := dk_seg dksX1_serveRequests_0 23 rfl rfl
theorem dksX1_serveRequests_2 : cX1_serveRequests.data.toList.drop 46 = dktX1_serveRequests_2 := dk_seg dksX1_serveRequests_1 23 rfl rfl
theorem dksX1_serveRequests_3 : cX1_serveRequests.data.toList.drop 70 = dktX1_serveRequests_3 := dk_seg dksX1_serveRequests_2 24 rfl rfl
theorem dksX1_serveRequests_4 : cX1_serveRequests.data.toList.drop 94 = dktX1_serveRequests_4 := dk_seg dksX1_serveRequests_3 24 rfl rfl
theorem dX1_serveRequests_0 : decode cX1_serveRequests 0 = .ok (.aload_n 0, 1) := dk_42 (dk_at dksX1_serveRequests_0 0 rfl rfl)
theorem dX1_serveRequests_1 : decode cX1_serveRequests 1 = .ok (.getfield 25, 3) := dk_180 0 25 (dk_at dksX1_serveRequests_0 1 rfl rfl)
theorem dX1_serveRequests_4 : decode cX1_serveRequests 4 = .ok (.getfield 389, 3) := dk_180 1 133 (dk_at dksX1_serveRequests_0 4 rfl rfl)
theorem dX1_serveRequests_7 : decode cX1_serveRequests 7 = .ok (.invokeinterface 392 1, 5) := by decide +kernel
theorem dX1_serveRequests_12 : decode cX1_serveRequests 12 = .ok (.astore_n 1, 1) := dk_76 (dk_at dksX1_serveRequests_0 12 rfl rfl)
theorem dX1_serveRequests_13 : decode cX1_serveRequests 13 = .ok (.aload_n 1, 1) := dk_43 (dk_at dksX1_serveRequests_0 13 rfl rfl)
theorem dX1_serveRequests_14 : decode cX1_serveRequests 14 = .ok (.invokeinterface 396 1, 5) := by decide +kernel
theorem dX1_serveRequests_19 : decode cX1_serveRequests 19 = .ok (.ifCond .eq 75, 3) := dk_153 0 75 (dk_at dksX1_serveRequests_0 19 rfl rfl)
theorem dX1_serveRequests_22 : decode cX1_serveRequests 22 = .ok (.aload_n 1, 1) := dk_43 (dk_at dksX1_serveRequests_0 22 rfl rfl)
theorem dX1_serveRequests_23 : decode cX1_serveRequests 23 = .ok (.invokeinterface 401 1, 5) := by decide +kernel
theorem dX1_serveRequests_28 : decode cX1_serveRequests 28 = .ok (.checkcast 404, 3) := dk_192 1 148 (dk_at dksX1_serveRequests_1 5 rfl rfl)
theorem dX1_serveRequests_31 : decode cX1_serveRequests 31 = .ok (.astore_n 2, 1) := dk_77 (dk_at dksX1_serveRequests_1 8 rfl rfl)
theorem dX1_serveRequests_32 : decode cX1_serveRequests 32 = .ok (.aload_n 0, 1) := dk_42 (dk_at dksX1_serveRequests_1 9 rfl rfl)
theorem dX1_serveRequests_33 : decode cX1_serveRequests 33 = .ok (.getfield 25, 3) := dk_180 0 25 (dk_at dksX1_serveRequests_1 10 rfl rfl)
theorem dX1_serveRequests_36 : decode cX1_serveRequests 36 = .ok (.getfield 160, 3) := dk_180 0 160 (dk_at dksX1_serveRequests_1 13 rfl rfl)
theorem dX1_serveRequests_39 : decode cX1_serveRequests 39 = .ok (.invokeinterface 136 1, 5) := by decide +kernel
theorem dX1_serveRequests_44 : decode cX1_serveRequests 44 = .ok (.bipush 60, 2) := dk_16 60 (dk_at dksX1_serveRequests_1 21 rfl rfl)
theorem dX1_serveRequests_46 : decode cX1_serveRequests 46 = .ok (.if_icmp .ge 45, 3) := dk_162 0 45 (dk_at dksX1_serveRequests_2 0 rfl rfl)
theorem dX1_serveRequests_49 : decode cX1_serveRequests 49 = .ok (.aload_n 0, 1) := dk_42 (dk_at dksX1_serveRequests_2 3 rfl rfl)
theorem dX1_serveRequests_50 : decode cX1_serveRequests 50 = .ok (.aload_n 2, 1) := dk_44 (dk_at dksX1_serveRequests_2 4 rfl rfl)
theorem dX1_serveRequests_51 : decode cX1_serveRequests 51 = .ok (.getfield 406, 3) := dk_180 1 150 (dk_at dksX1_serveRequests_2 5 rfl rfl)
theorem dX1_serveRequests_54 : decode cX1_serveRequests 54 = .ok (.aload_n 2, 1) := dk_44 (dk_at dksX1_serveRequests_2 8 rfl rfl)
theorem dX1_serveRequests_55 : decode cX1_serveRequests 55 = .ok (.getfield 407, 3) := dk_180 1 151 (dk_at dksX1_serveRequests_2 9 rfl rfl)
theorem dX1_serveRequests_58 : decode cX1_serveRequests 58 = .ok (.aload_n 2, 1) := dk_44 (dk_at dksX1_serveRequests_2 12 rfl rfl)
theorem dX1_serveRequests_59 : decode cX1_serveRequests 59 = .ok (.getfield 408, 3) := dk_180 1 152 (dk_at dksX1_serveRequests_2 13 rfl rfl)
theorem dX1_serveRequests_62 : decode cX1_serveRequests 62 = .ok (.invokevirtual 260, 3) := dk_182 1 4 (dk_at dksX1_serveRequests_2 16 rfl rfl)
theorem dX1_serveRequests_65 : decode cX1_serveRequests 65 = .ok (.ifCond .ne 26, 3) := dk_154 0 26 (dk_at dksX1_serveRequests_2 19 rfl rfl)
theorem dX1_serveRequests_68 : decode cX1_serveRequests 68 = .ok (.aload_n 0, 1) := dk_42 (dk_at dksX1_serveRequests_2 22 rfl rfl)
theorem dX1_serveRequests_69 : decode cX1_serveRequests 69 = .ok (.aload_n 2, 1) := dk_44 (dk_at dksX1_serveRequests_2 23 rfl rfl)
theorem dX1_serveRequests_70 : decode cX1_serveRequests 70 = .ok (.getfield 406, 3) := dk_180 1 150 (dk_at dksX1_serveRequests_3 0 rfl rfl)
theorem dX1_serveRequests_73 : decode cX1_serveRequests 73 = .ok (.aload_n 2, 1) := dk_44 (dk_at dksX1_serveRequests_3 3 rfl rfl)
theorem dX1_serveRequests_74 : decode cX1_serveRequests 74 = .ok (.getfield 407, 3) := dk_180 1 151 (dk_at dksX1_serveRequests_3 4 rfl rfl)
theorem dX1_serveRequests_77 : decode cX1_serveRequests 77 = .ok (.aload_n 2, 1) := dk_44 (dk_at dksX1_serveRequests_3 7 rfl rfl)
theorem dX1_serveRequests_78 : decode cX1_serveRequests 78 = .ok (.getfield 408, 3) := dk_180 1 152 (dk_at dksX1_serveRequests_3 8 rfl rfl)
theorem dX1_serveRequests_81 : decode cX1_serveRequests 81 = .ok (.invokevirtual 369, 3) := dk_182 1 113 (dk_at dksX1_serveRequests_3 11 rfl rfl)
theorem dX1_serveRequests_84 : decode cX1_serveRequests 84 = .ok (.pop, 1) := dk_87 (dk_at dksX1_serveRequests_3 14 rfl rfl)
theorem dX1_serveRequests_85 : decode cX1_serveRequests 85 = .ok (.aload_n 1, 1) := dk_43 (dk_at dksX1_serveRequests_3 15 rfl rfl)
theorem dX1_serveRequests_86 : decode cX1_serveRequests 86 = .ok (.invokeinterface 409 1, 5) := by decide +kernel
theorem dX1_serveRequests_91 : decode cX1_serveRequests 91 = .ok (.goto (-78), 3) := dk_167 255 178 (dk_at dksX1_serveRequests_3 21 rfl rfl)
theorem dX1_serveRequests_94 : decode cX1_serveRequests 94 = .ok (.return_, 1) := dk_177 (dk_at dksX1_serveRequests_4 0 rfl rfl)
abbrev cX1_move : ByteArray := prog_1_method_52_code
def yX1_move : MethodName := ⟨RX1, "move", "(III)I"⟩
def dkwX1_move_3 : List UInt8 := [180, 1, 2, 172]
abbrev dktX1_move_3 : List UInt8 := dkwX1_move_3 ++ []
def dkwX1_move_2 : List UInt8 := [27, 182, 0, 204, 58, 4, 42, 25, 4, 28, 29, 182, 1, 12, 42, 25, 4, 182, 1, 47, 25, 4]
abbrev dktX1_move_2 : List UInt8 := dkwX1_move_2 ++ dktX1_move_3
def dkwX1_move_1 : List UInt8 := [182, 0, 204, 28, 29, 182, 1, 156, 154, 0, 7, 4, 167, 0, 4, 3, 184, 0, 94, 42, 182, 1, 79, 42]
abbrev dktX1_move_1 : List UInt8 := dkwX1_move_1 ++ dktX1_move_2
def dkwX1_move_0 : List UInt8 := [42, 27, 28, 29, 182, 1, 71, 42, 42, 27, 182, 0, 204, 182, 1, 57, 153, 0, 21, 42, 42, 27]
abbrev dktX1_move_0 : List UInt8 := dkwX1_move_0 ++ dktX1_move_1
theorem dksX1_move_0 : cX1_move.data.toList.drop 0 = dktX1_move_0 := by decide +kernel
theorem dksX1_move_1 : cX1_move.data.toList.drop 22 = dktX1_move_1 := dk_seg dksX1_move_0 22 rfl rfl
theorem dksX1_move_2 : cX1_move.data.toList.drop 46 = dktX1_move_2 := dk_seg dksX1_move_1 24 rfl rfl
theorem dksX1_move_3 : cX1_move.data.toList.drop 68 = dktX1_move_3 := dk_seg dksX1_move_2 22 rfl rfl
theorem dX1_move_0 : decode cX1_move 0 = .ok (.aload_n 0, 1) := dk_42 (dk_at dksX1_move_0 0 rfl rfl)
theorem dX1_move_1 : decode cX1_move 1 = .ok (.iload_n 1, 1) := dk_27 (dk_at dksX1_move_0 1 rfl rfl)
theorem dX1_move_2 : decode cX1_move 2 = .ok (.iload_n 2, 1) := dk_28 (dk_at dksX1_move_0 2 rfl rfl)
theorem dX1_move_3 : decode cX1_move 3 = .ok (.iload_n 3, 1) := dk_29 (dk_at dksX1_move_0 3 rfl rfl)
theorem dX1_move_4 : decode cX1_move 4 = .ok (.invokevirtual 327, 3) := dk_182 1 71 (dk_at dksX1_move_0 4 rfl rfl)
theorem dX1_move_7 : decode cX1_move 7 = .ok (.aload_n 0, 1) := dk_42 (dk_at dksX1_move_0 7 rfl rfl)
theorem dX1_move_8 : decode cX1_move 8 = .ok (.aload_n 0, 1) := dk_42 (dk_at dksX1_move_0 8 rfl rfl)
theorem dX1_move_9 : decode cX1_move 9 = .ok (.iload_n 1, 1) := dk_27 (dk_at dksX1_move_0 9 rfl rfl)
theorem dX1_move_10 : decode cX1_move 10 = .ok (.invokevirtual 204, 3) := dk_182 0 204 (dk_at dksX1_move_0 10 rfl rfl)
theorem dX1_move_13 : decode cX1_move 13 = .ok (.invokevirtual 313, 3) := dk_182 1 57 (dk_at dksX1_move_0 13 rfl rfl)
theorem dX1_move_16 : decode cX1_move 16 = .ok (.ifCond .eq 21, 3) := dk_153 0 21 (dk_at dksX1_move_0 16 rfl rfl)
theorem dX1_move_19 : decode cX1_move 19 = .ok (.aload_n 0, 1) := dk_42 (dk_at dksX1_move_0 19 rfl rfl)
theorem dX1_move_20 : decode cX1_move 20 = .ok (.aload_n 0, 1) := dk_42 (dk_at dksX1_move_0 20 rfl rfl)
theorem dX1_move_21 : decode cX1_move 21 = .ok (.iload_n 1, 1) := dk_27 (dk_at dksX1_move_0 21 rfl rfl)
theorem dX1_move_22 : decode cX1_move 22 = .ok (.invokevirtual 204, 3) := dk_182 0 204 (dk_at dksX1_move_1 0 rfl rfl)
theorem dX1_move_25 : decode cX1_move 25 = .ok (.iload_n 2, 1) := dk_28 (dk_at dksX1_move_1 3 rfl rfl)
theorem dX1_move_26 : decode cX1_move 26 = .ok (.iload_n 3, 1) := dk_29 (dk_at dksX1_move_1 4 rfl rfl)
theorem dX1_move_27 : decode cX1_move 27 = .ok (.invokevirtual 412, 3) := dk_182 1 156 (dk_at dksX1_move_1 5 rfl rfl)
theorem dX1_move_30 : decode cX1_move 30 = .ok (.ifCond .ne 7, 3) := dk_154 0 7 (dk_at dksX1_move_1 8 rfl rfl)
theorem dX1_move_33 : decode cX1_move 33 = .ok (.iconst 1, 1) := dk_4 (dk_at dksX1_move_1 11 rfl rfl)
theorem dX1_move_34 : decode cX1_move 34 = .ok (.goto 4, 3) := dk_167 0 4 (dk_at dksX1_move_1 12 rfl rfl)
theorem dX1_move_37 : decode cX1_move 37 = .ok (.iconst 0, 1) := dk_3 (dk_at dksX1_move_1 15 rfl rfl)
theorem dX1_move_38 : decode cX1_move 38 = .ok (.invokestatic 94, 3) := dk_184 0 94 (dk_at dksX1_move_1 16 rfl rfl)
theorem dX1_move_41 : decode cX1_move 41 = .ok (.aload_n 0, 1) := dk_42 (dk_at dksX1_move_1 19 rfl rfl)
theorem dX1_move_42 : decode cX1_move 42 = .ok (.invokevirtual 335, 3) := dk_182 1 79 (dk_at dksX1_move_1 20 rfl rfl)
theorem dX1_move_45 : decode cX1_move 45 = .ok (.aload_n 0, 1) := dk_42 (dk_at dksX1_move_1 23 rfl rfl)
theorem dX1_move_46 : decode cX1_move 46 = .ok (.iload_n 1, 1) := dk_27 (dk_at dksX1_move_2 0 rfl rfl)
theorem dX1_move_47 : decode cX1_move 47 = .ok (.invokevirtual 204, 3) := dk_182 0 204 (dk_at dksX1_move_2 1 rfl rfl)
theorem dX1_move_50 : decode cX1_move 50 = .ok (.astore 4, 2) := dk_58 4 (dk_at dksX1_move_2 4 rfl rfl)
theorem dX1_move_52 : decode cX1_move 52 = .ok (.aload_n 0, 1) := dk_42 (dk_at dksX1_move_2 6 rfl rfl)
theorem dX1_move_53 : decode cX1_move 53 = .ok (.aload 4, 2) := dk_25 4 (dk_at dksX1_move_2 7 rfl rfl)
theorem dX1_move_55 : decode cX1_move 55 = .ok (.iload_n 2, 1) := dk_28 (dk_at dksX1_move_2 9 rfl rfl)
theorem dX1_move_56 : decode cX1_move 56 = .ok (.iload_n 3, 1) := dk_29 (dk_at dksX1_move_2 10 rfl rfl)
theorem dX1_move_57 : decode cX1_move 57 = .ok (.invokevirtual 268, 3) := dk_182 1 12 (dk_at dksX1_move_2 11 rfl rfl)
theorem dX1_move_60 : decode cX1_move 60 = .ok (.aload_n 0, 1) := dk_42 (dk_at dksX1_move_2 14 rfl rfl)
theorem dX1_move_61 : decode cX1_move 61 = .ok (.aload 4, 2) := dk_25 4 (dk_at dksX1_move_2 15 rfl rfl)
theorem dX1_move_63 : decode cX1_move 63 = .ok (.invokevirtual 303, 3) := dk_182 1 47 (dk_at dksX1_move_2 17 rfl rfl)
theorem dX1_move_66 : decode cX1_move 66 = .ok (.aload 4, 2) := dk_25 4 (dk_at dksX1_move_2 20 rfl rfl)
theorem dX1_move_68 : decode cX1_move 68 = .ok (.getfield 258, 3) := dk_180 1 2 (dk_at dksX1_move_3 0 rfl rfl)
theorem dX1_move_71 : decode cX1_move 71 = .ok (.ireturn, 1) := dk_172 (dk_at dksX1_move_3 3 rfl rfl)
abbrev cX1_needSlot : ByteArray := prog_1_method_38_code
def yX1_needSlot : MethodName := ⟨RX1, "needSlot", "(III)V"⟩
def dkwX1_needSlot_1 : List UInt8 := [29, 184, 1, 68, 184, 0, 102, 177]
abbrev dktX1_needSlot_1 : List UInt8 := dkwX1_needSlot_1 ++ []
def dkwX1_needSlot_0 : List UInt8 := [42, 27, 182, 1, 29, 153, 0, 15, 42, 28, 182, 1, 65, 153, 0, 7, 4, 167, 0, 4, 3, 184, 1, 33]
abbrev dktX1_needSlot_0 : List UInt8 := dkwX1_needSlot_0 ++ dktX1_needSlot_1
theorem dksX1_needSlot_0 : cX1_needSlot.data.toList.drop 0 = dktX1_needSlot_0 := by decide +kernel
theorem dksX1_needSlot_1 : cX1_needSlot.data.toList.drop 24 = dktX1_needSlot_1 := dk_seg dksX1_needSlot_0 24 rfl rfl
theorem dX1_needSlot_0 : decode cX1_needSlot 0 = .ok (.aload_n 0, 1) := dk_42 (dk_at dksX1_needSlot_0 0 rfl rfl)
theorem dX1_needSlot_1 : decode cX1_needSlot 1 = .ok (.iload_n 1, 1) := dk_27 (dk_at dksX1_needSlot_0 1 rfl rfl)
theorem dX1_needSlot_2 : decode cX1_needSlot 2 = .ok (.invokevirtual 285, 3) := dk_182 1 29 (dk_at dksX1_needSlot_0 2 rfl rfl)
theorem dX1_needSlot_5 : decode cX1_needSlot 5 = .ok (.ifCond .eq 15, 3) := dk_153 0 15 (dk_at dksX1_needSlot_0 5 rfl rfl)
theorem dX1_needSlot_8 : decode cX1_needSlot 8 = .ok (.aload_n 0, 1) := dk_42 (dk_at dksX1_needSlot_0 8 rfl rfl)
theorem dX1_needSlot_9 : decode cX1_needSlot 9 = .ok (.iload_n 2, 1) := dk_28 (dk_at dksX1_needSlot_0 9 rfl rfl)
theorem dX1_needSlot_10 : decode cX1_needSlot 10 = .ok (.invokevirtual 321, 3) := dk_182 1 65 (dk_at dksX1_needSlot_0 10 rfl rfl)
theorem dX1_needSlot_13 : decode cX1_needSlot 13 = .ok (.ifCond .eq 7, 3) := dk_153 0 7 (dk_at dksX1_needSlot_0 13 rfl rfl)
theorem dX1_needSlot_16 : decode cX1_needSlot 16 = .ok (.iconst 1, 1) := dk_4 (dk_at dksX1_needSlot_0 16 rfl rfl)
theorem dX1_needSlot_17 : decode cX1_needSlot 17 = .ok (.goto 4, 3) := dk_167 0 4 (dk_at dksX1_needSlot_0 17 rfl rfl)
theorem dX1_needSlot_20 : decode cX1_needSlot 20 = .ok (.iconst 0, 1) := dk_3 (dk_at dksX1_needSlot_0 20 rfl rfl)
theorem dX1_needSlot_21 : decode cX1_needSlot 21 = .ok (.invokestatic 289, 3) := dk_184 1 33 (dk_at dksX1_needSlot_0 21 rfl rfl)
theorem dX1_needSlot_24 : decode cX1_needSlot 24 = .ok (.iload_n 3, 1) := dk_29 (dk_at dksX1_needSlot_1 0 rfl rfl)
theorem dX1_needSlot_25 : decode cX1_needSlot 25 = .ok (.invokestatic 324, 3) := dk_184 1 68 (dk_at dksX1_needSlot_1 1 rfl rfl)
theorem dX1_needSlot_28 : decode cX1_needSlot 28 = .ok (.invokestatic 102, 3) := dk_184 0 102 (dk_at dksX1_needSlot_1 4 rfl rfl)
theorem dX1_needSlot_31 : decode cX1_needSlot 31 = .ok (.return_, 1) := dk_177 (dk_at dksX1_needSlot_1 7 rfl rfl)
abbrev cX1_moveProblemOf : ByteArray := prog_1_method_51_code
def yX1_moveProblemOf : MethodName := ⟨RX1, "moveProblemOf", "(LHallPlan$Booking;II)I"⟩
def dkwX1_moveProblemOf_1 : List UInt8 := [172]
abbrev dktX1_moveProblemOf_1 : List UInt8 := dkwX1_moveProblemOf_1 ++ []
def dkwX1_moveProblemOf_0 : List UInt8 := [43, 4, 181, 0, 250, 42, 43, 180, 0, 189, 28, 29, 182, 1, 4, 54, 4, 43, 3, 181, 0, 250, 21, 4]
abbrev dktX1_moveProblemOf_0 : List UInt8 := dkwX1_moveProblemOf_0 ++ dktX1_moveProblemOf_1
theorem dksX1_moveProblemOf_0 : cX1_moveProblemOf.data.toList.drop 0 = dktX1_moveProblemOf_0 := by decide +kernel
theorem dksX1_moveProblemOf_1 : cX1_moveProblemOf.data.toList.drop 24 = dktX1_moveProblemOf_1 := dk_seg dksX1_moveProblemOf_0 24 rfl rfl
theorem dX1_moveProblemOf_0 : decode cX1_moveProblemOf 0 = .ok (.aload_n 1, 1) := dk_43 (dk_at dksX1_moveProblemOf_0 0 rfl rfl)
theorem dX1_moveProblemOf_1 : decode cX1_moveProblemOf 1 = .ok (.iconst 1, 1) := dk_4 (dk_at dksX1_moveProblemOf_0 1 rfl rfl)
theorem dX1_moveProblemOf_2 : decode cX1_moveProblemOf 2 = .ok (.putfield 250, 3) := dk_181 0 250 (dk_at dksX1_moveProblemOf_0 2 rfl rfl)
theorem dX1_moveProblemOf_5 : decode cX1_moveProblemOf 5 = .ok (.aload_n 0, 1) := dk_42 (dk_at dksX1_moveProblemOf_0 5 rfl rfl)
theorem dX1_moveProblemOf_6 : decode cX1_moveProblemOf 6 = .ok (.aload_n 1, 1) := dk_43 (dk_at dksX1_moveProblemOf_0 6 rfl rfl)
theorem dX1_moveProblemOf_7 : decode cX1_moveProblemOf 7 = .ok (.getfield 189, 3) := dk_180 0 189 (dk_at dksX1_moveProblemOf_0 7 rfl rfl)
theorem dX1_moveProblemOf_10 : decode cX1_moveProblemOf 10 = .ok (.iload_n 2, 1) := dk_28 (dk_at dksX1_moveProblemOf_0 10 rfl rfl)
theorem dX1_moveProblemOf_11 : decode cX1_moveProblemOf 11 = .ok (.iload_n 3, 1) := dk_29 (dk_at dksX1_moveProblemOf_0 11 rfl rfl)
theorem dX1_moveProblemOf_12 : decode cX1_moveProblemOf 12 = .ok (.invokevirtual 260, 3) := dk_182 1 4 (dk_at dksX1_moveProblemOf_0 12 rfl rfl)
theorem dX1_moveProblemOf_15 : decode cX1_moveProblemOf 15 = .ok (.istore 4, 2) := dk_54 4 (dk_at dksX1_moveProblemOf_0 15 rfl rfl)
theorem dX1_moveProblemOf_17 : decode cX1_moveProblemOf 17 = .ok (.aload_n 1, 1) := dk_43 (dk_at dksX1_moveProblemOf_0 17 rfl rfl)
theorem dX1_moveProblemOf_18 : decode cX1_moveProblemOf 18 = .ok (.iconst 0, 1) := dk_3 (dk_at dksX1_moveProblemOf_0 18 rfl rfl)
theorem dX1_moveProblemOf_19 : decode cX1_moveProblemOf 19 = .ok (.putfield 250, 3) := dk_181 0 250 (dk_at dksX1_moveProblemOf_0 19 rfl rfl)
theorem dX1_moveProblemOf_22 : decode cX1_moveProblemOf 22 = .ok (.iload 4, 2) := dk_21 4 (dk_at dksX1_moveProblemOf_0 22 rfl rfl)
theorem dX1_moveProblemOf_24 : decode cX1_moveProblemOf 24 = .ok (.ireturn, 1) := dk_172 (dk_at dksX1_moveProblemOf_1 0 rfl rfl)
abbrev cX1_settle : ByteArray := prog_1_method_27_code
def yX1_settle : MethodName := ⟨RX1, "settle", "(LHallPlan$Booking;II)V"⟩
def dkwX1_settle_0 : List UInt8 := [43, 28, 181, 0, 212, 43, 29, 181, 0, 201, 43, 3, 181, 0, 250, 177]
abbrev dktX1_settle_0 : List UInt8 := dkwX1_settle_0 ++ []
theorem dksX1_settle_0 : cX1_settle.data.toList.drop 0 = dktX1_settle_0 := by decide +kernel
theorem dX1_settle_0 : decode cX1_settle 0 = .ok (.aload_n 1, 1) := dk_43 (dk_at dksX1_settle_0 0 rfl rfl)
theorem dX1_settle_1 : decode cX1_settle 1 = .ok (.iload_n 2, 1) := dk_28 (dk_at dksX1_settle_0 1 rfl rfl)
theorem dX1_settle_2 : decode cX1_settle 2 = .ok (.putfield 212, 3) := dk_181 0 212 (dk_at dksX1_settle_0 2 rfl rfl)
theorem dX1_settle_5 : decode cX1_settle 5 = .ok (.aload_n 1, 1) := dk_43 (dk_at dksX1_settle_0 5 rfl rfl)
theorem dX1_settle_6 : decode cX1_settle 6 = .ok (.iload_n 3, 1) := dk_29 (dk_at dksX1_settle_0 6 rfl rfl)
theorem dX1_settle_7 : decode cX1_settle 7 = .ok (.putfield 201, 3) := dk_181 0 201 (dk_at dksX1_settle_0 7 rfl rfl)
theorem dX1_settle_10 : decode cX1_settle 10 = .ok (.aload_n 1, 1) := dk_43 (dk_at dksX1_settle_0 10 rfl rfl)
theorem dX1_settle_11 : decode cX1_settle 11 = .ok (.iconst 0, 1) := dk_3 (dk_at dksX1_settle_0 11 rfl rfl)
theorem dX1_settle_12 : decode cX1_settle 12 = .ok (.putfield 250, 3) := dk_181 0 250 (dk_at dksX1_settle_0 12 rfl rfl)
theorem dX1_settle_15 : decode cX1_settle 15 = .ok (.return_, 1) := dk_177 (dk_at dksX1_settle_0 15 rfl rfl)
abbrev cX1_reprice : ByteArray := prog_1_method_28_code
def yX1_reprice : MethodName := ⟨RX1, "reprice", "(LHallPlan$Booking;)V"⟩
def dkwX1_reprice_0 : List UInt8 := [43, 42, 180, 0, 16, 43, 180, 0, 189, 43, 180, 0, 212, 43, 180, 0, 201, 182, 0, 254, 181, 1, 2, 177]
abbrev dktX1_reprice_0 : List UInt8 := dkwX1_reprice_0 ++ []
theorem dksX1_reprice_0 : cX1_reprice.data.toList.drop 0 = dktX1_reprice_0 := by decide +kernel
theorem dX1_reprice_0 : decode cX1_reprice 0 = .ok (.aload_n 1, 1) := dk_43 (dk_at dksX1_reprice_0 0 rfl rfl)
theorem dX1_reprice_1 : decode cX1_reprice 1 = .ok (.aload_n 0, 1) := dk_42 (dk_at dksX1_reprice_0 1 rfl rfl)
theorem dX1_reprice_2 : decode cX1_reprice 2 = .ok (.getfield 16, 3) := dk_180 0 16 (dk_at dksX1_reprice_0 2 rfl rfl)
theorem dX1_reprice_5 : decode cX1_reprice 5 = .ok (.aload_n 1, 1) := dk_43 (dk_at dksX1_reprice_0 5 rfl rfl)
theorem dX1_reprice_6 : decode cX1_reprice 6 = .ok (.getfield 189, 3) := dk_180 0 189 (dk_at dksX1_reprice_0 6 rfl rfl)
theorem dX1_reprice_9 : decode cX1_reprice 9 = .ok (.aload_n 1, 1) := dk_43 (dk_at dksX1_reprice_0 9 rfl rfl)
theorem dX1_reprice_10 : decode cX1_reprice 10 = .ok (.getfield 212, 3) := dk_180 0 212 (dk_at dksX1_reprice_0 10 rfl rfl)
theorem dX1_reprice_13 : decode cX1_reprice 13 = .ok (.aload_n 1, 1) := dk_43 (dk_at dksX1_reprice_0 13 rfl rfl)
theorem dX1_reprice_14 : decode cX1_reprice 14 = .ok (.getfield 201, 3) := dk_180 0 201 (dk_at dksX1_reprice_0 14 rfl rfl)
theorem dX1_reprice_17 : decode cX1_reprice 17 = .ok (.invokevirtual 254, 3) := dk_182 0 254 (dk_at dksX1_reprice_0 17 rfl rfl)
theorem dX1_reprice_20 : decode cX1_reprice 20 = .ok (.putfield 258, 3) := dk_181 1 2 (dk_at dksX1_reprice_0 20 rfl rfl)
theorem dX1_reprice_23 : decode cX1_reprice 23 = .ok (.return_, 1) := dk_177 (dk_at dksX1_reprice_0 23 rfl rfl)
abbrev cX1_moveByChain : ByteArray := prog_1_method_39_code
def yX1_moveByChain : MethodName := ⟨RX1, "moveByChain", "(III)I"⟩
def dkwX1_moveByChain_3 : List UInt8 := [180, 0, 64, 21, 5, 50, 182, 1, 47, 132, 5, 1, 167, 255, 235, 21, 4, 172]
abbrev dktX1_moveByChain_3 : List UInt8 := dkwX1_moveByChain_3 ++ []
def dkwX1_moveByChain_2 : List UInt8 := [42, 21, 4, 28, 29, 4, 182, 1, 61, 87, 3, 54, 5, 21, 5, 21, 4, 162, 0, 20, 42, 42]
abbrev dktX1_moveByChain_2 : List UInt8 := dkwX1_moveByChain_2 ++ dktX1_moveByChain_3
def dkwX1_moveByChain_1 : List UInt8 := [28, 29, 182, 1, 75, 54, 4, 21, 4, 158, 0, 7, 4, 167, 0, 4, 3, 184, 0, 94, 42, 182, 1, 79]
abbrev dktX1_moveByChain_1 : List UInt8 := dkwX1_moveByChain_1 ++ dktX1_moveByChain_2
def dkwX1_moveByChain_0 : List UInt8 := [42, 27, 28, 29, 182, 1, 71, 42, 27, 182, 0, 204, 180, 1, 36, 184, 0, 94, 42, 42, 27, 182, 0, 204]
abbrev dktX1_moveByChain_0 : List UInt8 := dkwX1_moveByChain_0 ++ dktX1_moveByChain_1
theorem dksX1_moveByChain_0 : cX1_moveByChain.data.toList.drop 0 = dktX1_moveByChain_0 := by decide +kernel
theorem dksX1_moveByChain_1 : cX1_moveByChain.data.toList.drop 24 = dktX1_moveByChain_1 := dk_seg dksX1_moveByChain_0 24 rfl rfl
theorem dksX1_moveByChain_2 : cX1_moveByChain.data.toList.drop 48 = dktX1_moveByChain_2 := dk_seg dksX1_moveByChain_1 24 rfl rfl
theorem dksX1_moveByChain_3 : cX1_moveByChain.data.toList.drop 70 = dktX1_moveByChain_3 := dk_seg dksX1_moveByChain_2 22 rfl rfl
theorem dX1_moveByChain_0 : decode cX1_moveByChain 0 = .ok (.aload_n 0, 1) := dk_42 (dk_at dksX1_moveByChain_0 0 rfl rfl)
theorem dX1_moveByChain_1 : decode cX1_moveByChain 1 = .ok (.iload_n 1, 1) := dk_27 (dk_at dksX1_moveByChain_0 1 rfl rfl)
theorem dX1_moveByChain_2 : decode cX1_moveByChain 2 = .ok (.iload_n 2, 1) := dk_28 (dk_at dksX1_moveByChain_0 2 rfl rfl)
theorem dX1_moveByChain_3 : decode cX1_moveByChain 3 = .ok (.iload_n 3, 1) := dk_29 (dk_at dksX1_moveByChain_0 3 rfl rfl)
theorem dX1_moveByChain_4 : decode cX1_moveByChain 4 = .ok (.invokevirtual 327, 3) := dk_182 1 71 (dk_at dksX1_moveByChain_0 4 rfl rfl)
theorem dX1_moveByChain_7 : decode cX1_moveByChain 7 = .ok (.aload_n 0, 1) := dk_42 (dk_at dksX1_moveByChain_0 7 rfl rfl)
theorem dX1_moveByChain_8 : decode cX1_moveByChain 8 = .ok (.iload_n 1, 1) := dk_27 (dk_at dksX1_moveByChain_0 8 rfl rfl)
theorem dX1_moveByChain_9 : decode cX1_moveByChain 9 = .ok (.invokevirtual 204, 3) := dk_182 0 204 (dk_at dksX1_moveByChain_0 9 rfl rfl)
theorem dX1_moveByChain_12 : decode cX1_moveByChain 12 = .ok (.getfield 292, 3) := dk_180 1 36 (dk_at dksX1_moveByChain_0 12 rfl rfl)
theorem dX1_moveByChain_15 : decode cX1_moveByChain 15 = .ok (.invokestatic 94, 3) := dk_184 0 94 (dk_at dksX1_moveByChain_0 15 rfl rfl)
theorem dX1_moveByChain_18 : decode cX1_moveByChain 18 = .ok (.aload_n 0, 1) := dk_42 (dk_at dksX1_moveByChain_0 18 rfl rfl)
theorem dX1_moveByChain_19 : decode cX1_moveByChain 19 = .ok (.aload_n 0, 1) := dk_42 (dk_at dksX1_moveByChain_0 19 rfl rfl)
theorem dX1_moveByChain_20 : decode cX1_moveByChain 20 = .ok (.iload_n 1, 1) := dk_27 (dk_at dksX1_moveByChain_0 20 rfl rfl)
theorem dX1_moveByChain_21 : decode cX1_moveByChain 21 = .ok (.invokevirtual 204, 3) := dk_182 0 204 (dk_at dksX1_moveByChain_0 21 rfl rfl)
theorem dX1_moveByChain_24 : decode cX1_moveByChain 24 = .ok (.iload_n 2, 1) := dk_28 (dk_at dksX1_moveByChain_1 0 rfl rfl)
theorem dX1_moveByChain_25 : decode cX1_moveByChain 25 = .ok (.iload_n 3, 1) := dk_29 (dk_at dksX1_moveByChain_1 1 rfl rfl)
theorem dX1_moveByChain_26 : decode cX1_moveByChain 26 = .ok (.invokevirtual 331, 3) := dk_182 1 75 (dk_at dksX1_moveByChain_1 2 rfl rfl)
theorem dX1_moveByChain_29 : decode cX1_moveByChain 29 = .ok (.istore 4, 2) := dk_54 4 (dk_at dksX1_moveByChain_1 5 rfl rfl)
theorem dX1_moveByChain_31 : decode cX1_moveByChain 31 = .ok (.iload 4, 2) := dk_21 4 (dk_at dksX1_moveByChain_1 7 rfl rfl)
theorem dX1_moveByChain_33 : decode cX1_moveByChain 33 = .ok (.ifCond .le 7, 3) := dk_158 0 7 (dk_at dksX1_moveByChain_1 9 rfl rfl)
theorem dX1_moveByChain_36 : decode cX1_moveByChain 36 = .ok (.iconst 1, 1) := dk_4 (dk_at dksX1_moveByChain_1 12 rfl rfl)
theorem dX1_moveByChain_37 : decode cX1_moveByChain 37 = .ok (.goto 4, 3) := dk_167 0 4 (dk_at dksX1_moveByChain_1 13 rfl rfl)
theorem dX1_moveByChain_40 : decode cX1_moveByChain 40 = .ok (.iconst 0, 1) := dk_3 (dk_at dksX1_moveByChain_1 16 rfl rfl)
theorem dX1_moveByChain_41 : decode cX1_moveByChain 41 = .ok (.invokestatic 94, 3) := dk_184 0 94 (dk_at dksX1_moveByChain_1 17 rfl rfl)
theorem dX1_moveByChain_44 : decode cX1_moveByChain 44 = .ok (.aload_n 0, 1) := dk_42 (dk_at dksX1_moveByChain_1 20 rfl rfl)
theorem dX1_moveByChain_45 : decode cX1_moveByChain 45 = .ok (.invokevirtual 335, 3) := dk_182 1 79 (dk_at dksX1_moveByChain_1 21 rfl rfl)
theorem dX1_moveByChain_48 : decode cX1_moveByChain 48 = .ok (.aload_n 0, 1) := dk_42 (dk_at dksX1_moveByChain_2 0 rfl rfl)
theorem dX1_moveByChain_49 : decode cX1_moveByChain 49 = .ok (.iload 4, 2) := dk_21 4 (dk_at dksX1_moveByChain_2 1 rfl rfl)
theorem dX1_moveByChain_51 : decode cX1_moveByChain 51 = .ok (.iload_n 2, 1) := dk_28 (dk_at dksX1_moveByChain_2 3 rfl rfl)
theorem dX1_moveByChain_52 : decode cX1_moveByChain 52 = .ok (.iload_n 3, 1) := dk_29 (dk_at dksX1_moveByChain_2 4 rfl rfl)
theorem dX1_moveByChain_53 : decode cX1_moveByChain 53 = .ok (.iconst 1, 1) := dk_4 (dk_at dksX1_moveByChain_2 5 rfl rfl)
theorem dX1_moveByChain_54 : decode cX1_moveByChain 54 = .ok (.invokevirtual 317, 3) := dk_182 1 61 (dk_at dksX1_moveByChain_2 6 rfl rfl)
theorem dX1_moveByChain_57 : decode cX1_moveByChain 57 = .ok (.pop, 1) := dk_87 (dk_at dksX1_moveByChain_2 9 rfl rfl)
theorem dX1_moveByChain_58 : decode cX1_moveByChain 58 = .ok (.iconst 0, 1) := dk_3 (dk_at dksX1_moveByChain_2 10 rfl rfl)
theorem dX1_moveByChain_59 : decode cX1_moveByChain 59 = .ok (.istore 5, 2) := dk_54 5 (dk_at dksX1_moveByChain_2 11 rfl rfl)
theorem dX1_moveByChain_61 : decode cX1_moveByChain 61 = .ok (.iload 5, 2) := dk_21 5 (dk_at dksX1_moveByChain_2 13 rfl rfl)
theorem dX1_moveByChain_63 : decode cX1_moveByChain 63 = .ok (.iload 4, 2) := dk_21 4 (dk_at dksX1_moveByChain_2 15 rfl rfl)
theorem dX1_moveByChain_65 : decode cX1_moveByChain 65 = .ok (.if_icmp .ge 20, 3) := dk_162 0 20 (dk_at dksX1_moveByChain_2 17 rfl rfl)
theorem dX1_moveByChain_68 : decode cX1_moveByChain 68 = .ok (.aload_n 0, 1) := dk_42 (dk_at dksX1_moveByChain_2 20 rfl rfl)
theorem dX1_moveByChain_69 : decode cX1_moveByChain 69 = .ok (.aload_n 0, 1) := dk_42 (dk_at dksX1_moveByChain_2 21 rfl rfl)
theorem dX1_moveByChain_70 : decode cX1_moveByChain 70 = .ok (.getfield 64, 3) := dk_180 0 64 (dk_at dksX1_moveByChain_3 0 rfl rfl)
theorem dX1_moveByChain_73 : decode cX1_moveByChain 73 = .ok (.iload 5, 2) := dk_21 5 (dk_at dksX1_moveByChain_3 3 rfl rfl)
theorem dX1_moveByChain_75 : decode cX1_moveByChain 75 = .ok (.aaload, 1) := dk_50 (dk_at dksX1_moveByChain_3 5 rfl rfl)
theorem dX1_moveByChain_76 : decode cX1_moveByChain 76 = .ok (.invokevirtual 303, 3) := dk_182 1 47 (dk_at dksX1_moveByChain_3 6 rfl rfl)
theorem dX1_moveByChain_79 : decode cX1_moveByChain 79 = .ok (.iinc 5 1, 3) := dk_132 5 1 (dk_at dksX1_moveByChain_3 9 rfl rfl)
theorem dX1_moveByChain_82 : decode cX1_moveByChain 82 = .ok (.goto (-21), 3) := dk_167 255 235 (dk_at dksX1_moveByChain_3 12 rfl rfl)
theorem dX1_moveByChain_85 : decode cX1_moveByChain 85 = .ok (.iload 4, 2) := dk_21 4 (dk_at dksX1_moveByChain_3 15 rfl rfl)
theorem dX1_moveByChain_87 : decode cX1_moveByChain 87 = .ok (.ireturn, 1) := dk_172 (dk_at dksX1_moveByChain_3 17 rfl rfl)
abbrev cX1_findChain : ByteArray := prog_1_method_37_code
def yX1_findChain : MethodName := ⟨RX1, "findChain", "(LHallPlan$Booking;II)I"⟩
def dkwX1_findChain_10 : List UInt8 := [153, 0, 5, 6, 172, 132, 5, 1, 167, 255, 146, 132, 4, 1, 167, 255, 120, 3, 172]
abbrev dktX1_findChain_10 : List UInt8 := dkwX1_findChain_10 ++ []
def dkwX1_findChain_9 : List UInt8 := [153, 0, 29, 42, 42, 180, 0, 64, 5, 50, 182, 1, 57, 153, 0, 16, 42, 6, 28, 29, 3, 182, 1, 61]
abbrev dktX1_findChain_9 : List UInt8 := dkwX1_findChain_9 ++ dktX1_findChain_10
def dkwX1_findChain_8 : List UInt8 := [165, 0, 52, 42, 180, 0, 64, 5, 50, 43, 165, 0, 42, 42, 42, 180, 0, 64, 4, 50, 182, 1, 57]
abbrev dktX1_findChain_8 : List UInt8 := dkwX1_findChain_8 ++ dktX1_findChain_9
def dkwX1_findChain_7 : List UInt8 := [5, 42, 21, 5, 182, 0, 204, 83, 21, 4, 21, 5, 159, 0, 62, 42, 180, 0, 64, 4, 50, 43]
abbrev dktX1_findChain_7 : List UInt8 := dkwX1_findChain_7 ++ dktX1_findChain_8
def dkwX1_findChain_6 : List UInt8 := [185, 0, 136, 1, 0, 162, 0, 99, 42, 180, 0, 64, 4, 42, 21, 4, 182, 0, 204, 83, 42, 180, 0, 64]
abbrev dktX1_findChain_6 : List UInt8 := dkwX1_findChain_6 ++ dktX1_findChain_7
def dkwX1_findChain_5 : List UInt8 := [180, 0, 160, 185, 0, 136, 1, 0, 162, 0, 125, 3, 54, 5, 21, 5, 42, 180, 0, 25, 180, 0, 160]
abbrev dktX1_findChain_5 : List UInt8 := dkwX1_findChain_5 ++ dktX1_findChain_6
def dkwX1_findChain_4 : List UInt8 := [182, 1, 61, 153, 0, 5, 5, 172, 132, 4, 1, 167, 255, 188, 3, 54, 4, 21, 4, 42, 180, 0, 25]
abbrev dktX1_findChain_4 : List UInt8 := dkwX1_findChain_4 ++ dktX1_findChain_5
def dkwX1_findChain_3 : List UInt8 := [4, 50, 43, 165, 0, 29, 42, 42, 180, 0, 64, 4, 50, 182, 1, 57, 153, 0, 16, 42, 5, 28, 29, 3]
abbrev dktX1_findChain_3 : List UInt8 := dkwX1_findChain_3 ++ dktX1_findChain_4
def dkwX1_findChain_2 : List UInt8 := [185, 0, 136, 1, 0, 162, 0, 57, 42, 180, 0, 64, 4, 42, 21, 4, 182, 0, 204, 83, 42, 180, 0, 64]
abbrev dktX1_findChain_2 : List UInt8 := dkwX1_findChain_2 ++ dktX1_findChain_3
def dkwX1_findChain_1 : List UInt8 := [182, 1, 61, 153, 0, 5, 4, 172, 3, 54, 4, 21, 4, 42, 180, 0, 25, 180, 0, 160]
abbrev dktX1_findChain_1 : List UInt8 := dkwX1_findChain_1 ++ dktX1_findChain_2
def dkwX1_findChain_0 : List UInt8 := [42, 180, 0, 64, 3, 43, 83, 42, 43, 182, 1, 57, 154, 0, 5, 3, 172, 42, 4, 28, 29, 3]
abbrev dktX1_findChain_0 : List UInt8 := dkwX1_findChain_0 ++ dktX1_findChain_1
theorem dksX1_findChain_0 : cX1_findChain.data.toList.drop 0 = dktX1_findChain_0 := by decide +kernel
theorem dksX1_findChain_1 : cX1_findChain.data.toList.drop 22 = dktX1_findChain_1 := dk_seg dksX1_findChain_0 22 rfl rfl
theorem dksX1_findChain_2 : cX1_findChain.data.toList.drop 42 = dktX1_findChain_2 := dk_seg dksX1_findChain_1 20 rfl rfl
theorem dksX1_findChain_3 : cX1_findChain.data.toList.drop 66 = dktX1_findChain_3 := dk_seg dksX1_findChain_2 24 rfl rfl
theorem dksX1_findChain_4 : cX1_findChain.data.toList.drop 90 = dktX1_findChain_4 := dk_seg dksX1_findChain_3 24 rfl rfl
theorem dksX1_findChain_5 : cX1_findChain.data.toList.drop 113 = dktX1_findChain_5 := dk_seg dksX1_findChain_4 23 rfl rfl
theorem dksX1_findChain_6 : cX1_findChain.data.toList.drop 136 = dktX1_findChain_6 := dk_seg dksX1_findChain_5 23 rfl rfl
theorem dksX1_findChain_7 : cX1_findChain.data.toList.drop 160 = dktX1_findChain_7 := dk_seg dksX1_findChain_6 24 rfl rfl
theorem dksX1_findChain_8 : cX1_findChain.data.toList.drop 182 = dktX1_findChain_8 := dk_seg dksX1_findChain_7 22 rfl rfl
theorem dksX1_findChain_9 : cX1_findChain.data.toList.drop 205 = dktX1_findChain_9 := dk_seg dksX1_findChain_8 23 rfl rfl
theorem dksX1_findChain_10 : cX1_findChain.data.toList.drop 229 = dktX1_findChain_10 := dk_seg dksX1_findChain_9 24 rfl rfl
theorem dX1_findChain_0 : decode cX1_findChain 0 = .ok (.aload_n 0, 1) := dk_42 (dk_at dksX1_findChain_0 0 rfl rfl)
theorem dX1_findChain_1 : decode cX1_findChain 1 = .ok (.getfield 64, 3) := dk_180 0 64 (dk_at dksX1_findChain_0 1 rfl rfl)
theorem dX1_findChain_4 : decode cX1_findChain 4 = .ok (.iconst 0, 1) := dk_3 (dk_at dksX1_findChain_0 4 rfl rfl)
theorem dX1_findChain_5 : decode cX1_findChain 5 = .ok (.aload_n 1, 1) := dk_43 (dk_at dksX1_findChain_0 5 rfl rfl)
theorem dX1_findChain_6 : decode cX1_findChain 6 = .ok (.aastore, 1) := dk_83 (dk_at dksX1_findChain_0 6 rfl rfl)
theorem dX1_findChain_7 : decode cX1_findChain 7 = .ok (.aload_n 0, 1) := dk_42 (dk_at dksX1_findChain_0 7 rfl rfl)
theorem dX1_findChain_8 : decode cX1_findChain 8 = .ok (.aload_n 1, 1) := dk_43 (dk_at dksX1_findChain_0 8 rfl rfl)
theorem dX1_findChain_9 : decode cX1_findChain 9 = .ok (.invokevirtual 313, 3) := dk_182 1 57 (dk_at dksX1_findChain_0 9 rfl rfl)
theorem dX1_findChain_12 : decode cX1_findChain 12 = .ok (.ifCond .ne 5, 3) := dk_154 0 5 (dk_at dksX1_findChain_0 12 rfl rfl)
theorem dX1_findChain_15 : decode cX1_findChain 15 = .ok (.iconst 0, 1) := dk_3 (dk_at dksX1_findChain_0 15 rfl rfl)
theorem dX1_findChain_16 : decode cX1_findChain 16 = .ok (.ireturn, 1) := dk_172 (dk_at dksX1_findChain_0 16 rfl rfl)
theorem dX1_findChain_17 : decode cX1_findChain 17 = .ok (.aload_n 0, 1) := dk_42 (dk_at dksX1_findChain_0 17 rfl rfl)
theorem dX1_findChain_18 : decode cX1_findChain 18 = .ok (.iconst 1, 1) := dk_4 (dk_at dksX1_findChain_0 18 rfl rfl)
theorem dX1_findChain_19 : decode cX1_findChain 19 = .ok (.iload_n 2, 1) := dk_28 (dk_at dksX1_findChain_0 19 rfl rfl)
theorem dX1_findChain_20 : decode cX1_findChain 20 = .ok (.iload_n 3, 1) := dk_29 (dk_at dksX1_findChain_0 20 rfl rfl)
theorem dX1_findChain_21 : decode cX1_findChain 21 = .ok (.iconst 0, 1) := dk_3 (dk_at dksX1_findChain_0 21 rfl rfl)
theorem dX1_findChain_22 : decode cX1_findChain 22 = .ok (.invokevirtual 317, 3) := dk_182 1 61 (dk_at dksX1_findChain_1 0 rfl rfl)
theorem dX1_findChain_25 : decode cX1_findChain 25 = .ok (.ifCond .eq 5, 3) := dk_153 0 5 (dk_at dksX1_findChain_1 3 rfl rfl)
theorem dX1_findChain_28 : decode cX1_findChain 28 = .ok (.iconst 1, 1) := dk_4 (dk_at dksX1_findChain_1 6 rfl rfl)
theorem dX1_findChain_29 : decode cX1_findChain 29 = .ok (.ireturn, 1) := dk_172 (dk_at dksX1_findChain_1 7 rfl rfl)
theorem dX1_findChain_30 : decode cX1_findChain 30 = .ok (.iconst 0, 1) := dk_3 (dk_at dksX1_findChain_1 8 rfl rfl)
theorem dX1_findChain_31 : decode cX1_findChain 31 = .ok (.istore 4, 2) := dk_54 4 (dk_at dksX1_findChain_1 9 rfl rfl)
theorem dX1_findChain_33 : decode cX1_findChain 33 = .ok (.iload 4, 2) := dk_21 4 (dk_at dksX1_findChain_1 11 rfl rfl)
theorem dX1_findChain_35 : decode cX1_findChain 35 = .ok (.aload_n 0, 1) := dk_42 (dk_at dksX1_findChain_1 13 rfl rfl)
theorem dX1_findChain_36 : decode cX1_findChain 36 = .ok (.getfield 25, 3) := dk_180 0 25 (dk_at dksX1_findChain_1 14 rfl rfl)
theorem dX1_findChain_39 : decode cX1_findChain 39 = .ok (.getfield 160, 3) := dk_180 0 160 (dk_at dksX1_findChain_1 17 rfl rfl)
theorem dX1_findChain_42 : decode cX1_findChain 42 = .ok (.invokeinterface 136 1, 5) := by decide +kernel
theorem dX1_findChain_47 : decode cX1_findChain 47 = .ok (.if_icmp .ge 57, 3) := dk_162 0 57 (dk_at dksX1_findChain_2 5 rfl rfl)
theorem dX1_findChain_50 : decode cX1_findChain 50 = .ok (.aload_n 0, 1) := dk_42 (dk_at dksX1_findChain_2 8 rfl rfl)
theorem dX1_findChain_51 : decode cX1_findChain 51 = .ok (.getfield 64, 3) := dk_180 0 64 (dk_at dksX1_findChain_2 9 rfl rfl)
theorem dX1_findChain_54 : decode cX1_findChain 54 = .ok (.iconst 1, 1) := dk_4 (dk_at dksX1_findChain_2 12 rfl rfl)
theorem dX1_findChain_55 : decode cX1_findChain 55 = .ok (.aload_n 0, 1) := dk_42 (dk_at dksX1_findChain_2 13 rfl rfl)
theorem dX1_findChain_56 : decode cX1_findChain 56 = .ok (.iload 4, 2) := dk_21 4 (dk_at dksX1_findChain_2 14 rfl rfl)
theorem dX1_findChain_58 : decode cX1_findChain 58 = .ok (.invokevirtual 204, 3) := dk_182 0 204 (dk_at dksX1_findChain_2 16 rfl rfl)
theorem dX1_findChain_61 : decode cX1_findChain 61 = .ok (.aastore, 1) := dk_83 (dk_at dksX1_findChain_2 19 rfl rfl)
theorem dX1_findChain_62 : decode cX1_findChain 62 = .ok (.aload_n 0, 1) := dk_42 (dk_at dksX1_findChain_2 20 rfl rfl)
theorem dX1_findChain_63 : decode cX1_findChain 63 = .ok (.getfield 64, 3) := dk_180 0 64 (dk_at dksX1_findChain_2 21 rfl rfl)
theorem dX1_findChain_66 : decode cX1_findChain 66 = .ok (.iconst 1, 1) := dk_4 (dk_at dksX1_findChain_3 0 rfl rfl)
theorem dX1_findChain_67 : decode cX1_findChain 67 = .ok (.aaload, 1) := dk_50 (dk_at dksX1_findChain_3 1 rfl rfl)
theorem dX1_findChain_68 : decode cX1_findChain 68 = .ok (.aload_n 1, 1) := dk_43 (dk_at dksX1_findChain_3 2 rfl rfl)
theorem dX1_findChain_69 : decode cX1_findChain 69 = .ok (.if_acmp .eq 29, 3) := dk_165 0 29 (dk_at dksX1_findChain_3 3 rfl rfl)
theorem dX1_findChain_72 : decode cX1_findChain 72 = .ok (.aload_n 0, 1) := dk_42 (dk_at dksX1_findChain_3 6 rfl rfl)
theorem dX1_findChain_73 : decode cX1_findChain 73 = .ok (.aload_n 0, 1) := dk_42 (dk_at dksX1_findChain_3 7 rfl rfl)
theorem dX1_findChain_74 : decode cX1_findChain 74 = .ok (.getfield 64, 3) := dk_180 0 64 (dk_at dksX1_findChain_3 8 rfl rfl)
theorem dX1_findChain_77 : decode cX1_findChain 77 = .ok (.iconst 1, 1) := dk_4 (dk_at dksX1_findChain_3 11 rfl rfl)
theorem dX1_findChain_78 : decode cX1_findChain 78 = .ok (.aaload, 1) := dk_50 (dk_at dksX1_findChain_3 12 rfl rfl)
theorem dX1_findChain_79 : decode cX1_findChain 79 = .ok (.invokevirtual 313, 3) := dk_182 1 57 (dk_at dksX1_findChain_3 13 rfl rfl)
theorem dX1_findChain_82 : decode cX1_findChain 82 = .ok (.ifCond .eq 16, 3) := dk_153 0 16 (dk_at dksX1_findChain_3 16 rfl rfl)
theorem dX1_findChain_85 : decode cX1_findChain 85 = .ok (.aload_n 0, 1) := dk_42 (dk_at dksX1_findChain_3 19 rfl rfl)
theorem dX1_findChain_86 : decode cX1_findChain 86 = .ok (.iconst 2, 1) := dk_5 (dk_at dksX1_findChain_3 20 rfl rfl)
theorem dX1_findChain_87 : decode cX1_findChain 87 = .ok (.iload_n 2, 1) := dk_28 (dk_at dksX1_findChain_3 21 rfl rfl)
theorem dX1_findChain_88 : decode cX1_findChain 88 = .ok (.iload_n 3, 1) := dk_29 (dk_at dksX1_findChain_3 22 rfl rfl)
theorem dX1_findChain_89 : decode cX1_findChain 89 = .ok (.iconst 0, 1) := dk_3 (dk_at dksX1_findChain_3 23 rfl rfl)
theorem dX1_findChain_90 : decode cX1_findChain 90 = .ok (.invokevirtual 317, 3) := dk_182 1 61 (dk_at dksX1_findChain_4 0 rfl rfl)
theorem dX1_findChain_93 : decode cX1_findChain 93 = .ok (.ifCond .eq 5, 3) := dk_153 0 5 (dk_at dksX1_findChain_4 3 rfl rfl)
theorem dX1_findChain_96 : decode cX1_findChain 96 = .ok (.iconst 2, 1) := dk_5 (dk_at dksX1_findChain_4 6 rfl rfl)
theorem dX1_findChain_97 : decode cX1_findChain 97 = .ok (.ireturn, 1) := dk_172 (dk_at dksX1_findChain_4 7 rfl rfl)
theorem dX1_findChain_98 : decode cX1_findChain 98 = .ok (.iinc 4 1, 3) := dk_132 4 1 (dk_at dksX1_findChain_4 8 rfl rfl)
theorem dX1_findChain_101 : decode cX1_findChain 101 = .ok (.goto (-68), 3) := dk_167 255 188 (dk_at dksX1_findChain_4 11 rfl rfl)
theorem dX1_findChain_104 : decode cX1_findChain 104 = .ok (.iconst 0, 1) := dk_3 (dk_at dksX1_findChain_4 14 rfl rfl)
theorem dX1_findChain_105 : decode cX1_findChain 105 = .ok (.istore 4, 2) := dk_54 4 (dk_at dksX1_findChain_4 15 rfl rfl)
theorem dX1_findChain_107 : decode cX1_findChain 107 = .ok (.iload 4, 2) := dk_21 4 (dk_at dksX1_findChain_4 17 rfl rfl)
theorem dX1_findChain_109 : decode cX1_findChain 109 = .ok (.aload_n 0, 1) := dk_42 (dk_at dksX1_findChain_4 19 rfl rfl)
theorem dX1_findChain_110 : decode cX1_findChain 110 = .ok (.getfield 25, 3) := dk_180 0 25 (dk_at dksX1_findChain_4 20 rfl rfl)
theorem dX1_findChain_113 : decode cX1_findChain 113 = .ok (.getfield 160, 3) := dk_180 0 160 (dk_at dksX1_findChain_5 0 rfl rfl)
theorem dX1_findChain_116 : decode cX1_findChain 116 = .ok (.invokeinterface 136 1, 5) := by decide +kernel
theorem dX1_findChain_121 : decode cX1_findChain 121 = .ok (.if_icmp .ge 125, 3) := dk_162 0 125 (dk_at dksX1_findChain_5 8 rfl rfl)
theorem dX1_findChain_124 : decode cX1_findChain 124 = .ok (.iconst 0, 1) := dk_3 (dk_at dksX1_findChain_5 11 rfl rfl)
theorem dX1_findChain_125 : decode cX1_findChain 125 = .ok (.istore 5, 2) := dk_54 5 (dk_at dksX1_findChain_5 12 rfl rfl)
theorem dX1_findChain_127 : decode cX1_findChain 127 = .ok (.iload 5, 2) := dk_21 5 (dk_at dksX1_findChain_5 14 rfl rfl)
theorem dX1_findChain_129 : decode cX1_findChain 129 = .ok (.aload_n 0, 1) := dk_42 (dk_at dksX1_findChain_5 16 rfl rfl)
theorem dX1_findChain_130 : decode cX1_findChain 130 = .ok (.getfield 25, 3) := dk_180 0 25 (dk_at dksX1_findChain_5 17 rfl rfl)
theorem dX1_findChain_133 : decode cX1_findChain 133 = .ok (.getfield 160, 3) := dk_180 0 160 (dk_at dksX1_findChain_5 20 rfl rfl)
theorem dX1_findChain_136 : decode cX1_findChain 136 = .ok (.invokeinterface 136 1, 5) := by decide +kernel
theorem dX1_findChain_141 : decode cX1_findChain 141 = .ok (.if_icmp .ge 99, 3) := dk_162 0 99 (dk_at dksX1_findChain_6 5 rfl rfl)
theorem dX1_findChain_144 : decode cX1_findChain 144 = .ok (.aload_n 0, 1) := dk_42 (dk_at dksX1_findChain_6 8 rfl rfl)
theorem dX1_findChain_145 : decode cX1_findChain 145 = .ok (.getfield 64, 3) := dk_180 0 64 (dk_at dksX1_findChain_6 9 rfl rfl)
theorem dX1_findChain_148 : decode cX1_findChain 148 = .ok (.iconst 1, 1) := dk_4 (dk_at dksX1_findChain_6 12 rfl rfl)
theorem dX1_findChain_149 : decode cX1_findChain 149 = .ok (.aload_n 0, 1) := dk_42 (dk_at dksX1_findChain_6 13 rfl rfl)
theorem dX1_findChain_150 : decode cX1_findChain 150 = .ok (.iload 4, 2) := dk_21 4 (dk_at dksX1_findChain_6 14 rfl rfl)
theorem dX1_findChain_152 : decode cX1_findChain 152 = .ok (.invokevirtual 204, 3) := dk_182 0 204 (dk_at dksX1_findChain_6 16 rfl rfl)
theorem dX1_findChain_155 : decode cX1_findChain 155 = .ok (.aastore, 1) := dk_83 (dk_at dksX1_findChain_6 19 rfl rfl)
theorem dX1_findChain_156 : decode cX1_findChain 156 = .ok (.aload_n 0, 1) := dk_42 (dk_at dksX1_findChain_6 20 rfl rfl)
theorem dX1_findChain_157 : decode cX1_findChain 157 = .ok (.getfield 64, 3) := dk_180 0 64 (dk_at dksX1_findChain_6 21 rfl rfl)
theorem dX1_findChain_160 : decode cX1_findChain 160 = .ok (.iconst 2, 1) := dk_5 (dk_at dksX1_findChain_7 0 rfl rfl)
theorem dX1_findChain_161 : decode cX1_findChain 161 = .ok (.aload_n 0, 1) := dk_42 (dk_at dksX1_findChain_7 1 rfl rfl)
theorem dX1_findChain_162 : decode cX1_findChain 162 = .ok (.iload 5, 2) := dk_21 5 (dk_at dksX1_findChain_7 2 rfl rfl)
theorem dX1_findChain_164 : decode cX1_findChain 164 = .ok (.invokevirtual 204, 3) := dk_182 0 204 (dk_at dksX1_findChain_7 4 rfl rfl)
theorem dX1_findChain_167 : decode cX1_findChain 167 = .ok (.aastore, 1) := dk_83 (dk_at dksX1_findChain_7 7 rfl rfl)
theorem dX1_findChain_168 : decode cX1_findChain 168 = .ok (.iload 4, 2) := dk_21 4 (dk_at dksX1_findChain_7 8 rfl rfl)
theorem dX1_findChain_170 : decode cX1_findChain 170 = .ok (.iload 5, 2) := dk_21 5 (dk_at dksX1_findChain_7 10 rfl rfl)
theorem dX1_findChain_172 : decode cX1_findChain 172 = .ok (.if_icmp .eq 62, 3) := dk_159 0 62 (dk_at dksX1_findChain_7 12 rfl rfl)
theorem dX1_findChain_175 : decode cX1_findChain 175 = .ok (.aload_n 0, 1) := dk_42 (dk_at dksX1_findChain_7 15 rfl rfl)
theorem dX1_findChain_176 : decode cX1_findChain 176 = .ok (.getfield 64, 3) := dk_180 0 64 (dk_at dksX1_findChain_7 16 rfl rfl)
theorem dX1_findChain_179 : decode cX1_findChain 179 = .ok (.iconst 1, 1) := dk_4 (dk_at dksX1_findChain_7 19 rfl rfl)
theorem dX1_findChain_180 : decode cX1_findChain 180 = .ok (.aaload, 1) := dk_50 (dk_at dksX1_findChain_7 20 rfl rfl)
theorem dX1_findChain_181 : decode cX1_findChain 181 = .ok (.aload_n 1, 1) := dk_43 (dk_at dksX1_findChain_7 21 rfl rfl)
theorem dX1_findChain_182 : decode cX1_findChain 182 = .ok (.if_acmp .eq 52, 3) := dk_165 0 52 (dk_at dksX1_findChain_8 0 rfl rfl)
theorem dX1_findChain_185 : decode cX1_findChain 185 = .ok (.aload_n 0, 1) := dk_42 (dk_at dksX1_findChain_8 3 rfl rfl)
theorem dX1_findChain_186 : decode cX1_findChain 186 = .ok (.getfield 64, 3) := dk_180 0 64 (dk_at dksX1_findChain_8 4 rfl rfl)
theorem dX1_findChain_189 : decode cX1_findChain 189 = .ok (.iconst 2, 1) := dk_5 (dk_at dksX1_findChain_8 7 rfl rfl)
theorem dX1_findChain_190 : decode cX1_findChain 190 = .ok (.aaload, 1) := dk_50 (dk_at dksX1_findChain_8 8 rfl rfl)
theorem dX1_findChain_191 : decode cX1_findChain 191 = .ok (.aload_n 1, 1) := dk_43 (dk_at dksX1_findChain_8 9 rfl rfl)
theorem dX1_findChain_192 : decode cX1_findChain 192 = .ok (.if_acmp .eq 42, 3) := dk_165 0 42 (dk_at dksX1_findChain_8 10 rfl rfl)
theorem dX1_findChain_195 : decode cX1_findChain 195 = .ok (.aload_n 0, 1) := dk_42 (dk_at dksX1_findChain_8 13 rfl rfl)
theorem dX1_findChain_196 : decode cX1_findChain 196 = .ok (.aload_n 0, 1) := dk_42 (dk_at dksX1_findChain_8 14 rfl rfl)
theorem dX1_findChain_197 : decode cX1_findChain 197 = .ok (.getfield 64, 3) := dk_180 0 64 (dk_at dksX1_findChain_8 15 rfl rfl)
theorem dX1_findChain_200 : decode cX1_findChain 200 = .ok (.iconst 1, 1) := dk_4 (dk_at dksX1_findChain_8 18 rfl rfl)
theorem dX1_findChain_201 : decode cX1_findChain 201 = .ok (.aaload, 1) := dk_50 (dk_at dksX1_findChain_8 19 rfl rfl)
theorem dX1_findChain_202 : decode cX1_findChain 202 = .ok (.invokevirtual 313, 3) := dk_182 1 57 (dk_at dksX1_findChain_8 20 rfl rfl)
theorem dX1_findChain_205 : decode cX1_findChain 205 = .ok (.ifCond .eq 29, 3) := dk_153 0 29 (dk_at dksX1_findChain_9 0 rfl rfl)
theorem dX1_findChain_208 : decode cX1_findChain 208 = .ok (.aload_n 0, 1) := dk_42 (dk_at dksX1_findChain_9 3 rfl rfl)
theorem dX1_findChain_209 : decode cX1_findChain 209 = .ok (.aload_n 0, 1) := dk_42 (dk_at dksX1_findChain_9 4 rfl rfl)
theorem dX1_findChain_210 : decode cX1_findChain 210 = .ok (.getfield 64, 3) := dk_180 0 64 (dk_at dksX1_findChain_9 5 rfl rfl)
theorem dX1_findChain_213 : decode cX1_findChain 213 = .ok (.iconst 2, 1) := dk_5 (dk_at dksX1_findChain_9 8 rfl rfl)
theorem dX1_findChain_214 : decode cX1_findChain 214 = .ok (.aaload, 1) := dk_50 (dk_at dksX1_findChain_9 9 rfl rfl)
theorem dX1_findChain_215 : decode cX1_findChain 215 = .ok (.invokevirtual 313, 3) := dk_182 1 57 (dk_at dksX1_findChain_9 10 rfl rfl)
theorem dX1_findChain_218 : decode cX1_findChain 218 = .ok (.ifCond .eq 16, 3) := dk_153 0 16 (dk_at dksX1_findChain_9 13 rfl rfl)
theorem dX1_findChain_221 : decode cX1_findChain 221 = .ok (.aload_n 0, 1) := dk_42 (dk_at dksX1_findChain_9 16 rfl rfl)
theorem dX1_findChain_222 : decode cX1_findChain 222 = .ok (.iconst 3, 1) := dk_6 (dk_at dksX1_findChain_9 17 rfl rfl)
theorem dX1_findChain_223 : decode cX1_findChain 223 = .ok (.iload_n 2, 1) := dk_28 (dk_at dksX1_findChain_9 18 rfl rfl)
theorem dX1_findChain_224 : decode cX1_findChain 224 = .ok (.iload_n 3, 1) := dk_29 (dk_at dksX1_findChain_9 19 rfl rfl)
theorem dX1_findChain_225 : decode cX1_findChain 225 = .ok (.iconst 0, 1) := dk_3 (dk_at dksX1_findChain_9 20 rfl rfl)
theorem dX1_findChain_226 : decode cX1_findChain 226 = .ok (.invokevirtual 317, 3) := dk_182 1 61 (dk_at dksX1_findChain_9 21 rfl rfl)
theorem dX1_findChain_229 : decode cX1_findChain 229 = .ok (.ifCond .eq 5, 3) := dk_153 0 5 (dk_at dksX1_findChain_10 0 rfl rfl)
theorem dX1_findChain_232 : decode cX1_findChain 232 = .ok (.iconst 3, 1) := dk_6 (dk_at dksX1_findChain_10 3 rfl rfl)
theorem dX1_findChain_233 : decode cX1_findChain 233 = .ok (.ireturn, 1) := dk_172 (dk_at dksX1_findChain_10 4 rfl rfl)
theorem dX1_findChain_234 : decode cX1_findChain 234 = .ok (.iinc 5 1, 3) := dk_132 5 1 (dk_at dksX1_findChain_10 5 rfl rfl)
theorem dX1_findChain_237 : decode cX1_findChain 237 = .ok (.goto (-110), 3) := dk_167 255 146 (dk_at dksX1_findChain_10 8 rfl rfl)
theorem dX1_findChain_240 : decode cX1_findChain 240 = .ok (.iinc 4 1, 3) := dk_132 4 1 (dk_at dksX1_findChain_10 11 rfl rfl)
theorem dX1_findChain_243 : decode cX1_findChain 243 = .ok (.goto (-136), 3) := dk_167 255 120 (dk_at dksX1_findChain_10 14 rfl rfl)
theorem dX1_findChain_246 : decode cX1_findChain 246 = .ok (.iconst 0, 1) := dk_3 (dk_at dksX1_findChain_10 17 rfl rfl)
theorem dX1_findChain_247 : decode cX1_findChain 247 = .ok (.ireturn, 1) := dk_172 (dk_at dksX1_findChain_10 18 rfl rfl)
abbrev cX1_turns : ByteArray := prog_1_method_35_code
def yX1_turns : MethodName := ⟨RX1, "turns", "(IIIZ)Z"⟩
def dkwX1_turns_10 : List UInt8 := [167, 255, 212, 21, 5, 172]
abbrev dktX1_turns_10 : List UInt8 := dkwX1_turns_10 ++ []
def dkwX1_turns_9 : List UInt8 := [21, 6, 50, 42, 180, 0, 68, 21, 6, 46, 42, 180, 0, 71, 21, 6, 46, 182, 1, 12, 132, 6, 1]
abbrev dktX1_turns_9 : List UInt8 := dkwX1_turns_9 ++ dktX1_turns_10
def dkwX1_turns_8 : List UInt8 := [3, 54, 6, 21, 6, 27, 162, 0, 44, 21, 5, 153, 0, 8, 21, 4, 154, 0, 34, 42, 42, 180, 0, 64]
abbrev dktX1_turns_8 : List UInt8 := dkwX1_turns_8 ++ dktX1_turns_9
def dkwX1_turns_7 : List UInt8 := [153, 0, 18, 42, 42, 180, 0, 64, 21, 6, 50, 21, 8, 21, 9, 182, 1, 12, 132, 6, 1, 167, 255, 140]
abbrev dktX1_turns_7 : List UInt8 := dkwX1_turns_7 ++ dktX1_turns_8
def dkwX1_turns_6 : List UInt8 := [180, 0, 189, 21, 8, 21, 9, 182, 1, 4, 154, 0, 7, 4, 167, 0, 4, 3, 54, 5, 21, 5]
abbrev dktX1_turns_6 : List UInt8 := dkwX1_turns_6 ++ dktX1_turns_7
def dkwX1_turns_5 : List UInt8 := [154, 0, 7, 29, 167, 0, 10, 42, 180, 0, 71, 21, 7, 46, 54, 9, 42, 42, 180, 0, 64, 21, 6, 50]
abbrev dktX1_turns_5 : List UInt8 := dkwX1_turns_5 ++ dktX1_turns_6
def dkwX1_turns_4 : List UInt8 := [96, 54, 7, 21, 6, 154, 0, 7, 28, 167, 0, 10, 42, 180, 0, 68, 21, 7, 46, 54, 8, 21, 6]
abbrev dktX1_turns_4 : List UInt8 := dkwX1_turns_4 ++ dktX1_turns_5
def dkwX1_turns_3 : List UInt8 := [27, 162, 0, 116, 21, 5, 153, 0, 111, 21, 6, 27, 4, 100, 160, 0, 7, 3, 167, 0, 7, 21, 6, 4]
abbrev dktX1_turns_3 : List UInt8 := dkwX1_turns_3 ++ dktX1_turns_4
def dkwX1_turns_2 : List UInt8 := [180, 0, 64, 21, 5, 50, 4, 181, 0, 250, 132, 5, 1, 167, 255, 202, 4, 54, 5, 3, 54, 6, 21, 6]
abbrev dktX1_turns_2 : List UInt8 := dkwX1_turns_2 ++ dktX1_turns_3
def dkwX1_turns_1 : List UInt8 := [180, 0, 212, 79, 42, 180, 0, 71, 21, 5, 42, 180, 0, 64, 21, 5, 50, 180, 0, 201, 79, 42]
abbrev dktX1_turns_1 : List UInt8 := dkwX1_turns_1 ++ dktX1_turns_2
def dkwX1_turns_0 : List UInt8 := [3, 54, 5, 21, 5, 27, 162, 0, 54, 42, 180, 0, 68, 21, 5, 42, 180, 0, 64, 21, 5, 50]
abbrev dktX1_turns_0 : List UInt8 := dkwX1_turns_0 ++ dktX1_turns_1
theorem dksX1_turns_0 : cX1_turns.data.toList.drop 0 = dktX1_turns_0 := by decide +kernel
theorem dksX1_turns_1 : cX1_turns.data.toList.drop 22 = dktX1_turns_1 := dk_seg dksX1_turns_0 22 rfl rfl
theorem dksX1_turns_2 : cX1_turns.data.toList.drop 44 = dktX1_turns_2 := dk_seg dksX1_turns_1 22 rfl rfl
theorem dksX1_turns_3 : cX1_turns.data.toList.drop 68 = dktX1_turns_3 := dk_seg dksX1_turns_2 24 rfl rfl
theorem dksX1_turns_4 : cX1_turns.data.toList.drop 92 = dktX1_turns_4 := dk_seg dksX1_turns_3 24 rfl rfl
theorem dksX1_turns_5 : cX1_turns.data.toList.drop 115 = dktX1_turns_5 := dk_seg dksX1_turns_4 23 rfl rfl
theorem dksX1_turns_6 : cX1_turns.data.toList.drop 139 = dktX1_turns_6 := dk_seg dksX1_turns_5 24 rfl rfl
theorem dksX1_turns_7 : cX1_turns.data.toList.drop 161 = dktX1_turns_7 := dk_seg dksX1_turns_6 22 rfl rfl
theorem dksX1_turns_8 : cX1_turns.data.toList.drop 185 = dktX1_turns_8 := dk_seg dksX1_turns_7 24 rfl rfl
theorem dksX1_turns_9 : cX1_turns.data.toList.drop 209 = dktX1_turns_9 := dk_seg dksX1_turns_8 24 rfl rfl
theorem dksX1_turns_10 : cX1_turns.data.toList.drop 232 = dktX1_turns_10 := dk_seg dksX1_turns_9 23 rfl rfl
theorem dX1_turns_0 : decode cX1_turns 0 = .ok (.iconst 0, 1) := dk_3 (dk_at dksX1_turns_0 0 rfl rfl)
theorem dX1_turns_1 : decode cX1_turns 1 = .ok (.istore 5, 2) := dk_54 5 (dk_at dksX1_turns_0 1 rfl rfl)
theorem dX1_turns_3 : decode cX1_turns 3 = .ok (.iload 5, 2) := dk_21 5 (dk_at dksX1_turns_0 3 rfl rfl)
theorem dX1_turns_5 : decode cX1_turns 5 = .ok (.iload_n 1, 1) := dk_27 (dk_at dksX1_turns_0 5 rfl rfl)
theorem dX1_turns_6 : decode cX1_turns 6 = .ok (.if_icmp .ge 54, 3) := dk_162 0 54 (dk_at dksX1_turns_0 6 rfl rfl)
theorem dX1_turns_9 : decode cX1_turns 9 = .ok (.aload_n 0, 1) := dk_42 (dk_at dksX1_turns_0 9 rfl rfl)
theorem dX1_turns_10 : decode cX1_turns 10 = .ok (.getfield 68, 3) := dk_180 0 68 (dk_at dksX1_turns_0 10 rfl rfl)
theorem dX1_turns_13 : decode cX1_turns 13 = .ok (.iload 5, 2) := dk_21 5 (dk_at dksX1_turns_0 13 rfl rfl)
theorem dX1_turns_15 : decode cX1_turns 15 = .ok (.aload_n 0, 1) := dk_42 (dk_at dksX1_turns_0 15 rfl rfl)
theorem dX1_turns_16 : decode cX1_turns 16 = .ok (.getfield 64, 3) := dk_180 0 64 (dk_at dksX1_turns_0 16 rfl rfl)
theorem dX1_turns_19 : decode cX1_turns 19 = .ok (.iload 5, 2) := dk_21 5 (dk_at dksX1_turns_0 19 rfl rfl)
theorem dX1_turns_21 : decode cX1_turns 21 = .ok (.aaload, 1) := dk_50 (dk_at dksX1_turns_0 21 rfl rfl)
theorem dX1_turns_22 : decode cX1_turns 22 = .ok (.getfield 212, 3) := dk_180 0 212 (dk_at dksX1_turns_1 0 rfl rfl)
theorem dX1_turns_25 : decode cX1_turns 25 = .ok (.iastore, 1) := dk_79 (dk_at dksX1_turns_1 3 rfl rfl)
theorem dX1_turns_26 : decode cX1_turns 26 = .ok (.aload_n 0, 1) := dk_42 (dk_at dksX1_turns_1 4 rfl rfl)
theorem dX1_turns_27 : decode cX1_turns 27 = .ok (.getfield 71, 3) := dk_180 0 71 (dk_at dksX1_turns_1 5 rfl rfl)
theorem dX1_turns_30 : decode cX1_turns 30 = .ok (.iload 5, 2) := dk_21 5 (dk_at dksX1_turns_1 8 rfl rfl)
theorem dX1_turns_32 : decode cX1_turns 32 = .ok (.aload_n 0, 1) := dk_42 (dk_at dksX1_turns_1 10 rfl rfl)
theorem dX1_turns_33 : decode cX1_turns 33 = .ok (.getfield 64, 3) := dk_180 0 64 (dk_at dksX1_turns_1 11 rfl rfl)
theorem dX1_turns_36 : decode cX1_turns 36 = .ok (.iload 5, 2) := dk_21 5 (dk_at dksX1_turns_1 14 rfl rfl)
theorem dX1_turns_38 : decode cX1_turns 38 = .ok (.aaload, 1) := dk_50 (dk_at dksX1_turns_1 16 rfl rfl)
theorem dX1_turns_39 : decode cX1_turns 39 = .ok (.getfield 201, 3) := dk_180 0 201 (dk_at dksX1_turns_1 17 rfl rfl)
theorem dX1_turns_42 : decode cX1_turns 42 = .ok (.iastore, 1) := dk_79 (dk_at dksX1_turns_1 20 rfl rfl)
theorem dX1_turns_43 : decode cX1_turns 43 = .ok (.aload_n 0, 1) := dk_42 (dk_at dksX1_turns_1 21 rfl rfl)
theorem dX1_turns_44 : decode cX1_turns 44 = .ok (.getfield 64, 3) := dk_180 0 64 (dk_at dksX1_turns_2 0 rfl rfl)
theorem dX1_turns_47 : decode cX1_turns 47 = .ok (.iload 5, 2) := dk_21 5 (dk_at dksX1_turns_2 3 rfl rfl)
theorem dX1_turns_49 : decode cX1_turns 49 = .ok (.aaload, 1) := dk_50 (dk_at dksX1_turns_2 5 rfl rfl)
theorem dX1_turns_50 : decode cX1_turns 50 = .ok (.iconst 1, 1) := dk_4 (dk_at dksX1_turns_2 6 rfl rfl)
theorem dX1_turns_51 : decode cX1_turns 51 = .ok (.putfield 250, 3) := dk_181 0 250 (dk_at dksX1_turns_2 7 rfl rfl)
theorem dX1_turns_54 : decode cX1_turns 54 = .ok (.iinc 5 1, 3) := dk_132 5 1 (dk_at dksX1_turns_2 10 rfl rfl)
theorem dX1_turns_57 : decode cX1_turns 57 = .ok (.goto (-54), 3) := dk_167 255 202 (dk_at dksX1_turns_2 13 rfl rfl)
theorem dX1_turns_60 : decode cX1_turns 60 = .ok (.iconst 1, 1) := dk_4 (dk_at dksX1_turns_2 16 rfl rfl)
theorem dX1_turns_61 : decode cX1_turns 61 = .ok (.istore 5, 2) := dk_54 5 (dk_at dksX1_turns_2 17 rfl rfl)
theorem dX1_turns_63 : decode cX1_turns 63 = .ok (.iconst 0, 1) := dk_3 (dk_at dksX1_turns_2 19 rfl rfl)
theorem dX1_turns_64 : decode cX1_turns 64 = .ok (.istore 6, 2) := dk_54 6 (dk_at dksX1_turns_2 20 rfl rfl)
theorem dX1_turns_66 : decode cX1_turns 66 = .ok (.iload 6, 2) := dk_21 6 (dk_at dksX1_turns_2 22 rfl rfl)
theorem dX1_turns_68 : decode cX1_turns 68 = .ok (.iload_n 1, 1) := dk_27 (dk_at dksX1_turns_3 0 rfl rfl)
theorem dX1_turns_69 : decode cX1_turns 69 = .ok (.if_icmp .ge 116, 3) := dk_162 0 116 (dk_at dksX1_turns_3 1 rfl rfl)
theorem dX1_turns_72 : decode cX1_turns 72 = .ok (.iload 5, 2) := dk_21 5 (dk_at dksX1_turns_3 4 rfl rfl)
theorem dX1_turns_74 : decode cX1_turns 74 = .ok (.ifCond .eq 111, 3) := dk_153 0 111 (dk_at dksX1_turns_3 6 rfl rfl)
theorem dX1_turns_77 : decode cX1_turns 77 = .ok (.iload 6, 2) := dk_21 6 (dk_at dksX1_turns_3 9 rfl rfl)
theorem dX1_turns_79 : decode cX1_turns 79 = .ok (.iload_n 1, 1) := dk_27 (dk_at dksX1_turns_3 11 rfl rfl)
theorem dX1_turns_80 : decode cX1_turns 80 = .ok (.iconst 1, 1) := dk_4 (dk_at dksX1_turns_3 12 rfl rfl)
theorem dX1_turns_81 : decode cX1_turns 81 = .ok (.isub, 1) := dk_100 (dk_at dksX1_turns_3 13 rfl rfl)
theorem dX1_turns_82 : decode cX1_turns 82 = .ok (.if_icmp .ne 7, 3) := dk_160 0 7 (dk_at dksX1_turns_3 14 rfl rfl)
theorem dX1_turns_85 : decode cX1_turns 85 = .ok (.iconst 0, 1) := dk_3 (dk_at dksX1_turns_3 17 rfl rfl)
theorem dX1_turns_86 : decode cX1_turns 86 = .ok (.goto 7, 3) := dk_167 0 7 (dk_at dksX1_turns_3 18 rfl rfl)
theorem dX1_turns_89 : decode cX1_turns 89 = .ok (.iload 6, 2) := dk_21 6 (dk_at dksX1_turns_3 21 rfl rfl)
theorem dX1_turns_91 : decode cX1_turns 91 = .ok (.iconst 1, 1) := dk_4 (dk_at dksX1_turns_3 23 rfl rfl)
theorem dX1_turns_92 : decode cX1_turns 92 = .ok (.iadd, 1) := dk_96 (dk_at dksX1_turns_4 0 rfl rfl)
theorem dX1_turns_93 : decode cX1_turns 93 = .ok (.istore 7, 2) := dk_54 7 (dk_at dksX1_turns_4 1 rfl rfl)
theorem dX1_turns_95 : decode cX1_turns 95 = .ok (.iload 6, 2) := dk_21 6 (dk_at dksX1_turns_4 3 rfl rfl)
theorem dX1_turns_97 : decode cX1_turns 97 = .ok (.ifCond .ne 7, 3) := dk_154 0 7 (dk_at dksX1_turns_4 5 rfl rfl)
theorem dX1_turns_100 : decode cX1_turns 100 = .ok (.iload_n 2, 1) := dk_28 (dk_at dksX1_turns_4 8 rfl rfl)
theorem dX1_turns_101 : decode cX1_turns 101 = .ok (.goto 10, 3) := dk_167 0 10 (dk_at dksX1_turns_4 9 rfl rfl)
theorem dX1_turns_104 : decode cX1_turns 104 = .ok (.aload_n 0, 1) := dk_42 (dk_at dksX1_turns_4 12 rfl rfl)
theorem dX1_turns_105 : decode cX1_turns 105 = .ok (.getfield 68, 3) := dk_180 0 68 (dk_at dksX1_turns_4 13 rfl rfl)
theorem dX1_turns_108 : decode cX1_turns 108 = .ok (.iload 7, 2) := dk_21 7 (dk_at dksX1_turns_4 16 rfl rfl)
theorem dX1_turns_110 : decode cX1_turns 110 = .ok (.iaload, 1) := dk_46 (dk_at dksX1_turns_4 18 rfl rfl)
theorem dX1_turns_111 : decode cX1_turns 111 = .ok (.istore 8, 2) := dk_54 8 (dk_at dksX1_turns_4 19 rfl rfl)
theorem dX1_turns_113 : decode cX1_turns 113 = .ok (.iload 6, 2) := dk_21 6 (dk_at dksX1_turns_4 21 rfl rfl)
theorem dX1_turns_115 : decode cX1_turns 115 = .ok (.ifCond .ne 7, 3) := dk_154 0 7 (dk_at dksX1_turns_5 0 rfl rfl)
theorem dX1_turns_118 : decode cX1_turns 118 = .ok (.iload_n 3, 1) := dk_29 (dk_at dksX1_turns_5 3 rfl rfl)
theorem dX1_turns_119 : decode cX1_turns 119 = .ok (.goto 10, 3) := dk_167 0 10 (dk_at dksX1_turns_5 4 rfl rfl)
theorem dX1_turns_122 : decode cX1_turns 122 = .ok (.aload_n 0, 1) := dk_42 (dk_at dksX1_turns_5 7 rfl rfl)
theorem dX1_turns_123 : decode cX1_turns 123 = .ok (.getfield 71, 3) := dk_180 0 71 (dk_at dksX1_turns_5 8 rfl rfl)
theorem dX1_turns_126 : decode cX1_turns 126 = .ok (.iload 7, 2) := dk_21 7 (dk_at dksX1_turns_5 11 rfl rfl)
theorem dX1_turns_128 : decode cX1_turns 128 = .ok (.iaload, 1) := dk_46 (dk_at dksX1_turns_5 13 rfl rfl)
theorem dX1_turns_129 : decode cX1_turns 129 = .ok (.istore 9, 2) := dk_54 9 (dk_at dksX1_turns_5 14 rfl rfl)
theorem dX1_turns_131 : decode cX1_turns 131 = .ok (.aload_n 0, 1) := dk_42 (dk_at dksX1_turns_5 16 rfl rfl)
theorem dX1_turns_132 : decode cX1_turns 132 = .ok (.aload_n 0, 1) := dk_42 (dk_at dksX1_turns_5 17 rfl rfl)
theorem dX1_turns_133 : decode cX1_turns 133 = .ok (.getfield 64, 3) := dk_180 0 64 (dk_at dksX1_turns_5 18 rfl rfl)
theorem dX1_turns_136 : decode cX1_turns 136 = .ok (.iload 6, 2) := dk_21 6 (dk_at dksX1_turns_5 21 rfl rfl)
theorem dX1_turns_138 : decode cX1_turns 138 = .ok (.aaload, 1) := dk_50 (dk_at dksX1_turns_5 23 rfl rfl)
theorem dX1_turns_139 : decode cX1_turns 139 = .ok (.getfield 189, 3) := dk_180 0 189 (dk_at dksX1_turns_6 0 rfl rfl)
theorem dX1_turns_142 : decode cX1_turns 142 = .ok (.iload 8, 2) := dk_21 8 (dk_at dksX1_turns_6 3 rfl rfl)
theorem dX1_turns_144 : decode cX1_turns 144 = .ok (.iload 9, 2) := dk_21 9 (dk_at dksX1_turns_6 5 rfl rfl)
theorem dX1_turns_146 : decode cX1_turns 146 = .ok (.invokevirtual 260, 3) := dk_182 1 4 (dk_at dksX1_turns_6 7 rfl rfl)
theorem dX1_turns_149 : decode cX1_turns 149 = .ok (.ifCond .ne 7, 3) := dk_154 0 7 (dk_at dksX1_turns_6 10 rfl rfl)
theorem dX1_turns_152 : decode cX1_turns 152 = .ok (.iconst 1, 1) := dk_4 (dk_at dksX1_turns_6 13 rfl rfl)
theorem dX1_turns_153 : decode cX1_turns 153 = .ok (.goto 4, 3) := dk_167 0 4 (dk_at dksX1_turns_6 14 rfl rfl)
theorem dX1_turns_156 : decode cX1_turns 156 = .ok (.iconst 0, 1) := dk_3 (dk_at dksX1_turns_6 17 rfl rfl)
theorem dX1_turns_157 : decode cX1_turns 157 = .ok (.istore 5, 2) := dk_54 5 (dk_at dksX1_turns_6 18 rfl rfl)
theorem dX1_turns_159 : decode cX1_turns 159 = .ok (.iload 5, 2) := dk_21 5 (dk_at dksX1_turns_6 20 rfl rfl)
theorem dX1_turns_161 : decode cX1_turns 161 = .ok (.ifCond .eq 18, 3) := dk_153 0 18 (dk_at dksX1_turns_7 0 rfl rfl)
theorem dX1_turns_164 : decode cX1_turns 164 = .ok (.aload_n 0, 1) := dk_42 (dk_at dksX1_turns_7 3 rfl rfl)
theorem dX1_turns_165 : decode cX1_turns 165 = .ok (.aload_n 0, 1) := dk_42 (dk_at dksX1_turns_7 4 rfl rfl)
theorem dX1_turns_166 : decode cX1_turns 166 = .ok (.getfield 64, 3) := dk_180 0 64 (dk_at dksX1_turns_7 5 rfl rfl)
theorem dX1_turns_169 : decode cX1_turns 169 = .ok (.iload 6, 2) := dk_21 6 (dk_at dksX1_turns_7 8 rfl rfl)
theorem dX1_turns_171 : decode cX1_turns 171 = .ok (.aaload, 1) := dk_50 (dk_at dksX1_turns_7 10 rfl rfl)
theorem dX1_turns_172 : decode cX1_turns 172 = .ok (.iload 8, 2) := dk_21 8 (dk_at dksX1_turns_7 11 rfl rfl)
theorem dX1_turns_174 : decode cX1_turns 174 = .ok (.iload 9, 2) := dk_21 9 (dk_at dksX1_turns_7 13 rfl rfl)
theorem dX1_turns_176 : decode cX1_turns 176 = .ok (.invokevirtual 268, 3) := dk_182 1 12 (dk_at dksX1_turns_7 15 rfl rfl)
theorem dX1_turns_179 : decode cX1_turns 179 = .ok (.iinc 6 1, 3) := dk_132 6 1 (dk_at dksX1_turns_7 18 rfl rfl)
theorem dX1_turns_182 : decode cX1_turns 182 = .ok (.goto (-116), 3) := dk_167 255 140 (dk_at dksX1_turns_7 21 rfl rfl)
theorem dX1_turns_185 : decode cX1_turns 185 = .ok (.iconst 0, 1) := dk_3 (dk_at dksX1_turns_8 0 rfl rfl)
theorem dX1_turns_186 : decode cX1_turns 186 = .ok (.istore 6, 2) := dk_54 6 (dk_at dksX1_turns_8 1 rfl rfl)
theorem dX1_turns_188 : decode cX1_turns 188 = .ok (.iload 6, 2) := dk_21 6 (dk_at dksX1_turns_8 3 rfl rfl)
theorem dX1_turns_190 : decode cX1_turns 190 = .ok (.iload_n 1, 1) := dk_27 (dk_at dksX1_turns_8 5 rfl rfl)
theorem dX1_turns_191 : decode cX1_turns 191 = .ok (.if_icmp .ge 44, 3) := dk_162 0 44 (dk_at dksX1_turns_8 6 rfl rfl)
theorem dX1_turns_194 : decode cX1_turns 194 = .ok (.iload 5, 2) := dk_21 5 (dk_at dksX1_turns_8 9 rfl rfl)
theorem dX1_turns_196 : decode cX1_turns 196 = .ok (.ifCond .eq 8, 3) := dk_153 0 8 (dk_at dksX1_turns_8 11 rfl rfl)
theorem dX1_turns_199 : decode cX1_turns 199 = .ok (.iload 4, 2) := dk_21 4 (dk_at dksX1_turns_8 14 rfl rfl)
theorem dX1_turns_201 : decode cX1_turns 201 = .ok (.ifCond .ne 34, 3) := dk_154 0 34 (dk_at dksX1_turns_8 16 rfl rfl)
theorem dX1_turns_204 : decode cX1_turns 204 = .ok (.aload_n 0, 1) := dk_42 (dk_at dksX1_turns_8 19 rfl rfl)
theorem dX1_turns_205 : decode cX1_turns 205 = .ok (.aload_n 0, 1) := dk_42 (dk_at dksX1_turns_8 20 rfl rfl)
theorem dX1_turns_206 : decode cX1_turns 206 = .ok (.getfield 64, 3) := dk_180 0 64 (dk_at dksX1_turns_8 21 rfl rfl)
theorem dX1_turns_209 : decode cX1_turns 209 = .ok (.iload 6, 2) := dk_21 6 (dk_at dksX1_turns_9 0 rfl rfl)
theorem dX1_turns_211 : decode cX1_turns 211 = .ok (.aaload, 1) := dk_50 (dk_at dksX1_turns_9 2 rfl rfl)
theorem dX1_turns_212 : decode cX1_turns 212 = .ok (.aload_n 0, 1) := dk_42 (dk_at dksX1_turns_9 3 rfl rfl)
theorem dX1_turns_213 : decode cX1_turns 213 = .ok (.getfield 68, 3) := dk_180 0 68 (dk_at dksX1_turns_9 4 rfl rfl)
theorem dX1_turns_216 : decode cX1_turns 216 = .ok (.iload 6, 2) := dk_21 6 (dk_at dksX1_turns_9 7 rfl rfl)
theorem dX1_turns_218 : decode cX1_turns 218 = .ok (.iaload, 1) := dk_46 (dk_at dksX1_turns_9 9 rfl rfl)
theorem dX1_turns_219 : decode cX1_turns 219 = .ok (.aload_n 0, 1) := dk_42 (dk_at dksX1_turns_9 10 rfl rfl)
theorem dX1_turns_220 : decode cX1_turns 220 = .ok (.getfield 71, 3) := dk_180 0 71 (dk_at dksX1_turns_9 11 rfl rfl)
theorem dX1_turns_223 : decode cX1_turns 223 = .ok (.iload 6, 2) := dk_21 6 (dk_at dksX1_turns_9 14 rfl rfl)
theorem dX1_turns_225 : decode cX1_turns 225 = .ok (.iaload, 1) := dk_46 (dk_at dksX1_turns_9 16 rfl rfl)
theorem dX1_turns_226 : decode cX1_turns 226 = .ok (.invokevirtual 268, 3) := dk_182 1 12 (dk_at dksX1_turns_9 17 rfl rfl)
theorem dX1_turns_229 : decode cX1_turns 229 = .ok (.iinc 6 1, 3) := dk_132 6 1 (dk_at dksX1_turns_9 20 rfl rfl)
theorem dX1_turns_232 : decode cX1_turns 232 = .ok (.goto (-44), 3) := dk_167 255 212 (dk_at dksX1_turns_10 0 rfl rfl)
theorem dX1_turns_235 : decode cX1_turns 235 = .ok (.iload 5, 2) := dk_21 5 (dk_at dksX1_turns_10 3 rfl rfl)
theorem dX1_turns_237 : decode cX1_turns 237 = .ok (.ireturn, 1) := dk_172 (dk_at dksX1_turns_10 5 rfl rfl)
abbrev cX1_swap : ByteArray := prog_1_method_32_code
def yX1_swap : MethodName := ⟨RX1, "swap", "(II)I"⟩
def dkwX1_swap_6 : List UInt8 := [182, 0, 204, 180, 1, 2, 96, 172]
abbrev dktX1_swap_6 : List UInt8 := dkwX1_swap_6 ++ []
def dkwX1_swap_5 : List UInt8 := [182, 1, 47, 42, 42, 28, 182, 0, 204, 182, 1, 47, 42, 27, 182, 0, 204, 180, 1, 2, 42, 28]
abbrev dktX1_swap_5 : List UInt8 := dkwX1_swap_5 ++ dktX1_swap_6
def dkwX1_swap_4 : List UInt8 := [58, 4, 187, 0, 74, 89, 1, 25, 4, 183, 1, 43, 191, 42, 45, 182, 1, 44, 42, 42, 27, 182, 0, 204]
abbrev dktX1_swap_4 : List UInt8 := dkwX1_swap_4 ++ dktX1_swap_5
def dkwX1_swap_3 : List UInt8 := [180, 0, 25, 183, 0, 147, 78, 42, 42, 27, 182, 0, 204, 42, 28, 182, 0, 204, 182, 1, 39, 167, 0, 16]
abbrev dktX1_swap_3 : List UInt8 := dkwX1_swap_3 ++ dktX1_swap_4
def dkwX1_swap_2 : List UInt8 := [42, 28, 182, 0, 204, 180, 1, 36, 153, 0, 7, 4, 167, 0, 4, 3, 184, 0, 94, 187, 0, 20, 89, 42]
abbrev dktX1_swap_2 : List UInt8 := dkwX1_swap_2 ++ dktX1_swap_3
def dkwX1_swap_1 : List UInt8 := [27, 28, 159, 0, 7, 4, 167, 0, 4, 3, 184, 0, 102, 42, 27, 182, 0, 204, 180, 1, 36, 153, 0, 18]
abbrev dktX1_swap_1 : List UInt8 := dkwX1_swap_1 ++ dktX1_swap_2
def dkwX1_swap_0 : List UInt8 := [42, 27, 182, 1, 29, 153, 0, 15, 42, 28, 182, 1, 29, 153, 0, 7, 4, 167, 0, 4, 3, 184, 1, 33]
abbrev dktX1_swap_0 : List UInt8 := dkwX1_swap_0 ++ dktX1_swap_1
theorem dksX1_swap_0 : cX1_swap.data.toList.drop 0 = dktX1_swap_0 := by decide +kernel
theorem dksX1_swap_1 : cX1_swap.data.toList.drop 24 = dktX1_swap_1 := dk_seg dksX1_swap_0 24 rfl rfl
theorem dksX1_swap_2 : cX1_swap.data.toList.drop 48 = dktX1_swap_2 := dk_seg dksX1_swap_1 24 rfl rfl
theorem dksX1_swap_3 : cX1_swap.data.toList.drop 72 = dktX1_swap_3 := dk_seg dksX1_swap_2 24 rfl rfl
theorem dksX1_swap_4 : cX1_swap.data.toList.drop 96 = dktX1_swap_4 := dk_seg dksX1_swap_3 24 rfl rfl
theorem dksX1_swap_5 : cX1_swap.data.toList.drop 120 = dktX1_swap_5 := dk_seg dksX1_swap_4 24 rfl rfl
theorem dksX1_swap_6 : cX1_swap.data.toList.drop 142 = dktX1_swap_6 := dk_seg dksX1_swap_5 22 rfl rfl
theorem dX1_swap_0 : decode cX1_swap 0 = .ok (.aload_n 0, 1) := dk_42 (dk_at dksX1_swap_0 0 rfl rfl)
theorem dX1_swap_1 : decode cX1_swap 1 = .ok (.iload_n 1, 1) := dk_27 (dk_at dksX1_swap_0 1 rfl rfl)
theorem dX1_swap_2 : decode cX1_swap 2 = .ok (.invokevirtual 285, 3) := dk_182 1 29 (dk_at dksX1_swap_0 2 rfl rfl)
theorem dX1_swap_5 : decode cX1_swap 5 = .ok (.ifCond .eq 15, 3) := dk_153 0 15 (dk_at dksX1_swap_0 5 rfl rfl)
theorem dX1_swap_8 : decode cX1_swap 8 = .ok (.aload_n 0, 1) := dk_42 (dk_at dksX1_swap_0 8 rfl rfl)
theorem dX1_swap_9 : decode cX1_swap 9 = .ok (.iload_n 2, 1) := dk_28 (dk_at dksX1_swap_0 9 rfl rfl)
theorem dX1_swap_10 : decode cX1_swap 10 = .ok (.invokevirtual 285, 3) := dk_182 1 29 (dk_at dksX1_swap_0 10 rfl rfl)
theorem dX1_swap_13 : decode cX1_swap 13 = .ok (.ifCond .eq 7, 3) := dk_153 0 7 (dk_at dksX1_swap_0 13 rfl rfl)
theorem dX1_swap_16 : decode cX1_swap 16 = .ok (.iconst 1, 1) := dk_4 (dk_at dksX1_swap_0 16 rfl rfl)
theorem dX1_swap_17 : decode cX1_swap 17 = .ok (.goto 4, 3) := dk_167 0 4 (dk_at dksX1_swap_0 17 rfl rfl)
theorem dX1_swap_20 : decode cX1_swap 20 = .ok (.iconst 0, 1) := dk_3 (dk_at dksX1_swap_0 20 rfl rfl)
theorem dX1_swap_21 : decode cX1_swap 21 = .ok (.invokestatic 289, 3) := dk_184 1 33 (dk_at dksX1_swap_0 21 rfl rfl)
theorem dX1_swap_24 : decode cX1_swap 24 = .ok (.iload_n 1, 1) := dk_27 (dk_at dksX1_swap_1 0 rfl rfl)
theorem dX1_swap_25 : decode cX1_swap 25 = .ok (.iload_n 2, 1) := dk_28 (dk_at dksX1_swap_1 1 rfl rfl)
theorem dX1_swap_26 : decode cX1_swap 26 = .ok (.if_icmp .eq 7, 3) := dk_159 0 7 (dk_at dksX1_swap_1 2 rfl rfl)
theorem dX1_swap_29 : decode cX1_swap 29 = .ok (.iconst 1, 1) := dk_4 (dk_at dksX1_swap_1 5 rfl rfl)
theorem dX1_swap_30 : decode cX1_swap 30 = .ok (.goto 4, 3) := dk_167 0 4 (dk_at dksX1_swap_1 6 rfl rfl)
theorem dX1_swap_33 : decode cX1_swap 33 = .ok (.iconst 0, 1) := dk_3 (dk_at dksX1_swap_1 9 rfl rfl)
theorem dX1_swap_34 : decode cX1_swap 34 = .ok (.invokestatic 102, 3) := dk_184 0 102 (dk_at dksX1_swap_1 10 rfl rfl)
theorem dX1_swap_37 : decode cX1_swap 37 = .ok (.aload_n 0, 1) := dk_42 (dk_at dksX1_swap_1 13 rfl rfl)
theorem dX1_swap_38 : decode cX1_swap 38 = .ok (.iload_n 1, 1) := dk_27 (dk_at dksX1_swap_1 14 rfl rfl)
theorem dX1_swap_39 : decode cX1_swap 39 = .ok (.invokevirtual 204, 3) := dk_182 0 204 (dk_at dksX1_swap_1 15 rfl rfl)
theorem dX1_swap_42 : decode cX1_swap 42 = .ok (.getfield 292, 3) := dk_180 1 36 (dk_at dksX1_swap_1 18 rfl rfl)
theorem dX1_swap_45 : decode cX1_swap 45 = .ok (.ifCond .eq 18, 3) := dk_153 0 18 (dk_at dksX1_swap_1 21 rfl rfl)
theorem dX1_swap_48 : decode cX1_swap 48 = .ok (.aload_n 0, 1) := dk_42 (dk_at dksX1_swap_2 0 rfl rfl)
theorem dX1_swap_49 : decode cX1_swap 49 = .ok (.iload_n 2, 1) := dk_28 (dk_at dksX1_swap_2 1 rfl rfl)
theorem dX1_swap_50 : decode cX1_swap 50 = .ok (.invokevirtual 204, 3) := dk_182 0 204 (dk_at dksX1_swap_2 2 rfl rfl)
theorem dX1_swap_53 : decode cX1_swap 53 = .ok (.getfield 292, 3) := dk_180 1 36 (dk_at dksX1_swap_2 5 rfl rfl)
theorem dX1_swap_56 : decode cX1_swap 56 = .ok (.ifCond .eq 7, 3) := dk_153 0 7 (dk_at dksX1_swap_2 8 rfl rfl)
theorem dX1_swap_59 : decode cX1_swap 59 = .ok (.iconst 1, 1) := dk_4 (dk_at dksX1_swap_2 11 rfl rfl)
theorem dX1_swap_60 : decode cX1_swap 60 = .ok (.goto 4, 3) := dk_167 0 4 (dk_at dksX1_swap_2 12 rfl rfl)
theorem dX1_swap_63 : decode cX1_swap 63 = .ok (.iconst 0, 1) := dk_3 (dk_at dksX1_swap_2 15 rfl rfl)
theorem dX1_swap_64 : decode cX1_swap 64 = .ok (.invokestatic 94, 3) := dk_184 0 94 (dk_at dksX1_swap_2 16 rfl rfl)
theorem dX1_swap_67 : decode cX1_swap 67 = .ok (.new 20, 3) := dk_187 0 20 (dk_at dksX1_swap_2 19 rfl rfl)
theorem dX1_swap_70 : decode cX1_swap 70 = .ok (.dup, 1) := dk_89 (dk_at dksX1_swap_2 22 rfl rfl)
theorem dX1_swap_71 : decode cX1_swap 71 = .ok (.aload_n 0, 1) := dk_42 (dk_at dksX1_swap_2 23 rfl rfl)
theorem dX1_swap_72 : decode cX1_swap 72 = .ok (.getfield 25, 3) := dk_180 0 25 (dk_at dksX1_swap_3 0 rfl rfl)
theorem dX1_swap_75 : decode cX1_swap 75 = .ok (.invokespecial 147, 3) := dk_183 0 147 (dk_at dksX1_swap_3 3 rfl rfl)
theorem dX1_swap_78 : decode cX1_swap 78 = .ok (.astore_n 3, 1) := dk_78 (dk_at dksX1_swap_3 6 rfl rfl)
theorem dX1_swap_79 : decode cX1_swap 79 = .ok (.aload_n 0, 1) := dk_42 (dk_at dksX1_swap_3 7 rfl rfl)
theorem dX1_swap_80 : decode cX1_swap 80 = .ok (.aload_n 0, 1) := dk_42 (dk_at dksX1_swap_3 8 rfl rfl)
theorem dX1_swap_81 : decode cX1_swap 81 = .ok (.iload_n 1, 1) := dk_27 (dk_at dksX1_swap_3 9 rfl rfl)
theorem dX1_swap_82 : decode cX1_swap 82 = .ok (.invokevirtual 204, 3) := dk_182 0 204 (dk_at dksX1_swap_3 10 rfl rfl)
theorem dX1_swap_85 : decode cX1_swap 85 = .ok (.aload_n 0, 1) := dk_42 (dk_at dksX1_swap_3 13 rfl rfl)
theorem dX1_swap_86 : decode cX1_swap 86 = .ok (.iload_n 2, 1) := dk_28 (dk_at dksX1_swap_3 14 rfl rfl)
theorem dX1_swap_87 : decode cX1_swap 87 = .ok (.invokevirtual 204, 3) := dk_182 0 204 (dk_at dksX1_swap_3 15 rfl rfl)
theorem dX1_swap_90 : decode cX1_swap 90 = .ok (.invokevirtual 295, 3) := dk_182 1 39 (dk_at dksX1_swap_3 18 rfl rfl)
theorem dX1_swap_93 : decode cX1_swap 93 = .ok (.goto 16, 3) := dk_167 0 16 (dk_at dksX1_swap_3 21 rfl rfl)
theorem dX1_swap_96 : decode cX1_swap 96 = .ok (.astore 4, 2) := dk_58 4 (dk_at dksX1_swap_4 0 rfl rfl)
theorem dX1_swap_98 : decode cX1_swap 98 = .ok (.new 74, 3) := dk_187 0 74 (dk_at dksX1_swap_4 2 rfl rfl)
theorem dX1_swap_101 : decode cX1_swap 101 = .ok (.dup, 1) := dk_89 (dk_at dksX1_swap_4 5 rfl rfl)
theorem dX1_swap_102 : decode cX1_swap 102 = .ok (.aconst_null, 1) := dk_1 (dk_at dksX1_swap_4 6 rfl rfl)
theorem dX1_swap_103 : decode cX1_swap 103 = .ok (.aload 4, 2) := dk_25 4 (dk_at dksX1_swap_4 7 rfl rfl)
theorem dX1_swap_105 : decode cX1_swap 105 = .ok (.invokespecial 299, 3) := dk_183 1 43 (dk_at dksX1_swap_4 9 rfl rfl)
theorem dX1_swap_108 : decode cX1_swap 108 = .ok (.athrow, 1) := dk_191 (dk_at dksX1_swap_4 12 rfl rfl)
theorem dX1_swap_109 : decode cX1_swap 109 = .ok (.aload_n 0, 1) := dk_42 (dk_at dksX1_swap_4 13 rfl rfl)
theorem dX1_swap_110 : decode cX1_swap 110 = .ok (.aload_n 3, 1) := dk_45 (dk_at dksX1_swap_4 14 rfl rfl)
theorem dX1_swap_111 : decode cX1_swap 111 = .ok (.invokevirtual 300, 3) := dk_182 1 44 (dk_at dksX1_swap_4 15 rfl rfl)
theorem dX1_swap_114 : decode cX1_swap 114 = .ok (.aload_n 0, 1) := dk_42 (dk_at dksX1_swap_4 18 rfl rfl)
theorem dX1_swap_115 : decode cX1_swap 115 = .ok (.aload_n 0, 1) := dk_42 (dk_at dksX1_swap_4 19 rfl rfl)
theorem dX1_swap_116 : decode cX1_swap 116 = .ok (.iload_n 1, 1) := dk_27 (dk_at dksX1_swap_4 20 rfl rfl)
theorem dX1_swap_117 : decode cX1_swap 117 = .ok (.invokevirtual 204, 3) := dk_182 0 204 (dk_at dksX1_swap_4 21 rfl rfl)
theorem dX1_swap_120 : decode cX1_swap 120 = .ok (.invokevirtual 303, 3) := dk_182 1 47 (dk_at dksX1_swap_5 0 rfl rfl)
theorem dX1_swap_123 : decode cX1_swap 123 = .ok (.aload_n 0, 1) := dk_42 (dk_at dksX1_swap_5 3 rfl rfl)
theorem dX1_swap_124 : decode cX1_swap 124 = .ok (.aload_n 0, 1) := dk_42 (dk_at dksX1_swap_5 4 rfl rfl)
theorem dX1_swap_125 : decode cX1_swap 125 = .ok (.iload_n 2, 1) := dk_28 (dk_at dksX1_swap_5 5 rfl rfl)
theorem dX1_swap_126 : decode cX1_swap 126 = .ok (.invokevirtual 204, 3) := dk_182 0 204 (dk_at dksX1_swap_5 6 rfl rfl)
theorem dX1_swap_129 : decode cX1_swap 129 = .ok (.invokevirtual 303, 3) := dk_182 1 47 (dk_at dksX1_swap_5 9 rfl rfl)
theorem dX1_swap_132 : decode cX1_swap 132 = .ok (.aload_n 0, 1) := dk_42 (dk_at dksX1_swap_5 12 rfl rfl)
theorem dX1_swap_133 : decode cX1_swap 133 = .ok (.iload_n 1, 1) := dk_27 (dk_at dksX1_swap_5 13 rfl rfl)
theorem dX1_swap_134 : decode cX1_swap 134 = .ok (.invokevirtual 204, 3) := dk_182 0 204 (dk_at dksX1_swap_5 14 rfl rfl)
theorem dX1_swap_137 : decode cX1_swap 137 = .ok (.getfield 258, 3) := dk_180 1 2 (dk_at dksX1_swap_5 17 rfl rfl)
theorem dX1_swap_140 : decode cX1_swap 140 = .ok (.aload_n 0, 1) := dk_42 (dk_at dksX1_swap_5 20 rfl rfl)
theorem dX1_swap_141 : decode cX1_swap 141 = .ok (.iload_n 2, 1) := dk_28 (dk_at dksX1_swap_5 21 rfl rfl)
theorem dX1_swap_142 : decode cX1_swap 142 = .ok (.invokevirtual 204, 3) := dk_182 0 204 (dk_at dksX1_swap_6 0 rfl rfl)
theorem dX1_swap_145 : decode cX1_swap 145 = .ok (.getfield 258, 3) := dk_180 1 2 (dk_at dksX1_swap_6 3 rfl rfl)
theorem dX1_swap_148 : decode cX1_swap 148 = .ok (.iadd, 1) := dk_96 (dk_at dksX1_swap_6 6 rfl rfl)
theorem dX1_swap_149 : decode cX1_swap 149 = .ok (.ireturn, 1) := dk_172 (dk_at dksX1_swap_6 7 rfl rfl)
abbrev cX1_trySwap : ByteArray := prog_1_method_31_code
def yX1_trySwap : MethodName := ⟨RX1, "trySwap", "(LHallPlan$Booking;LHallPlan$Booking;)V"⟩
def dkwX1_trySwap_4 : List UInt8 := [16, 10, 21, 7, 104, 25, 8, 183, 1, 9, 191, 177]
abbrev dktX1_trySwap_4 : List UInt8 := dkwX1_trySwap_4 ++ []
def dkwX1_trySwap_3 : List UInt8 := [58, 8, 42, 43, 29, 21, 4, 182, 1, 12, 42, 44, 21, 5, 21, 6, 182, 1, 12, 187, 1, 7, 89]
abbrev dktX1_trySwap_3 : List UInt8 := dkwX1_trySwap_3 ++ dktX1_trySwap_4
def dkwX1_trySwap_2 : List UInt8 := [42, 43, 21, 5, 21, 6, 182, 1, 26, 5, 54, 7, 42, 44, 29, 21, 4, 182, 1, 26, 167, 0, 37]
abbrev dktX1_trySwap_2 : List UInt8 := dkwX1_trySwap_2 ++ dktX1_trySwap_3
def dkwX1_trySwap_1 : List UInt8 := [180, 0, 212, 54, 5, 44, 180, 0, 201, 54, 6, 4, 54, 7, 43, 4, 181, 0, 250, 44, 4, 181, 0, 250]
abbrev dktX1_trySwap_1 : List UInt8 := dkwX1_trySwap_1 ++ dktX1_trySwap_2
def dkwX1_trySwap_0 : List UInt8 := [42, 43, 182, 1, 22, 42, 44, 182, 1, 22, 43, 180, 0, 212, 62, 43, 180, 0, 201, 54, 4, 44]
abbrev dktX1_trySwap_0 : List UInt8 := dkwX1_trySwap_0 ++ dktX1_trySwap_1
theorem dksX1_trySwap_0 : cX1_trySwap.data.toList.drop 0 = dktX1_trySwap_0 := by decide +kernel
theorem dksX1_trySwap_1 : cX1_trySwap.data.toList.drop 22 = dktX1_trySwap_1 := dk_seg dksX1_trySwap_0 22 rfl rfl
theorem dksX1_trySwap_2 : cX1_trySwap.data.toList.drop 46 = dktX1_trySwap_2 := dk_seg dksX1_trySwap_1 24 rfl rfl
theorem dksX1_trySwap_3 : cX1_trySwap.data.toList.drop 69 = dktX1_trySwap_3 := dk_seg dksX1_trySwap_2 23 rfl rfl
theorem dksX1_trySwap_4 : cX1_trySwap.data.toList.drop 92 = dktX1_trySwap_4 := dk_seg dksX1_trySwap_3 23 rfl rfl
theorem dX1_trySwap_0 : decode cX1_trySwap 0 = .ok (.aload_n 0, 1) := dk_42 (dk_at dksX1_trySwap_0 0 rfl rfl)
theorem dX1_trySwap_1 : decode cX1_trySwap 1 = .ok (.aload_n 1, 1) := dk_43 (dk_at dksX1_trySwap_0 1 rfl rfl)
theorem dX1_trySwap_2 : decode cX1_trySwap 2 = .ok (.invokevirtual 278, 3) := dk_182 1 22 (dk_at dksX1_trySwap_0 2 rfl rfl)
theorem dX1_trySwap_5 : decode cX1_trySwap 5 = .ok (.aload_n 0, 1) := dk_42 (dk_at dksX1_trySwap_0 5 rfl rfl)
theorem dX1_trySwap_6 : decode cX1_trySwap 6 = .ok (.aload_n 2, 1) := dk_44 (dk_at dksX1_trySwap_0 6 rfl rfl)
theorem dX1_trySwap_7 : decode cX1_trySwap 7 = .ok (.invokevirtual 278, 3) := dk_182 1 22 (dk_at dksX1_trySwap_0 7 rfl rfl)
theorem dX1_trySwap_10 : decode cX1_trySwap 10 = .ok (.aload_n 1, 1) := dk_43 (dk_at dksX1_trySwap_0 10 rfl rfl)
theorem dX1_trySwap_11 : decode cX1_trySwap 11 = .ok (.getfield 212, 3) := dk_180 0 212 (dk_at dksX1_trySwap_0 11 rfl rfl)
theorem dX1_trySwap_14 : decode cX1_trySwap 14 = .ok (.istore_n 3, 1) := dk_62 (dk_at dksX1_trySwap_0 14 rfl rfl)
theorem dX1_trySwap_15 : decode cX1_trySwap 15 = .ok (.aload_n 1, 1) := dk_43 (dk_at dksX1_trySwap_0 15 rfl rfl)
theorem dX1_trySwap_16 : decode cX1_trySwap 16 = .ok (.getfield 201, 3) := dk_180 0 201 (dk_at dksX1_trySwap_0 16 rfl rfl)
theorem dX1_trySwap_19 : decode cX1_trySwap 19 = .ok (.istore 4, 2) := dk_54 4 (dk_at dksX1_trySwap_0 19 rfl rfl)
theorem dX1_trySwap_21 : decode cX1_trySwap 21 = .ok (.aload_n 2, 1) := dk_44 (dk_at dksX1_trySwap_0 21 rfl rfl)
theorem dX1_trySwap_22 : decode cX1_trySwap 22 = .ok (.getfield 212, 3) := dk_180 0 212 (dk_at dksX1_trySwap_1 0 rfl rfl)
theorem dX1_trySwap_25 : decode cX1_trySwap 25 = .ok (.istore 5, 2) := dk_54 5 (dk_at dksX1_trySwap_1 3 rfl rfl)
theorem dX1_trySwap_27 : decode cX1_trySwap 27 = .ok (.aload_n 2, 1) := dk_44 (dk_at dksX1_trySwap_1 5 rfl rfl)
theorem dX1_trySwap_28 : decode cX1_trySwap 28 = .ok (.getfield 201, 3) := dk_180 0 201 (dk_at dksX1_trySwap_1 6 rfl rfl)
theorem dX1_trySwap_31 : decode cX1_trySwap 31 = .ok (.istore 6, 2) := dk_54 6 (dk_at dksX1_trySwap_1 9 rfl rfl)
theorem dX1_trySwap_33 : decode cX1_trySwap 33 = .ok (.iconst 1, 1) := dk_4 (dk_at dksX1_trySwap_1 11 rfl rfl)
theorem dX1_trySwap_34 : decode cX1_trySwap 34 = .ok (.istore 7, 2) := dk_54 7 (dk_at dksX1_trySwap_1 12 rfl rfl)
theorem dX1_trySwap_36 : decode cX1_trySwap 36 = .ok (.aload_n 1, 1) := dk_43 (dk_at dksX1_trySwap_1 14 rfl rfl)
theorem dX1_trySwap_37 : decode cX1_trySwap 37 = .ok (.iconst 1, 1) := dk_4 (dk_at dksX1_trySwap_1 15 rfl rfl)
theorem dX1_trySwap_38 : decode cX1_trySwap 38 = .ok (.putfield 250, 3) := dk_181 0 250 (dk_at dksX1_trySwap_1 16 rfl rfl)
theorem dX1_trySwap_41 : decode cX1_trySwap 41 = .ok (.aload_n 2, 1) := dk_44 (dk_at dksX1_trySwap_1 19 rfl rfl)
theorem dX1_trySwap_42 : decode cX1_trySwap 42 = .ok (.iconst 1, 1) := dk_4 (dk_at dksX1_trySwap_1 20 rfl rfl)
theorem dX1_trySwap_43 : decode cX1_trySwap 43 = .ok (.putfield 250, 3) := dk_181 0 250 (dk_at dksX1_trySwap_1 21 rfl rfl)
theorem dX1_trySwap_46 : decode cX1_trySwap 46 = .ok (.aload_n 0, 1) := dk_42 (dk_at dksX1_trySwap_2 0 rfl rfl)
theorem dX1_trySwap_47 : decode cX1_trySwap 47 = .ok (.aload_n 1, 1) := dk_43 (dk_at dksX1_trySwap_2 1 rfl rfl)
theorem dX1_trySwap_48 : decode cX1_trySwap 48 = .ok (.iload 5, 2) := dk_21 5 (dk_at dksX1_trySwap_2 2 rfl rfl)
theorem dX1_trySwap_50 : decode cX1_trySwap 50 = .ok (.iload 6, 2) := dk_21 6 (dk_at dksX1_trySwap_2 4 rfl rfl)
theorem dX1_trySwap_52 : decode cX1_trySwap 52 = .ok (.invokevirtual 282, 3) := dk_182 1 26 (dk_at dksX1_trySwap_2 6 rfl rfl)
theorem dX1_trySwap_55 : decode cX1_trySwap 55 = .ok (.iconst 2, 1) := dk_5 (dk_at dksX1_trySwap_2 9 rfl rfl)
theorem dX1_trySwap_56 : decode cX1_trySwap 56 = .ok (.istore 7, 2) := dk_54 7 (dk_at dksX1_trySwap_2 10 rfl rfl)
theorem dX1_trySwap_58 : decode cX1_trySwap 58 = .ok (.aload_n 0, 1) := dk_42 (dk_at dksX1_trySwap_2 12 rfl rfl)
theorem dX1_trySwap_59 : decode cX1_trySwap 59 = .ok (.aload_n 2, 1) := dk_44 (dk_at dksX1_trySwap_2 13 rfl rfl)
theorem dX1_trySwap_60 : decode cX1_trySwap 60 = .ok (.iload_n 3, 1) := dk_29 (dk_at dksX1_trySwap_2 14 rfl rfl)
theorem dX1_trySwap_61 : decode cX1_trySwap 61 = .ok (.iload 4, 2) := dk_21 4 (dk_at dksX1_trySwap_2 15 rfl rfl)
theorem dX1_trySwap_63 : decode cX1_trySwap 63 = .ok (.invokevirtual 282, 3) := dk_182 1 26 (dk_at dksX1_trySwap_2 17 rfl rfl)
theorem dX1_trySwap_66 : decode cX1_trySwap 66 = .ok (.goto 37, 3) := dk_167 0 37 (dk_at dksX1_trySwap_2 20 rfl rfl)
theorem dX1_trySwap_69 : decode cX1_trySwap 69 = .ok (.astore 8, 2) := dk_58 8 (dk_at dksX1_trySwap_3 0 rfl rfl)
theorem dX1_trySwap_71 : decode cX1_trySwap 71 = .ok (.aload_n 0, 1) := dk_42 (dk_at dksX1_trySwap_3 2 rfl rfl)
theorem dX1_trySwap_72 : decode cX1_trySwap 72 = .ok (.aload_n 1, 1) := dk_43 (dk_at dksX1_trySwap_3 3 rfl rfl)
theorem dX1_trySwap_73 : decode cX1_trySwap 73 = .ok (.iload_n 3, 1) := dk_29 (dk_at dksX1_trySwap_3 4 rfl rfl)
theorem dX1_trySwap_74 : decode cX1_trySwap 74 = .ok (.iload 4, 2) := dk_21 4 (dk_at dksX1_trySwap_3 5 rfl rfl)
theorem dX1_trySwap_76 : decode cX1_trySwap 76 = .ok (.invokevirtual 268, 3) := dk_182 1 12 (dk_at dksX1_trySwap_3 7 rfl rfl)
theorem dX1_trySwap_79 : decode cX1_trySwap 79 = .ok (.aload_n 0, 1) := dk_42 (dk_at dksX1_trySwap_3 10 rfl rfl)
theorem dX1_trySwap_80 : decode cX1_trySwap 80 = .ok (.aload_n 2, 1) := dk_44 (dk_at dksX1_trySwap_3 11 rfl rfl)
theorem dX1_trySwap_81 : decode cX1_trySwap 81 = .ok (.iload 5, 2) := dk_21 5 (dk_at dksX1_trySwap_3 12 rfl rfl)
theorem dX1_trySwap_83 : decode cX1_trySwap 83 = .ok (.iload 6, 2) := dk_21 6 (dk_at dksX1_trySwap_3 14 rfl rfl)
theorem dX1_trySwap_85 : decode cX1_trySwap 85 = .ok (.invokevirtual 268, 3) := dk_182 1 12 (dk_at dksX1_trySwap_3 16 rfl rfl)
theorem dX1_trySwap_88 : decode cX1_trySwap 88 = .ok (.new 263, 3) := dk_187 1 7 (dk_at dksX1_trySwap_3 19 rfl rfl)
theorem dX1_trySwap_91 : decode cX1_trySwap 91 = .ok (.dup, 1) := dk_89 (dk_at dksX1_trySwap_3 22 rfl rfl)
theorem dX1_trySwap_92 : decode cX1_trySwap 92 = .ok (.bipush 10, 2) := dk_16 10 (dk_at dksX1_trySwap_4 0 rfl rfl)
theorem dX1_trySwap_94 : decode cX1_trySwap 94 = .ok (.iload 7, 2) := dk_21 7 (dk_at dksX1_trySwap_4 2 rfl rfl)
theorem dX1_trySwap_96 : decode cX1_trySwap 96 = .ok (.imul, 1) := dk_104 (dk_at dksX1_trySwap_4 4 rfl rfl)
theorem dX1_trySwap_97 : decode cX1_trySwap 97 = .ok (.aload 8, 2) := dk_25 8 (dk_at dksX1_trySwap_4 5 rfl rfl)
theorem dX1_trySwap_99 : decode cX1_trySwap 99 = .ok (.invokespecial 265, 3) := dk_183 1 9 (dk_at dksX1_trySwap_4 7 rfl rfl)
theorem dX1_trySwap_102 : decode cX1_trySwap 102 = .ok (.athrow, 1) := dk_191 (dk_at dksX1_trySwap_4 10 rfl rfl)
theorem dX1_trySwap_103 : decode cX1_trySwap 103 = .ok (.return_, 1) := dk_177 (dk_at dksX1_trySwap_4 11 rfl rfl)
abbrev cX1_needNotLate : ByteArray := prog_1_method_30_code
def yX1_needNotLate : MethodName := ⟨RX1, "needNotLate", "(LHallPlan$Booking;)V"⟩
def dkwX1_needNotLate_0 : List UInt8 := [43, 180, 0, 201, 42, 180, 0, 25, 180, 1, 16, 162, 0, 11, 187, 1, 19, 89, 183, 1, 21, 191, 177]
abbrev dktX1_needNotLate_0 : List UInt8 := dkwX1_needNotLate_0 ++ []
theorem dksX1_needNotLate_0 : cX1_needNotLate.data.toList.drop 0 = dktX1_needNotLate_0 := by decide +kernel
theorem dX1_needNotLate_0 : decode cX1_needNotLate 0 = .ok (.aload_n 1, 1) := dk_43 (dk_at dksX1_needNotLate_0 0 rfl rfl)
theorem dX1_needNotLate_1 : decode cX1_needNotLate 1 = .ok (.getfield 201, 3) := dk_180 0 201 (dk_at dksX1_needNotLate_0 1 rfl rfl)
theorem dX1_needNotLate_4 : decode cX1_needNotLate 4 = .ok (.aload_n 0, 1) := dk_42 (dk_at dksX1_needNotLate_0 4 rfl rfl)
theorem dX1_needNotLate_5 : decode cX1_needNotLate 5 = .ok (.getfield 25, 3) := dk_180 0 25 (dk_at dksX1_needNotLate_0 5 rfl rfl)
theorem dX1_needNotLate_8 : decode cX1_needNotLate 8 = .ok (.getfield 272, 3) := dk_180 1 16 (dk_at dksX1_needNotLate_0 8 rfl rfl)
theorem dX1_needNotLate_11 : decode cX1_needNotLate 11 = .ok (.if_icmp .ge 11, 3) := dk_162 0 11 (dk_at dksX1_needNotLate_0 11 rfl rfl)
theorem dX1_needNotLate_14 : decode cX1_needNotLate 14 = .ok (.new 275, 3) := dk_187 1 19 (dk_at dksX1_needNotLate_0 14 rfl rfl)
theorem dX1_needNotLate_17 : decode cX1_needNotLate 17 = .ok (.dup, 1) := dk_89 (dk_at dksX1_needNotLate_0 17 rfl rfl)
theorem dX1_needNotLate_18 : decode cX1_needNotLate 18 = .ok (.invokespecial 277, 3) := dk_183 1 21 (dk_at dksX1_needNotLate_0 18 rfl rfl)
theorem dX1_needNotLate_21 : decode cX1_needNotLate 21 = .ok (.athrow, 1) := dk_191 (dk_at dksX1_needNotLate_0 21 rfl rfl)
theorem dX1_needNotLate_22 : decode cX1_needNotLate 22 = .ok (.return_, 1) := dk_177 (dk_at dksX1_needNotLate_0 22 rfl rfl)
abbrev cX1_takeSlot : ByteArray := prog_1_method_29_code
def yX1_takeSlot : MethodName := ⟨RX1, "takeSlot", "(LHallPlan$Booking;II)V"⟩
def dkwX1_takeSlot_1 : List UInt8 := [183, 1, 9, 191, 42, 43, 28, 29, 182, 1, 12, 177]
abbrev dktX1_takeSlot_1 : List UInt8 := dkwX1_takeSlot_1 ++ []
def dkwX1_takeSlot_0 : List UInt8 := [42, 43, 180, 0, 189, 28, 29, 182, 1, 4, 54, 4, 21, 4, 153, 0, 14, 187, 1, 7, 89, 21, 4, 1]
abbrev dktX1_takeSlot_0 : List UInt8 := dkwX1_takeSlot_0 ++ dktX1_takeSlot_1
theorem dksX1_takeSlot_0 : cX1_takeSlot.data.toList.drop 0 = dktX1_takeSlot_0 := by decide +kernel
theorem dksX1_takeSlot_1 : cX1_takeSlot.data.toList.drop 24 = dktX1_takeSlot_1 := dk_seg dksX1_takeSlot_0 24 rfl rfl
theorem dX1_takeSlot_0 : decode cX1_takeSlot 0 = .ok (.aload_n 0, 1) := dk_42 (dk_at dksX1_takeSlot_0 0 rfl rfl)
theorem dX1_takeSlot_1 : decode cX1_takeSlot 1 = .ok (.aload_n 1, 1) := dk_43 (dk_at dksX1_takeSlot_0 1 rfl rfl)
theorem dX1_takeSlot_2 : decode cX1_takeSlot 2 = .ok (.getfield 189, 3) := dk_180 0 189 (dk_at dksX1_takeSlot_0 2 rfl rfl)
theorem dX1_takeSlot_5 : decode cX1_takeSlot 5 = .ok (.iload_n 2, 1) := dk_28 (dk_at dksX1_takeSlot_0 5 rfl rfl)
theorem dX1_takeSlot_6 : decode cX1_takeSlot 6 = .ok (.iload_n 3, 1) := dk_29 (dk_at dksX1_takeSlot_0 6 rfl rfl)
theorem dX1_takeSlot_7 : decode cX1_takeSlot 7 = .ok (.invokevirtual 260, 3) := dk_182 1 4 (dk_at dksX1_takeSlot_0 7 rfl rfl)
theorem dX1_takeSlot_10 : decode cX1_takeSlot 10 = .ok (.istore 4, 2) := dk_54 4 (dk_at dksX1_takeSlot_0 10 rfl rfl)
theorem dX1_takeSlot_12 : decode cX1_takeSlot 12 = .ok (.iload 4, 2) := dk_21 4 (dk_at dksX1_takeSlot_0 12 rfl rfl)
theorem dX1_takeSlot_14 : decode cX1_takeSlot 14 = .ok (.ifCond .eq 14, 3) := dk_153 0 14 (dk_at dksX1_takeSlot_0 14 rfl rfl)
theorem dX1_takeSlot_17 : decode cX1_takeSlot 17 = .ok (.new 263, 3) := dk_187 1 7 (dk_at dksX1_takeSlot_0 17 rfl rfl)
theorem dX1_takeSlot_20 : decode cX1_takeSlot 20 = .ok (.dup, 1) := dk_89 (dk_at dksX1_takeSlot_0 20 rfl rfl)
theorem dX1_takeSlot_21 : decode cX1_takeSlot 21 = .ok (.iload 4, 2) := dk_21 4 (dk_at dksX1_takeSlot_0 21 rfl rfl)
theorem dX1_takeSlot_23 : decode cX1_takeSlot 23 = .ok (.aconst_null, 1) := dk_1 (dk_at dksX1_takeSlot_0 23 rfl rfl)
theorem dX1_takeSlot_24 : decode cX1_takeSlot 24 = .ok (.invokespecial 265, 3) := dk_183 1 9 (dk_at dksX1_takeSlot_1 0 rfl rfl)
theorem dX1_takeSlot_27 : decode cX1_takeSlot 27 = .ok (.athrow, 1) := dk_191 (dk_at dksX1_takeSlot_1 3 rfl rfl)
theorem dX1_takeSlot_28 : decode cX1_takeSlot 28 = .ok (.aload_n 0, 1) := dk_42 (dk_at dksX1_takeSlot_1 4 rfl rfl)
theorem dX1_takeSlot_29 : decode cX1_takeSlot 29 = .ok (.aload_n 1, 1) := dk_43 (dk_at dksX1_takeSlot_1 5 rfl rfl)
theorem dX1_takeSlot_30 : decode cX1_takeSlot 30 = .ok (.iload_n 2, 1) := dk_28 (dk_at dksX1_takeSlot_1 6 rfl rfl)
theorem dX1_takeSlot_31 : decode cX1_takeSlot 31 = .ok (.iload_n 3, 1) := dk_29 (dk_at dksX1_takeSlot_1 7 rfl rfl)
theorem dX1_takeSlot_32 : decode cX1_takeSlot 32 = .ok (.invokevirtual 268, 3) := dk_182 1 12 (dk_at dksX1_takeSlot_1 8 rfl rfl)
theorem dX1_takeSlot_35 : decode cX1_takeSlot 35 = .ok (.return_, 1) := dk_177 (dk_at dksX1_takeSlot_1 11 rfl rfl)
abbrev cX1_keep : ByteArray := prog_1_method_33_code
def yX1_keep : MethodName := ⟨RX1, "keep", "(LHallPlan$State;)V"⟩
def dkwX1_keep_1 : List UInt8 := [43, 182, 0, 150, 177]
abbrev dktX1_keep_1 : List UInt8 := dkwX1_keep_1 ++ []
def dkwX1_keep_0 : List UInt8 := [42, 180, 0, 39, 182, 0, 142, 16, 8, 160, 0, 11, 42, 180, 0, 39, 182, 0, 143, 87, 42, 180, 0, 39]
abbrev dktX1_keep_0 : List UInt8 := dkwX1_keep_0 ++ dktX1_keep_1
theorem dksX1_keep_0 : cX1_keep.data.toList.drop 0 = dktX1_keep_0 := by decide +kernel
theorem dksX1_keep_1 : cX1_keep.data.toList.drop 24 = dktX1_keep_1 := dk_seg dksX1_keep_0 24 rfl rfl
theorem dX1_keep_0 : decode cX1_keep 0 = .ok (.aload_n 0, 1) := dk_42 (dk_at dksX1_keep_0 0 rfl rfl)
theorem dX1_keep_1 : decode cX1_keep 1 = .ok (.getfield 39, 3) := dk_180 0 39 (dk_at dksX1_keep_0 1 rfl rfl)
theorem dX1_keep_4 : decode cX1_keep 4 = .ok (.invokevirtual 142, 3) := dk_182 0 142 (dk_at dksX1_keep_0 4 rfl rfl)
theorem dX1_keep_7 : decode cX1_keep 7 = .ok (.bipush 8, 2) := dk_16 8 (dk_at dksX1_keep_0 7 rfl rfl)
theorem dX1_keep_9 : decode cX1_keep 9 = .ok (.if_icmp .ne 11, 3) := dk_160 0 11 (dk_at dksX1_keep_0 9 rfl rfl)
theorem dX1_keep_12 : decode cX1_keep 12 = .ok (.aload_n 0, 1) := dk_42 (dk_at dksX1_keep_0 12 rfl rfl)
theorem dX1_keep_13 : decode cX1_keep 13 = .ok (.getfield 39, 3) := dk_180 0 39 (dk_at dksX1_keep_0 13 rfl rfl)
theorem dX1_keep_16 : decode cX1_keep 16 = .ok (.invokevirtual 143, 3) := dk_182 0 143 (dk_at dksX1_keep_0 16 rfl rfl)
theorem dX1_keep_19 : decode cX1_keep 19 = .ok (.pop, 1) := dk_87 (dk_at dksX1_keep_0 19 rfl rfl)
theorem dX1_keep_20 : decode cX1_keep 20 = .ok (.aload_n 0, 1) := dk_42 (dk_at dksX1_keep_0 20 rfl rfl)
theorem dX1_keep_21 : decode cX1_keep 21 = .ok (.getfield 39, 3) := dk_180 0 39 (dk_at dksX1_keep_0 21 rfl rfl)
theorem dX1_keep_24 : decode cX1_keep 24 = .ok (.aload_n 1, 1) := dk_43 (dk_at dksX1_keep_1 0 rfl rfl)
theorem dX1_keep_25 : decode cX1_keep 25 = .ok (.invokevirtual 150, 3) := dk_182 0 150 (dk_at dksX1_keep_1 1 rfl rfl)
theorem dX1_keep_28 : decode cX1_keep 28 = .ok (.return_, 1) := dk_177 (dk_at dksX1_keep_1 4 rfl rfl)
abbrev cX1_enqueue : ByteArray := prog_1_method_54_code
def yX1_enqueue : MethodName := ⟨RX1, "enqueue", "(II)I"⟩
def dkwX1_enqueue_4 : List UInt8 := [185, 0, 136, 1, 0, 172]
abbrev dktX1_enqueue_4 : List UInt8 := dkwX1_enqueue_4 ++ []
def dkwX1_enqueue_3 : List UInt8 := [180, 0, 32, 27, 28, 183, 1, 159, 185, 1, 105, 2, 0, 87, 42, 180, 0, 25, 180, 1, 133]
abbrev dktX1_enqueue_3 : List UInt8 := dkwX1_enqueue_3 ++ dktX1_enqueue_4
def dkwX1_enqueue_2 : List UInt8 := [167, 0, 4, 3, 184, 0, 94, 42, 182, 1, 79, 42, 180, 0, 25, 180, 1, 133, 187, 1, 148, 89, 42]
abbrev dktX1_enqueue_2 : List UInt8 := dkwX1_enqueue_2 ++ dktX1_enqueue_3
def dkwX1_enqueue_1 : List UInt8 := [185, 0, 136, 1, 0, 16, 20, 162, 0, 20, 42, 42, 180, 0, 32, 27, 28, 182, 1, 4, 153, 0, 7, 4]
abbrev dktX1_enqueue_1 : List UInt8 := dkwX1_enqueue_1 ++ dktX1_enqueue_2
def dkwX1_enqueue_0 : List UInt8 := [42, 27, 28, 182, 1, 109, 42, 180, 0, 16, 180, 0, 154, 158, 0, 37, 42, 180, 0, 25, 180, 1, 133]
abbrev dktX1_enqueue_0 : List UInt8 := dkwX1_enqueue_0 ++ dktX1_enqueue_1
theorem dksX1_enqueue_0 : cX1_enqueue.data.toList.drop 0 = dktX1_enqueue_0 := by decide +kernel
theorem dksX1_enqueue_1 : cX1_enqueue.data.toList.drop 23 = dktX1_enqueue_1 := dk_seg dksX1_enqueue_0 23 rfl rfl
theorem dksX1_enqueue_2 : cX1_enqueue.data.toList.drop 47 = dktX1_enqueue_2 := dk_seg dksX1_enqueue_1 24 rfl rfl
theorem dksX1_enqueue_3 : cX1_enqueue.data.toList.drop 70 = dktX1_enqueue_3 := dk_seg dksX1_enqueue_2 23 rfl rfl
theorem dksX1_enqueue_4 : cX1_enqueue.data.toList.drop 91 = dktX1_enqueue_4 := dk_seg dksX1_enqueue_3 21 rfl rfl
theorem dX1_enqueue_0 : decode cX1_enqueue 0 = .ok (.aload_n 0, 1) := dk_42 (dk_at dksX1_enqueue_0 0 rfl rfl)
theorem dX1_enqueue_1 : decode cX1_enqueue 1 = .ok (.iload_n 1, 1) := dk_27 (dk_at dksX1_enqueue_0 1 rfl rfl)
theorem dX1_enqueue_2 : decode cX1_enqueue 2 = .ok (.iload_n 2, 1) := dk_28 (dk_at dksX1_enqueue_0 2 rfl rfl)
theorem dX1_enqueue_3 : decode cX1_enqueue 3 = .ok (.invokevirtual 365, 3) := dk_182 1 109 (dk_at dksX1_enqueue_0 3 rfl rfl)
theorem dX1_enqueue_6 : decode cX1_enqueue 6 = .ok (.aload_n 0, 1) := dk_42 (dk_at dksX1_enqueue_0 6 rfl rfl)
theorem dX1_enqueue_7 : decode cX1_enqueue 7 = .ok (.getfield 16, 3) := dk_180 0 16 (dk_at dksX1_enqueue_0 7 rfl rfl)
theorem dX1_enqueue_10 : decode cX1_enqueue 10 = .ok (.getfield 154, 3) := dk_180 0 154 (dk_at dksX1_enqueue_0 10 rfl rfl)
theorem dX1_enqueue_13 : decode cX1_enqueue 13 = .ok (.ifCond .le 37, 3) := dk_158 0 37 (dk_at dksX1_enqueue_0 13 rfl rfl)
theorem dX1_enqueue_16 : decode cX1_enqueue 16 = .ok (.aload_n 0, 1) := dk_42 (dk_at dksX1_enqueue_0 16 rfl rfl)
theorem dX1_enqueue_17 : decode cX1_enqueue 17 = .ok (.getfield 25, 3) := dk_180 0 25 (dk_at dksX1_enqueue_0 17 rfl rfl)
theorem dX1_enqueue_20 : decode cX1_enqueue 20 = .ok (.getfield 389, 3) := dk_180 1 133 (dk_at dksX1_enqueue_0 20 rfl rfl)
theorem dX1_enqueue_23 : decode cX1_enqueue 23 = .ok (.invokeinterface 136 1, 5) := by decide +kernel
theorem dX1_enqueue_28 : decode cX1_enqueue 28 = .ok (.bipush 20, 2) := dk_16 20 (dk_at dksX1_enqueue_1 5 rfl rfl)
theorem dX1_enqueue_30 : decode cX1_enqueue 30 = .ok (.if_icmp .ge 20, 3) := dk_162 0 20 (dk_at dksX1_enqueue_1 7 rfl rfl)
theorem dX1_enqueue_33 : decode cX1_enqueue 33 = .ok (.aload_n 0, 1) := dk_42 (dk_at dksX1_enqueue_1 10 rfl rfl)
theorem dX1_enqueue_34 : decode cX1_enqueue 34 = .ok (.aload_n 0, 1) := dk_42 (dk_at dksX1_enqueue_1 11 rfl rfl)
theorem dX1_enqueue_35 : decode cX1_enqueue 35 = .ok (.getfield 32, 3) := dk_180 0 32 (dk_at dksX1_enqueue_1 12 rfl rfl)
theorem dX1_enqueue_38 : decode cX1_enqueue 38 = .ok (.iload_n 1, 1) := dk_27 (dk_at dksX1_enqueue_1 15 rfl rfl)
theorem dX1_enqueue_39 : decode cX1_enqueue 39 = .ok (.iload_n 2, 1) := dk_28 (dk_at dksX1_enqueue_1 16 rfl rfl)
theorem dX1_enqueue_40 : decode cX1_enqueue 40 = .ok (.invokevirtual 260, 3) := dk_182 1 4 (dk_at dksX1_enqueue_1 17 rfl rfl)
theorem dX1_enqueue_43 : decode cX1_enqueue 43 = .ok (.ifCond .eq 7, 3) := dk_153 0 7 (dk_at dksX1_enqueue_1 20 rfl rfl)
theorem dX1_enqueue_46 : decode cX1_enqueue 46 = .ok (.iconst 1, 1) := dk_4 (dk_at dksX1_enqueue_1 23 rfl rfl)
theorem dX1_enqueue_47 : decode cX1_enqueue 47 = .ok (.goto 4, 3) := dk_167 0 4 (dk_at dksX1_enqueue_2 0 rfl rfl)
theorem dX1_enqueue_50 : decode cX1_enqueue 50 = .ok (.iconst 0, 1) := dk_3 (dk_at dksX1_enqueue_2 3 rfl rfl)
theorem dX1_enqueue_51 : decode cX1_enqueue 51 = .ok (.invokestatic 94, 3) := dk_184 0 94 (dk_at dksX1_enqueue_2 4 rfl rfl)
theorem dX1_enqueue_54 : decode cX1_enqueue 54 = .ok (.aload_n 0, 1) := dk_42 (dk_at dksX1_enqueue_2 7 rfl rfl)
theorem dX1_enqueue_55 : decode cX1_enqueue 55 = .ok (.invokevirtual 335, 3) := dk_182 1 79 (dk_at dksX1_enqueue_2 8 rfl rfl)
theorem dX1_enqueue_58 : decode cX1_enqueue 58 = .ok (.aload_n 0, 1) := dk_42 (dk_at dksX1_enqueue_2 11 rfl rfl)
theorem dX1_enqueue_59 : decode cX1_enqueue 59 = .ok (.getfield 25, 3) := dk_180 0 25 (dk_at dksX1_enqueue_2 12 rfl rfl)
theorem dX1_enqueue_62 : decode cX1_enqueue 62 = .ok (.getfield 389, 3) := dk_180 1 133 (dk_at dksX1_enqueue_2 15 rfl rfl)
theorem dX1_enqueue_65 : decode cX1_enqueue 65 = .ok (.new 404, 3) := dk_187 1 148 (dk_at dksX1_enqueue_2 18 rfl rfl)
theorem dX1_enqueue_68 : decode cX1_enqueue 68 = .ok (.dup, 1) := dk_89 (dk_at dksX1_enqueue_2 21 rfl rfl)
theorem dX1_enqueue_69 : decode cX1_enqueue 69 = .ok (.aload_n 0, 1) := dk_42 (dk_at dksX1_enqueue_2 22 rfl rfl)
theorem dX1_enqueue_70 : decode cX1_enqueue 70 = .ok (.getfield 32, 3) := dk_180 0 32 (dk_at dksX1_enqueue_3 0 rfl rfl)
theorem dX1_enqueue_73 : decode cX1_enqueue 73 = .ok (.iload_n 1, 1) := dk_27 (dk_at dksX1_enqueue_3 3 rfl rfl)
theorem dX1_enqueue_74 : decode cX1_enqueue 74 = .ok (.iload_n 2, 1) := dk_28 (dk_at dksX1_enqueue_3 4 rfl rfl)
theorem dX1_enqueue_75 : decode cX1_enqueue 75 = .ok (.invokespecial 415, 3) := dk_183 1 159 (dk_at dksX1_enqueue_3 5 rfl rfl)
theorem dX1_enqueue_78 : decode cX1_enqueue 78 = .ok (.invokeinterface 361 2, 5) := by decide +kernel
theorem dX1_enqueue_83 : decode cX1_enqueue 83 = .ok (.pop, 1) := dk_87 (dk_at dksX1_enqueue_3 13 rfl rfl)
theorem dX1_enqueue_84 : decode cX1_enqueue 84 = .ok (.aload_n 0, 1) := dk_42 (dk_at dksX1_enqueue_3 14 rfl rfl)
theorem dX1_enqueue_85 : decode cX1_enqueue 85 = .ok (.getfield 25, 3) := dk_180 0 25 (dk_at dksX1_enqueue_3 15 rfl rfl)
theorem dX1_enqueue_88 : decode cX1_enqueue 88 = .ok (.getfield 389, 3) := dk_180 1 133 (dk_at dksX1_enqueue_3 18 rfl rfl)
theorem dX1_enqueue_91 : decode cX1_enqueue 91 = .ok (.invokeinterface 136 1, 5) := by decide +kernel
theorem dX1_enqueue_96 : decode cX1_enqueue 96 = .ok (.ireturn, 1) := dk_172 (dk_at dksX1_enqueue_4 5 rfl rfl)
abbrev cX1_dequeue : ByteArray := prog_1_method_55_code
def yX1_dequeue : MethodName := ⟨RX1, "dequeue", "(I)I"⟩
def dkwX1_dequeue_2 : List UInt8 := [185, 0, 136, 1, 0, 172]
abbrev dktX1_dequeue_2 : List UInt8 := dkwX1_dequeue_2 ++ []
def dkwX1_dequeue_1 : List UInt8 := [182, 1, 79, 42, 180, 0, 25, 180, 1, 133, 27, 185, 1, 162, 2, 0, 87, 42, 180, 0, 25, 180, 1, 133]
abbrev dktX1_dequeue_1 : List UInt8 := dkwX1_dequeue_1 ++ dktX1_dequeue_2
def dkwX1_dequeue_0 : List UInt8 := [27, 3, 42, 180, 0, 25, 180, 1, 133, 185, 0, 136, 1, 0, 4, 100, 184, 0, 98, 184, 1, 33, 42]
abbrev dktX1_dequeue_0 : List UInt8 := dkwX1_dequeue_0 ++ dktX1_dequeue_1
theorem dksX1_dequeue_0 : cX1_dequeue.data.toList.drop 0 = dktX1_dequeue_0 := by decide +kernel
theorem dksX1_dequeue_1 : cX1_dequeue.data.toList.drop 23 = dktX1_dequeue_1 := dk_seg dksX1_dequeue_0 23 rfl rfl
theorem dksX1_dequeue_2 : cX1_dequeue.data.toList.drop 47 = dktX1_dequeue_2 := dk_seg dksX1_dequeue_1 24 rfl rfl
theorem dX1_dequeue_0 : decode cX1_dequeue 0 = .ok (.iload_n 1, 1) := dk_27 (dk_at dksX1_dequeue_0 0 rfl rfl)
theorem dX1_dequeue_1 : decode cX1_dequeue 1 = .ok (.iconst 0, 1) := dk_3 (dk_at dksX1_dequeue_0 1 rfl rfl)
theorem dX1_dequeue_2 : decode cX1_dequeue 2 = .ok (.aload_n 0, 1) := dk_42 (dk_at dksX1_dequeue_0 2 rfl rfl)
theorem dX1_dequeue_3 : decode cX1_dequeue 3 = .ok (.getfield 25, 3) := dk_180 0 25 (dk_at dksX1_dequeue_0 3 rfl rfl)
theorem dX1_dequeue_6 : decode cX1_dequeue 6 = .ok (.getfield 389, 3) := dk_180 1 133 (dk_at dksX1_dequeue_0 6 rfl rfl)
theorem dX1_dequeue_9 : decode cX1_dequeue 9 = .ok (.invokeinterface 136 1, 5) := by decide +kernel
theorem dX1_dequeue_14 : decode cX1_dequeue 14 = .ok (.iconst 1, 1) := dk_4 (dk_at dksX1_dequeue_0 14 rfl rfl)
theorem dX1_dequeue_15 : decode cX1_dequeue 15 = .ok (.isub, 1) := dk_100 (dk_at dksX1_dequeue_0 15 rfl rfl)
theorem dX1_dequeue_16 : decode cX1_dequeue 16 = .ok (.invokestatic 98, 3) := dk_184 0 98 (dk_at dksX1_dequeue_0 16 rfl rfl)
theorem dX1_dequeue_19 : decode cX1_dequeue 19 = .ok (.invokestatic 289, 3) := dk_184 1 33 (dk_at dksX1_dequeue_0 19 rfl rfl)
theorem dX1_dequeue_22 : decode cX1_dequeue 22 = .ok (.aload_n 0, 1) := dk_42 (dk_at dksX1_dequeue_0 22 rfl rfl)
theorem dX1_dequeue_23 : decode cX1_dequeue 23 = .ok (.invokevirtual 335, 3) := dk_182 1 79 (dk_at dksX1_dequeue_1 0 rfl rfl)
theorem dX1_dequeue_26 : decode cX1_dequeue 26 = .ok (.aload_n 0, 1) := dk_42 (dk_at dksX1_dequeue_1 3 rfl rfl)
theorem dX1_dequeue_27 : decode cX1_dequeue 27 = .ok (.getfield 25, 3) := dk_180 0 25 (dk_at dksX1_dequeue_1 4 rfl rfl)
theorem dX1_dequeue_30 : decode cX1_dequeue 30 = .ok (.getfield 389, 3) := dk_180 1 133 (dk_at dksX1_dequeue_1 7 rfl rfl)
theorem dX1_dequeue_33 : decode cX1_dequeue 33 = .ok (.iload_n 1, 1) := dk_27 (dk_at dksX1_dequeue_1 10 rfl rfl)
theorem dX1_dequeue_34 : decode cX1_dequeue 34 = .ok (.invokeinterface 418 2, 5) := by decide +kernel
theorem dX1_dequeue_39 : decode cX1_dequeue 39 = .ok (.pop, 1) := dk_87 (dk_at dksX1_dequeue_1 16 rfl rfl)
theorem dX1_dequeue_40 : decode cX1_dequeue 40 = .ok (.aload_n 0, 1) := dk_42 (dk_at dksX1_dequeue_1 17 rfl rfl)
theorem dX1_dequeue_41 : decode cX1_dequeue 41 = .ok (.getfield 25, 3) := dk_180 0 25 (dk_at dksX1_dequeue_1 18 rfl rfl)
theorem dX1_dequeue_44 : decode cX1_dequeue 44 = .ok (.getfield 389, 3) := dk_180 1 133 (dk_at dksX1_dequeue_1 21 rfl rfl)
theorem dX1_dequeue_47 : decode cX1_dequeue 47 = .ok (.invokeinterface 136 1, 5) := by decide +kernel
theorem dX1_dequeue_52 : decode cX1_dequeue 52 = .ok (.ireturn, 1) := dk_172 (dk_at dksX1_dequeue_2 5 rfl rfl)
abbrev cX1_close : ByteArray := prog_1_method_57_code
def yX1_close : MethodName := ⟨RX1, "close", "(III)I"⟩
def dkwX1_close_5 : List UInt8 := [172]
abbrev dktX1_close_5 : List UInt8 := dkwX1_close_5 ++ []
def dkwX1_close_4 : List UInt8 := [184, 1, 168, 83, 42, 180, 0, 25, 89, 180, 0, 168, 4, 96, 181, 0, 168, 42, 180, 0, 25, 180, 0, 168]
abbrev dktX1_close_4 : List UInt8 := dkwX1_close_4 ++ dktX1_close_5
def dkwX1_close_3 : List UInt8 := [184, 0, 94, 42, 182, 1, 79, 42, 180, 0, 25, 180, 0, 171, 42, 180, 0, 25, 180, 0, 168, 27, 28, 29]
abbrev dktX1_close_3 : List UInt8 := dkwX1_close_3 ++ dktX1_close_4
def dkwX1_close_2 : List UInt8 := [180, 0, 168, 16, 16, 162, 0, 17, 42, 27, 28, 29, 182, 1, 165, 154, 0, 7, 4, 167, 0, 4, 3]
abbrev dktX1_close_2 : List UInt8 := dkwX1_close_2 ++ dktX1_close_3
def dkwX1_close_1 : List UInt8 := [163, 0, 14, 29, 16, 15, 112, 154, 0, 7, 4, 167, 0, 4, 3, 184, 0, 102, 42, 180, 0, 25]
abbrev dktX1_close_1 : List UInt8 := dkwX1_close_1 ++ dktX1_close_2
def dkwX1_close_0 : List UInt8 := [42, 27, 182, 1, 65, 184, 1, 33, 28, 184, 1, 68, 153, 0, 26, 29, 28, 164, 0, 21, 29, 19, 1, 164]
abbrev dktX1_close_0 : List UInt8 := dkwX1_close_0 ++ dktX1_close_1
theorem dksX1_close_0 : cX1_close.data.toList.drop 0 = dktX1_close_0 := by decide +kernel
theorem dksX1_close_1 : cX1_close.data.toList.drop 24 = dktX1_close_1 := dk_seg dksX1_close_0 24 rfl rfl
theorem dksX1_close_2 : cX1_close.data.toList.drop 46 = dktX1_close_2 := dk_seg dksX1_close_1 22 rfl rfl
theorem dksX1_close_3 : cX1_close.data.toList.drop 69 = dktX1_close_3 := dk_seg dksX1_close_2 23 rfl rfl
theorem dksX1_close_4 : cX1_close.data.toList.drop 93 = dktX1_close_4 := dk_seg dksX1_close_3 24 rfl rfl
theorem dksX1_close_5 : cX1_close.data.toList.drop 117 = dktX1_close_5 := dk_seg dksX1_close_4 24 rfl rfl
theorem dX1_close_0 : decode cX1_close 0 = .ok (.aload_n 0, 1) := dk_42 (dk_at dksX1_close_0 0 rfl rfl)
theorem dX1_close_1 : decode cX1_close 1 = .ok (.iload_n 1, 1) := dk_27 (dk_at dksX1_close_0 1 rfl rfl)
theorem dX1_close_2 : decode cX1_close 2 = .ok (.invokevirtual 321, 3) := dk_182 1 65 (dk_at dksX1_close_0 2 rfl rfl)
theorem dX1_close_5 : decode cX1_close 5 = .ok (.invokestatic 289, 3) := dk_184 1 33 (dk_at dksX1_close_0 5 rfl rfl)
theorem dX1_close_8 : decode cX1_close 8 = .ok (.iload_n 2, 1) := dk_28 (dk_at dksX1_close_0 8 rfl rfl)
theorem dX1_close_9 : decode cX1_close 9 = .ok (.invokestatic 324, 3) := dk_184 1 68 (dk_at dksX1_close_0 9 rfl rfl)
theorem dX1_close_12 : decode cX1_close 12 = .ok (.ifCond .eq 26, 3) := dk_153 0 26 (dk_at dksX1_close_0 12 rfl rfl)
theorem dX1_close_15 : decode cX1_close 15 = .ok (.iload_n 3, 1) := dk_29 (dk_at dksX1_close_0 15 rfl rfl)
theorem dX1_close_16 : decode cX1_close 16 = .ok (.iload_n 2, 1) := dk_28 (dk_at dksX1_close_0 16 rfl rfl)
theorem dX1_close_17 : decode cX1_close 17 = .ok (.if_icmp .le 21, 3) := dk_164 0 21 (dk_at dksX1_close_0 17 rfl rfl)
theorem dX1_close_20 : decode cX1_close 20 = .ok (.iload_n 3, 1) := dk_29 (dk_at dksX1_close_0 20 rfl rfl)
theorem dX1_close_21 : decode cX1_close 21 = .ok (.ldc_w 420, 3) := dk_19 1 164 (dk_at dksX1_close_0 21 rfl rfl)
theorem dX1_close_24 : decode cX1_close 24 = .ok (.if_icmp .gt 14, 3) := dk_163 0 14 (dk_at dksX1_close_1 0 rfl rfl)
theorem dX1_close_27 : decode cX1_close 27 = .ok (.iload_n 3, 1) := dk_29 (dk_at dksX1_close_1 3 rfl rfl)
theorem dX1_close_28 : decode cX1_close 28 = .ok (.bipush 15, 2) := dk_16 15 (dk_at dksX1_close_1 4 rfl rfl)
theorem dX1_close_30 : decode cX1_close 30 = .ok (.irem, 1) := dk_112 (dk_at dksX1_close_1 6 rfl rfl)
theorem dX1_close_31 : decode cX1_close 31 = .ok (.ifCond .ne 7, 3) := dk_154 0 7 (dk_at dksX1_close_1 7 rfl rfl)
theorem dX1_close_34 : decode cX1_close 34 = .ok (.iconst 1, 1) := dk_4 (dk_at dksX1_close_1 10 rfl rfl)
theorem dX1_close_35 : decode cX1_close 35 = .ok (.goto 4, 3) := dk_167 0 4 (dk_at dksX1_close_1 11 rfl rfl)
theorem dX1_close_38 : decode cX1_close 38 = .ok (.iconst 0, 1) := dk_3 (dk_at dksX1_close_1 14 rfl rfl)
theorem dX1_close_39 : decode cX1_close 39 = .ok (.invokestatic 102, 3) := dk_184 0 102 (dk_at dksX1_close_1 15 rfl rfl)
theorem dX1_close_42 : decode cX1_close 42 = .ok (.aload_n 0, 1) := dk_42 (dk_at dksX1_close_1 18 rfl rfl)
theorem dX1_close_43 : decode cX1_close 43 = .ok (.getfield 25, 3) := dk_180 0 25 (dk_at dksX1_close_1 19 rfl rfl)
theorem dX1_close_46 : decode cX1_close 46 = .ok (.getfield 168, 3) := dk_180 0 168 (dk_at dksX1_close_2 0 rfl rfl)
theorem dX1_close_49 : decode cX1_close 49 = .ok (.bipush 16, 2) := dk_16 16 (dk_at dksX1_close_2 3 rfl rfl)
theorem dX1_close_51 : decode cX1_close 51 = .ok (.if_icmp .ge 17, 3) := dk_162 0 17 (dk_at dksX1_close_2 5 rfl rfl)
theorem dX1_close_54 : decode cX1_close 54 = .ok (.aload_n 0, 1) := dk_42 (dk_at dksX1_close_2 8 rfl rfl)
theorem dX1_close_55 : decode cX1_close 55 = .ok (.iload_n 1, 1) := dk_27 (dk_at dksX1_close_2 9 rfl rfl)
theorem dX1_close_56 : decode cX1_close 56 = .ok (.iload_n 2, 1) := dk_28 (dk_at dksX1_close_2 10 rfl rfl)
theorem dX1_close_57 : decode cX1_close 57 = .ok (.iload_n 3, 1) := dk_29 (dk_at dksX1_close_2 11 rfl rfl)
theorem dX1_close_58 : decode cX1_close 58 = .ok (.invokevirtual 421, 3) := dk_182 1 165 (dk_at dksX1_close_2 12 rfl rfl)
theorem dX1_close_61 : decode cX1_close 61 = .ok (.ifCond .ne 7, 3) := dk_154 0 7 (dk_at dksX1_close_2 15 rfl rfl)
theorem dX1_close_64 : decode cX1_close 64 = .ok (.iconst 1, 1) := dk_4 (dk_at dksX1_close_2 18 rfl rfl)
theorem dX1_close_65 : decode cX1_close 65 = .ok (.goto 4, 3) := dk_167 0 4 (dk_at dksX1_close_2 19 rfl rfl)
theorem dX1_close_68 : decode cX1_close 68 = .ok (.iconst 0, 1) := dk_3 (dk_at dksX1_close_2 22 rfl rfl)
theorem dX1_close_69 : decode cX1_close 69 = .ok (.invokestatic 94, 3) := dk_184 0 94 (dk_at dksX1_close_3 0 rfl rfl)
theorem dX1_close_72 : decode cX1_close 72 = .ok (.aload_n 0, 1) := dk_42 (dk_at dksX1_close_3 3 rfl rfl)
theorem dX1_close_73 : decode cX1_close 73 = .ok (.invokevirtual 335, 3) := dk_182 1 79 (dk_at dksX1_close_3 4 rfl rfl)
theorem dX1_close_76 : decode cX1_close 76 = .ok (.aload_n 0, 1) := dk_42 (dk_at dksX1_close_3 7 rfl rfl)
theorem dX1_close_77 : decode cX1_close 77 = .ok (.getfield 25, 3) := dk_180 0 25 (dk_at dksX1_close_3 8 rfl rfl)
theorem dX1_close_80 : decode cX1_close 80 = .ok (.getfield 171, 3) := dk_180 0 171 (dk_at dksX1_close_3 11 rfl rfl)
theorem dX1_close_83 : decode cX1_close 83 = .ok (.aload_n 0, 1) := dk_42 (dk_at dksX1_close_3 14 rfl rfl)
theorem dX1_close_84 : decode cX1_close 84 = .ok (.getfield 25, 3) := dk_180 0 25 (dk_at dksX1_close_3 15 rfl rfl)
theorem dX1_close_87 : decode cX1_close 87 = .ok (.getfield 168, 3) := dk_180 0 168 (dk_at dksX1_close_3 18 rfl rfl)
theorem dX1_close_90 : decode cX1_close 90 = .ok (.iload_n 1, 1) := dk_27 (dk_at dksX1_close_3 21 rfl rfl)
theorem dX1_close_91 : decode cX1_close 91 = .ok (.iload_n 2, 1) := dk_28 (dk_at dksX1_close_3 22 rfl rfl)
theorem dX1_close_92 : decode cX1_close 92 = .ok (.iload_n 3, 1) := dk_29 (dk_at dksX1_close_3 23 rfl rfl)
theorem dX1_close_93 : decode cX1_close 93 = .ok (.invokestatic 424, 3) := dk_184 1 168 (dk_at dksX1_close_4 0 rfl rfl)
theorem dX1_close_96 : decode cX1_close 96 = .ok (.aastore, 1) := dk_83 (dk_at dksX1_close_4 3 rfl rfl)
theorem dX1_close_97 : decode cX1_close 97 = .ok (.aload_n 0, 1) := dk_42 (dk_at dksX1_close_4 4 rfl rfl)
theorem dX1_close_98 : decode cX1_close 98 = .ok (.getfield 25, 3) := dk_180 0 25 (dk_at dksX1_close_4 5 rfl rfl)
theorem dX1_close_101 : decode cX1_close 101 = .ok (.dup, 1) := dk_89 (dk_at dksX1_close_4 8 rfl rfl)
theorem dX1_close_102 : decode cX1_close 102 = .ok (.getfield 168, 3) := dk_180 0 168 (dk_at dksX1_close_4 9 rfl rfl)
theorem dX1_close_105 : decode cX1_close 105 = .ok (.iconst 1, 1) := dk_4 (dk_at dksX1_close_4 12 rfl rfl)
theorem dX1_close_106 : decode cX1_close 106 = .ok (.iadd, 1) := dk_96 (dk_at dksX1_close_4 13 rfl rfl)
theorem dX1_close_107 : decode cX1_close 107 = .ok (.putfield 168, 3) := dk_181 0 168 (dk_at dksX1_close_4 14 rfl rfl)
theorem dX1_close_110 : decode cX1_close 110 = .ok (.aload_n 0, 1) := dk_42 (dk_at dksX1_close_4 17 rfl rfl)
theorem dX1_close_111 : decode cX1_close 111 = .ok (.getfield 25, 3) := dk_180 0 25 (dk_at dksX1_close_4 18 rfl rfl)
theorem dX1_close_114 : decode cX1_close 114 = .ok (.getfield 168, 3) := dk_180 0 168 (dk_at dksX1_close_4 21 rfl rfl)
theorem dX1_close_117 : decode cX1_close 117 = .ok (.ireturn, 1) := dk_172 (dk_at dksX1_close_5 0 rfl rfl)
abbrev cX1_isBookedIn : ByteArray := prog_1_method_56_code
def yX1_isBookedIn : MethodName := ⟨RX1, "isBookedIn", "(III)Z"⟩
def dkwX1_isBookedIn_3 : List UInt8 := [167, 0, 4, 3, 128, 54, 4, 132, 5, 1, 167, 255, 183, 21, 4, 172]
abbrev dktX1_isBookedIn_3 : List UInt8 := dkwX1_isBookedIn_3 ++ []
def dkwX1_isBookedIn_2 : List UInt8 := [160, 0, 25, 25, 6, 180, 0, 201, 29, 162, 0, 16, 28, 25, 6, 182, 0, 195, 162, 0, 7, 4]
abbrev dktX1_isBookedIn_2 : List UInt8 := dkwX1_isBookedIn_2 ++ dktX1_isBookedIn_3
def dkwX1_isBookedIn_1 : List UInt8 := [21, 5, 182, 0, 204, 58, 6, 21, 4, 25, 6, 180, 1, 36, 153, 0, 34, 25, 6, 180, 0, 212, 27]
abbrev dktX1_isBookedIn_1 : List UInt8 := dkwX1_isBookedIn_1 ++ dktX1_isBookedIn_2
def dkwX1_isBookedIn_0 : List UInt8 := [3, 54, 4, 3, 54, 5, 21, 5, 42, 180, 0, 25, 180, 0, 160, 185, 0, 136, 1, 0, 162, 0, 62, 42]
abbrev dktX1_isBookedIn_0 : List UInt8 := dkwX1_isBookedIn_0 ++ dktX1_isBookedIn_1
theorem dksX1_isBookedIn_0 : cX1_isBookedIn.data.toList.drop 0 = dktX1_isBookedIn_0 := by decide +kernel
theorem dksX1_isBookedIn_1 : cX1_isBookedIn.data.toList.drop 24 = dktX1_isBookedIn_1 := dk_seg dksX1_isBookedIn_0 24 rfl rfl
theorem dksX1_isBookedIn_2 : cX1_isBookedIn.data.toList.drop 47 = dktX1_isBookedIn_2 := dk_seg dksX1_isBookedIn_1 23 rfl rfl
theorem dksX1_isBookedIn_3 : cX1_isBookedIn.data.toList.drop 69 = dktX1_isBookedIn_3 := dk_seg dksX1_isBookedIn_2 22 rfl rfl
theorem dX1_isBookedIn_0 : decode cX1_isBookedIn 0 = .ok (.iconst 0, 1) := dk_3 (dk_at dksX1_isBookedIn_0 0 rfl rfl)
theorem dX1_isBookedIn_1 : decode cX1_isBookedIn 1 = .ok (.istore 4, 2) := dk_54 4 (dk_at dksX1_isBookedIn_0 1 rfl rfl)
theorem dX1_isBookedIn_3 : decode cX1_isBookedIn 3 = .ok (.iconst 0, 1) := dk_3 (dk_at dksX1_isBookedIn_0 3 rfl rfl)
theorem dX1_isBookedIn_4 : decode cX1_isBookedIn 4 = .ok (.istore 5, 2) := dk_54 5 (dk_at dksX1_isBookedIn_0 4 rfl rfl)
theorem dX1_isBookedIn_6 : decode cX1_isBookedIn 6 = .ok (.iload 5, 2) := dk_21 5 (dk_at dksX1_isBookedIn_0 6 rfl rfl)
theorem dX1_isBookedIn_8 : decode cX1_isBookedIn 8 = .ok (.aload_n 0, 1) := dk_42 (dk_at dksX1_isBookedIn_0 8 rfl rfl)
theorem dX1_isBookedIn_9 : decode cX1_isBookedIn 9 = .ok (.getfield 25, 3) := dk_180 0 25 (dk_at dksX1_isBookedIn_0 9 rfl rfl)
theorem dX1_isBookedIn_12 : decode cX1_isBookedIn 12 = .ok (.getfield 160, 3) := dk_180 0 160 (dk_at dksX1_isBookedIn_0 12 rfl rfl)
theorem dX1_isBookedIn_15 : decode cX1_isBookedIn 15 = .ok (.invokeinterface 136 1, 5) := by decide +kernel
theorem dX1_isBookedIn_20 : decode cX1_isBookedIn 20 = .ok (.if_icmp .ge 62, 3) := dk_162 0 62 (dk_at dksX1_isBookedIn_0 20 rfl rfl)
theorem dX1_isBookedIn_23 : decode cX1_isBookedIn 23 = .ok (.aload_n 0, 1) := dk_42 (dk_at dksX1_isBookedIn_0 23 rfl rfl)
theorem dX1_isBookedIn_24 : decode cX1_isBookedIn 24 = .ok (.iload 5, 2) := dk_21 5 (dk_at dksX1_isBookedIn_1 0 rfl rfl)
theorem dX1_isBookedIn_26 : decode cX1_isBookedIn 26 = .ok (.invokevirtual 204, 3) := dk_182 0 204 (dk_at dksX1_isBookedIn_1 2 rfl rfl)
theorem dX1_isBookedIn_29 : decode cX1_isBookedIn 29 = .ok (.astore 6, 2) := dk_58 6 (dk_at dksX1_isBookedIn_1 5 rfl rfl)
theorem dX1_isBookedIn_31 : decode cX1_isBookedIn 31 = .ok (.iload 4, 2) := dk_21 4 (dk_at dksX1_isBookedIn_1 7 rfl rfl)
theorem dX1_isBookedIn_33 : decode cX1_isBookedIn 33 = .ok (.aload 6, 2) := dk_25 6 (dk_at dksX1_isBookedIn_1 9 rfl rfl)
theorem dX1_isBookedIn_35 : decode cX1_isBookedIn 35 = .ok (.getfield 292, 3) := dk_180 1 36 (dk_at dksX1_isBookedIn_1 11 rfl rfl)
theorem dX1_isBookedIn_38 : decode cX1_isBookedIn 38 = .ok (.ifCond .eq 34, 3) := dk_153 0 34 (dk_at dksX1_isBookedIn_1 14 rfl rfl)
theorem dX1_isBookedIn_41 : decode cX1_isBookedIn 41 = .ok (.aload 6, 2) := dk_25 6 (dk_at dksX1_isBookedIn_1 17 rfl rfl)
theorem dX1_isBookedIn_43 : decode cX1_isBookedIn 43 = .ok (.getfield 212, 3) := dk_180 0 212 (dk_at dksX1_isBookedIn_1 19 rfl rfl)
theorem dX1_isBookedIn_46 : decode cX1_isBookedIn 46 = .ok (.iload_n 1, 1) := dk_27 (dk_at dksX1_isBookedIn_1 22 rfl rfl)
theorem dX1_isBookedIn_47 : decode cX1_isBookedIn 47 = .ok (.if_icmp .ne 25, 3) := dk_160 0 25 (dk_at dksX1_isBookedIn_2 0 rfl rfl)
theorem dX1_isBookedIn_50 : decode cX1_isBookedIn 50 = .ok (.aload 6, 2) := dk_25 6 (dk_at dksX1_isBookedIn_2 3 rfl rfl)
theorem dX1_isBookedIn_52 : decode cX1_isBookedIn 52 = .ok (.getfield 201, 3) := dk_180 0 201 (dk_at dksX1_isBookedIn_2 5 rfl rfl)
theorem dX1_isBookedIn_55 : decode cX1_isBookedIn 55 = .ok (.iload_n 3, 1) := dk_29 (dk_at dksX1_isBookedIn_2 8 rfl rfl)
theorem dX1_isBookedIn_56 : decode cX1_isBookedIn 56 = .ok (.if_icmp .ge 16, 3) := dk_162 0 16 (dk_at dksX1_isBookedIn_2 9 rfl rfl)
theorem dX1_isBookedIn_59 : decode cX1_isBookedIn 59 = .ok (.iload_n 2, 1) := dk_28 (dk_at dksX1_isBookedIn_2 12 rfl rfl)
theorem dX1_isBookedIn_60 : decode cX1_isBookedIn 60 = .ok (.aload 6, 2) := dk_25 6 (dk_at dksX1_isBookedIn_2 13 rfl rfl)
theorem dX1_isBookedIn_62 : decode cX1_isBookedIn 62 = .ok (.invokevirtual 195, 3) := dk_182 0 195 (dk_at dksX1_isBookedIn_2 15 rfl rfl)
theorem dX1_isBookedIn_65 : decode cX1_isBookedIn 65 = .ok (.if_icmp .ge 7, 3) := dk_162 0 7 (dk_at dksX1_isBookedIn_2 18 rfl rfl)
theorem dX1_isBookedIn_68 : decode cX1_isBookedIn 68 = .ok (.iconst 1, 1) := dk_4 (dk_at dksX1_isBookedIn_2 21 rfl rfl)
theorem dX1_isBookedIn_69 : decode cX1_isBookedIn 69 = .ok (.goto 4, 3) := dk_167 0 4 (dk_at dksX1_isBookedIn_3 0 rfl rfl)
theorem dX1_isBookedIn_72 : decode cX1_isBookedIn 72 = .ok (.iconst 0, 1) := dk_3 (dk_at dksX1_isBookedIn_3 3 rfl rfl)
theorem dX1_isBookedIn_73 : decode cX1_isBookedIn 73 = .ok (.ior, 1) := dk_128 (dk_at dksX1_isBookedIn_3 4 rfl rfl)
theorem dX1_isBookedIn_74 : decode cX1_isBookedIn 74 = .ok (.istore 4, 2) := dk_54 4 (dk_at dksX1_isBookedIn_3 5 rfl rfl)
theorem dX1_isBookedIn_76 : decode cX1_isBookedIn 76 = .ok (.iinc 5 1, 3) := dk_132 5 1 (dk_at dksX1_isBookedIn_3 7 rfl rfl)
theorem dX1_isBookedIn_79 : decode cX1_isBookedIn 79 = .ok (.goto (-73), 3) := dk_167 255 183 (dk_at dksX1_isBookedIn_3 10 rfl rfl)
theorem dX1_isBookedIn_82 : decode cX1_isBookedIn 82 = .ok (.iload 4, 2) := dk_21 4 (dk_at dksX1_isBookedIn_3 13 rfl rfl)
theorem dX1_isBookedIn_84 : decode cX1_isBookedIn 84 = .ok (.ireturn, 1) := dk_172 (dk_at dksX1_isBookedIn_3 15 rfl rfl)
abbrev cX1_advance : ByteArray := prog_1_method_58_code
def yX1_advance : MethodName := ⟨RX1, "advance", "(I)I"⟩
def dkwX1_advance_2 : List UInt8 := [96, 181, 1, 16, 42, 180, 0, 25, 180, 1, 16, 172]
abbrev dktX1_advance_2 : List UInt8 := dkwX1_advance_2 ++ []
def dkwX1_advance_1 : List UInt8 := [163, 0, 7, 4, 167, 0, 4, 3, 184, 0, 102, 42, 182, 1, 79, 42, 180, 0, 25, 89, 180, 1, 16, 27]
abbrev dktX1_advance_1 : List UInt8 := dkwX1_advance_1 ++ dktX1_advance_2
def dkwX1_advance_0 : List UInt8 := [27, 4, 17, 78, 32, 184, 0, 98, 153, 0, 22, 42, 180, 0, 25, 180, 1, 16, 27, 96, 19, 1, 164]
abbrev dktX1_advance_0 : List UInt8 := dkwX1_advance_0 ++ dktX1_advance_1
theorem dksX1_advance_0 : cX1_advance.data.toList.drop 0 = dktX1_advance_0 := by decide +kernel
theorem dksX1_advance_1 : cX1_advance.data.toList.drop 23 = dktX1_advance_1 := dk_seg dksX1_advance_0 23 rfl rfl
theorem dksX1_advance_2 : cX1_advance.data.toList.drop 47 = dktX1_advance_2 := dk_seg dksX1_advance_1 24 rfl rfl
theorem dX1_advance_0 : decode cX1_advance 0 = .ok (.iload_n 1, 1) := dk_27 (dk_at dksX1_advance_0 0 rfl rfl)
theorem dX1_advance_1 : decode cX1_advance 1 = .ok (.iconst 1, 1) := dk_4 (dk_at dksX1_advance_0 1 rfl rfl)
theorem dX1_advance_2 : decode cX1_advance 2 = .ok (.sipush 20000, 3) := dk_17 78 32 (dk_at dksX1_advance_0 2 rfl rfl)
theorem dX1_advance_5 : decode cX1_advance 5 = .ok (.invokestatic 98, 3) := dk_184 0 98 (dk_at dksX1_advance_0 5 rfl rfl)
theorem dX1_advance_8 : decode cX1_advance 8 = .ok (.ifCond .eq 22, 3) := dk_153 0 22 (dk_at dksX1_advance_0 8 rfl rfl)
theorem dX1_advance_11 : decode cX1_advance 11 = .ok (.aload_n 0, 1) := dk_42 (dk_at dksX1_advance_0 11 rfl rfl)
theorem dX1_advance_12 : decode cX1_advance 12 = .ok (.getfield 25, 3) := dk_180 0 25 (dk_at dksX1_advance_0 12 rfl rfl)
theorem dX1_advance_15 : decode cX1_advance 15 = .ok (.getfield 272, 3) := dk_180 1 16 (dk_at dksX1_advance_0 15 rfl rfl)
theorem dX1_advance_18 : decode cX1_advance 18 = .ok (.iload_n 1, 1) := dk_27 (dk_at dksX1_advance_0 18 rfl rfl)
theorem dX1_advance_19 : decode cX1_advance 19 = .ok (.iadd, 1) := dk_96 (dk_at dksX1_advance_0 19 rfl rfl)
theorem dX1_advance_20 : decode cX1_advance 20 = .ok (.ldc_w 420, 3) := dk_19 1 164 (dk_at dksX1_advance_0 20 rfl rfl)
theorem dX1_advance_23 : decode cX1_advance 23 = .ok (.if_icmp .gt 7, 3) := dk_163 0 7 (dk_at dksX1_advance_1 0 rfl rfl)
theorem dX1_advance_26 : decode cX1_advance 26 = .ok (.iconst 1, 1) := dk_4 (dk_at dksX1_advance_1 3 rfl rfl)
theorem dX1_advance_27 : decode cX1_advance 27 = .ok (.goto 4, 3) := dk_167 0 4 (dk_at dksX1_advance_1 4 rfl rfl)
theorem dX1_advance_30 : decode cX1_advance 30 = .ok (.iconst 0, 1) := dk_3 (dk_at dksX1_advance_1 7 rfl rfl)
theorem dX1_advance_31 : decode cX1_advance 31 = .ok (.invokestatic 102, 3) := dk_184 0 102 (dk_at dksX1_advance_1 8 rfl rfl)
theorem dX1_advance_34 : decode cX1_advance 34 = .ok (.aload_n 0, 1) := dk_42 (dk_at dksX1_advance_1 11 rfl rfl)
theorem dX1_advance_35 : decode cX1_advance 35 = .ok (.invokevirtual 335, 3) := dk_182 1 79 (dk_at dksX1_advance_1 12 rfl rfl)
theorem dX1_advance_38 : decode cX1_advance 38 = .ok (.aload_n 0, 1) := dk_42 (dk_at dksX1_advance_1 15 rfl rfl)
theorem dX1_advance_39 : decode cX1_advance 39 = .ok (.getfield 25, 3) := dk_180 0 25 (dk_at dksX1_advance_1 16 rfl rfl)
theorem dX1_advance_42 : decode cX1_advance 42 = .ok (.dup, 1) := dk_89 (dk_at dksX1_advance_1 19 rfl rfl)
theorem dX1_advance_43 : decode cX1_advance 43 = .ok (.getfield 272, 3) := dk_180 1 16 (dk_at dksX1_advance_1 20 rfl rfl)
theorem dX1_advance_46 : decode cX1_advance 46 = .ok (.iload_n 1, 1) := dk_27 (dk_at dksX1_advance_1 23 rfl rfl)
theorem dX1_advance_47 : decode cX1_advance 47 = .ok (.iadd, 1) := dk_96 (dk_at dksX1_advance_2 0 rfl rfl)
theorem dX1_advance_48 : decode cX1_advance 48 = .ok (.putfield 272, 3) := dk_181 1 16 (dk_at dksX1_advance_2 1 rfl rfl)
theorem dX1_advance_51 : decode cX1_advance 51 = .ok (.aload_n 0, 1) := dk_42 (dk_at dksX1_advance_2 4 rfl rfl)
theorem dX1_advance_52 : decode cX1_advance 52 = .ok (.getfield 25, 3) := dk_180 0 25 (dk_at dksX1_advance_2 5 rfl rfl)
theorem dX1_advance_55 : decode cX1_advance 55 = .ok (.getfield 272, 3) := dk_180 1 16 (dk_at dksX1_advance_2 8 rfl rfl)
theorem dX1_advance_58 : decode cX1_advance 58 = .ok (.ireturn, 1) := dk_172 (dk_at dksX1_advance_2 11 rfl rfl)
abbrev cX1_setup : ByteArray := prog_1_method_59_code
def yX1_setup : MethodName := ⟨RX1, "setup", "(I)I"⟩
def dkwX1_setup_4 : List UInt8 := [180, 0, 179, 172, 42, 180, 0, 16, 180, 1, 171, 172, 42, 180, 0, 16, 180, 1, 174, 172]
abbrev dktX1_setup_4 : List UInt8 := dkwX1_setup_4 ++ []
def dkwX1_setup_3 : List UInt8 := [180, 0, 16, 180, 0, 157, 185, 0, 136, 1, 0, 172, 42, 180, 0, 25, 180, 0, 168, 172, 42, 180, 0, 16]
abbrev dktX1_setup_3 : List UInt8 := dkwX1_setup_3 ++ dktX1_setup_4
def dkwX1_setup_2 : List UInt8 := [42, 180, 0, 16, 180, 0, 132, 185, 0, 136, 1, 0, 172, 42, 180, 0, 16, 180, 0, 154, 172, 42]
abbrev dktX1_setup_2 : List UInt8 := dkwX1_setup_2 ++ dktX1_setup_3
def dkwX1_setup_1 : List UInt8 := [170, 0, 0, 0, 95, 0, 0, 0, 0, 0, 0, 0, 5, 0, 0, 0, 37, 0, 0, 0, 50, 0, 0, 0, 58, 0, 0, 0, 71, 0, 0, 0, 79, 0, 0, 0, 87]
abbrev dktX1_setup_1 : List UInt8 := dkwX1_setup_1 ++ dktX1_setup_2
def dkwX1_setup_0 : List UInt8 := [27, 3, 16, 6, 184, 0, 98, 184, 0, 102, 27]
abbrev dktX1_setup_0 : List UInt8 := dkwX1_setup_0 ++ dktX1_setup_1
theorem dksX1_setup_0 : cX1_setup.data.toList.drop 0 = dktX1_setup_0 := by decide +kernel
theorem dksX1_setup_1 : cX1_setup.data.toList.drop 11 = dktX1_setup_1 := dk_seg dksX1_setup_0 11 rfl rfl
theorem dksX1_setup_2 : cX1_setup.data.toList.drop 48 = dktX1_setup_2 := dk_seg dksX1_setup_1 37 rfl rfl
theorem dksX1_setup_3 : cX1_setup.data.toList.drop 70 = dktX1_setup_3 := dk_seg dksX1_setup_2 22 rfl rfl
theorem dksX1_setup_4 : cX1_setup.data.toList.drop 94 = dktX1_setup_4 := dk_seg dksX1_setup_3 24 rfl rfl
theorem dX1_setup_0 : decode cX1_setup 0 = .ok (.iload_n 1, 1) := dk_27 (dk_at dksX1_setup_0 0 rfl rfl)
theorem dX1_setup_1 : decode cX1_setup 1 = .ok (.iconst 0, 1) := dk_3 (dk_at dksX1_setup_0 1 rfl rfl)
theorem dX1_setup_2 : decode cX1_setup 2 = .ok (.bipush 6, 2) := dk_16 6 (dk_at dksX1_setup_0 2 rfl rfl)
theorem dX1_setup_4 : decode cX1_setup 4 = .ok (.invokestatic 98, 3) := dk_184 0 98 (dk_at dksX1_setup_0 4 rfl rfl)
theorem dX1_setup_7 : decode cX1_setup 7 = .ok (.invokestatic 102, 3) := dk_184 0 102 (dk_at dksX1_setup_0 7 rfl rfl)
theorem dX1_setup_10 : decode cX1_setup 10 = .ok (.iload_n 1, 1) := dk_27 (dk_at dksX1_setup_0 10 rfl rfl)
theorem dX1_setup_11 : decode cX1_setup 11 = .ok (.tableswitch 95 0 5 #[37, 50, 58, 71, 79, 87], 37) := by decide +kernel
theorem dX1_setup_48 : decode cX1_setup 48 = .ok (.aload_n 0, 1) := dk_42 (dk_at dksX1_setup_2 0 rfl rfl)
theorem dX1_setup_49 : decode cX1_setup 49 = .ok (.getfield 16, 3) := dk_180 0 16 (dk_at dksX1_setup_2 1 rfl rfl)
theorem dX1_setup_52 : decode cX1_setup 52 = .ok (.getfield 132, 3) := dk_180 0 132 (dk_at dksX1_setup_2 4 rfl rfl)
theorem dX1_setup_55 : decode cX1_setup 55 = .ok (.invokeinterface 136 1, 5) := by decide +kernel
theorem dX1_setup_60 : decode cX1_setup 60 = .ok (.ireturn, 1) := dk_172 (dk_at dksX1_setup_2 12 rfl rfl)
theorem dX1_setup_61 : decode cX1_setup 61 = .ok (.aload_n 0, 1) := dk_42 (dk_at dksX1_setup_2 13 rfl rfl)
theorem dX1_setup_62 : decode cX1_setup 62 = .ok (.getfield 16, 3) := dk_180 0 16 (dk_at dksX1_setup_2 14 rfl rfl)
theorem dX1_setup_65 : decode cX1_setup 65 = .ok (.getfield 154, 3) := dk_180 0 154 (dk_at dksX1_setup_2 17 rfl rfl)
theorem dX1_setup_68 : decode cX1_setup 68 = .ok (.ireturn, 1) := dk_172 (dk_at dksX1_setup_2 20 rfl rfl)
theorem dX1_setup_69 : decode cX1_setup 69 = .ok (.aload_n 0, 1) := dk_42 (dk_at dksX1_setup_2 21 rfl rfl)
theorem dX1_setup_70 : decode cX1_setup 70 = .ok (.getfield 16, 3) := dk_180 0 16 (dk_at dksX1_setup_3 0 rfl rfl)
theorem dX1_setup_73 : decode cX1_setup 73 = .ok (.getfield 157, 3) := dk_180 0 157 (dk_at dksX1_setup_3 3 rfl rfl)
theorem dX1_setup_76 : decode cX1_setup 76 = .ok (.invokeinterface 136 1, 5) := by decide +kernel
theorem dX1_setup_81 : decode cX1_setup 81 = .ok (.ireturn, 1) := dk_172 (dk_at dksX1_setup_3 11 rfl rfl)
theorem dX1_setup_82 : decode cX1_setup 82 = .ok (.aload_n 0, 1) := dk_42 (dk_at dksX1_setup_3 12 rfl rfl)
theorem dX1_setup_83 : decode cX1_setup 83 = .ok (.getfield 25, 3) := dk_180 0 25 (dk_at dksX1_setup_3 13 rfl rfl)
theorem dX1_setup_86 : decode cX1_setup 86 = .ok (.getfield 168, 3) := dk_180 0 168 (dk_at dksX1_setup_3 16 rfl rfl)
theorem dX1_setup_89 : decode cX1_setup 89 = .ok (.ireturn, 1) := dk_172 (dk_at dksX1_setup_3 19 rfl rfl)
theorem dX1_setup_90 : decode cX1_setup 90 = .ok (.aload_n 0, 1) := dk_42 (dk_at dksX1_setup_3 20 rfl rfl)
theorem dX1_setup_91 : decode cX1_setup 91 = .ok (.getfield 16, 3) := dk_180 0 16 (dk_at dksX1_setup_3 21 rfl rfl)
theorem dX1_setup_94 : decode cX1_setup 94 = .ok (.getfield 179, 3) := dk_180 0 179 (dk_at dksX1_setup_4 0 rfl rfl)
theorem dX1_setup_97 : decode cX1_setup 97 = .ok (.ireturn, 1) := dk_172 (dk_at dksX1_setup_4 3 rfl rfl)
theorem dX1_setup_98 : decode cX1_setup 98 = .ok (.aload_n 0, 1) := dk_42 (dk_at dksX1_setup_4 4 rfl rfl)
theorem dX1_setup_99 : decode cX1_setup 99 = .ok (.getfield 16, 3) := dk_180 0 16 (dk_at dksX1_setup_4 5 rfl rfl)
theorem dX1_setup_102 : decode cX1_setup 102 = .ok (.getfield 427, 3) := dk_180 1 171 (dk_at dksX1_setup_4 8 rfl rfl)
theorem dX1_setup_105 : decode cX1_setup 105 = .ok (.ireturn, 1) := dk_172 (dk_at dksX1_setup_4 11 rfl rfl)
theorem dX1_setup_106 : decode cX1_setup 106 = .ok (.aload_n 0, 1) := dk_42 (dk_at dksX1_setup_4 12 rfl rfl)
theorem dX1_setup_107 : decode cX1_setup 107 = .ok (.getfield 16, 3) := dk_180 0 16 (dk_at dksX1_setup_4 13 rfl rfl)
theorem dX1_setup_110 : decode cX1_setup 110 = .ok (.getfield 430, 3) := dk_180 1 174 (dk_at dksX1_setup_4 16 rfl rfl)
theorem dX1_setup_113 : decode cX1_setup 113 = .ok (.ireturn, 1) := dk_172 (dk_at dksX1_setup_4 19 rfl rfl)
abbrev cX1_setupTime : ByteArray := prog_1_method_60_code
def yX1_setupTime : MethodName := ⟨RX1, "setupTime", "(II)I"⟩
def dkwX1_setupTime_1 : List UInt8 := [42, 180, 0, 16, 180, 0, 185, 27, 50, 28, 46, 172]
abbrev dktX1_setupTime_1 : List UInt8 := dkwX1_setupTime_1 ++ []
def dkwX1_setupTime_0 : List UInt8 := [42, 27, 182, 1, 89, 153, 0, 15, 42, 28, 182, 1, 89, 153, 0, 7, 4, 167, 0, 4, 3, 184, 1, 33]
abbrev dktX1_setupTime_0 : List UInt8 := dkwX1_setupTime_0 ++ dktX1_setupTime_1
theorem dksX1_setupTime_0 : cX1_setupTime.data.toList.drop 0 = dktX1_setupTime_0 := by decide +kernel
theorem dksX1_setupTime_1 : cX1_setupTime.data.toList.drop 24 = dktX1_setupTime_1 := dk_seg dksX1_setupTime_0 24 rfl rfl
theorem dX1_setupTime_0 : decode cX1_setupTime 0 = .ok (.aload_n 0, 1) := dk_42 (dk_at dksX1_setupTime_0 0 rfl rfl)
theorem dX1_setupTime_1 : decode cX1_setupTime 1 = .ok (.iload_n 1, 1) := dk_27 (dk_at dksX1_setupTime_0 1 rfl rfl)
theorem dX1_setupTime_2 : decode cX1_setupTime 2 = .ok (.invokevirtual 345, 3) := dk_182 1 89 (dk_at dksX1_setupTime_0 2 rfl rfl)
theorem dX1_setupTime_5 : decode cX1_setupTime 5 = .ok (.ifCond .eq 15, 3) := dk_153 0 15 (dk_at dksX1_setupTime_0 5 rfl rfl)
theorem dX1_setupTime_8 : decode cX1_setupTime 8 = .ok (.aload_n 0, 1) := dk_42 (dk_at dksX1_setupTime_0 8 rfl rfl)
theorem dX1_setupTime_9 : decode cX1_setupTime 9 = .ok (.iload_n 2, 1) := dk_28 (dk_at dksX1_setupTime_0 9 rfl rfl)
theorem dX1_setupTime_10 : decode cX1_setupTime 10 = .ok (.invokevirtual 345, 3) := dk_182 1 89 (dk_at dksX1_setupTime_0 10 rfl rfl)
theorem dX1_setupTime_13 : decode cX1_setupTime 13 = .ok (.ifCond .eq 7, 3) := dk_153 0 7 (dk_at dksX1_setupTime_0 13 rfl rfl)
theorem dX1_setupTime_16 : decode cX1_setupTime 16 = .ok (.iconst 1, 1) := dk_4 (dk_at dksX1_setupTime_0 16 rfl rfl)
theorem dX1_setupTime_17 : decode cX1_setupTime 17 = .ok (.goto 4, 3) := dk_167 0 4 (dk_at dksX1_setupTime_0 17 rfl rfl)
theorem dX1_setupTime_20 : decode cX1_setupTime 20 = .ok (.iconst 0, 1) := dk_3 (dk_at dksX1_setupTime_0 20 rfl rfl)
theorem dX1_setupTime_21 : decode cX1_setupTime 21 = .ok (.invokestatic 289, 3) := dk_184 1 33 (dk_at dksX1_setupTime_0 21 rfl rfl)
theorem dX1_setupTime_24 : decode cX1_setupTime 24 = .ok (.aload_n 0, 1) := dk_42 (dk_at dksX1_setupTime_1 0 rfl rfl)
theorem dX1_setupTime_25 : decode cX1_setupTime 25 = .ok (.getfield 16, 3) := dk_180 0 16 (dk_at dksX1_setupTime_1 1 rfl rfl)
theorem dX1_setupTime_28 : decode cX1_setupTime 28 = .ok (.getfield 185, 3) := dk_180 0 185 (dk_at dksX1_setupTime_1 4 rfl rfl)
theorem dX1_setupTime_31 : decode cX1_setupTime 31 = .ok (.iload_n 1, 1) := dk_27 (dk_at dksX1_setupTime_1 7 rfl rfl)
theorem dX1_setupTime_32 : decode cX1_setupTime 32 = .ok (.aaload, 1) := dk_50 (dk_at dksX1_setupTime_1 8 rfl rfl)
theorem dX1_setupTime_33 : decode cX1_setupTime 33 = .ok (.iload_n 2, 1) := dk_28 (dk_at dksX1_setupTime_1 9 rfl rfl)
theorem dX1_setupTime_34 : decode cX1_setupTime 34 = .ok (.iaload, 1) := dk_46 (dk_at dksX1_setupTime_1 10 rfl rfl)
theorem dX1_setupTime_35 : decode cX1_setupTime 35 = .ok (.ireturn, 1) := dk_172 (dk_at dksX1_setupTime_1 11 rfl rfl)
abbrev cX1_isClosed : ByteArray := prog_1_method_62_code
def yX1_isClosed : MethodName := ⟨RX1, "isClosed", "(II)Z"⟩
def dkwX1_isClosed_1 : List UInt8 := [172]
abbrev dktX1_isClosed_1 : List UInt8 := dkwX1_isClosed_1 ++ []
def dkwX1_isClosed_0 : List UInt8 := [42, 27, 182, 1, 65, 184, 1, 33, 28, 184, 1, 178, 184, 0, 102, 42, 27, 28, 28, 4, 96, 182, 1, 181]
abbrev dktX1_isClosed_0 : List UInt8 := dkwX1_isClosed_0 ++ dktX1_isClosed_1
theorem dksX1_isClosed_0 : cX1_isClosed.data.toList.drop 0 = dktX1_isClosed_0 := by decide +kernel
theorem dksX1_isClosed_1 : cX1_isClosed.data.toList.drop 24 = dktX1_isClosed_1 := dk_seg dksX1_isClosed_0 24 rfl rfl
theorem dX1_isClosed_0 : decode cX1_isClosed 0 = .ok (.aload_n 0, 1) := dk_42 (dk_at dksX1_isClosed_0 0 rfl rfl)
theorem dX1_isClosed_1 : decode cX1_isClosed 1 = .ok (.iload_n 1, 1) := dk_27 (dk_at dksX1_isClosed_0 1 rfl rfl)
theorem dX1_isClosed_2 : decode cX1_isClosed 2 = .ok (.invokevirtual 321, 3) := dk_182 1 65 (dk_at dksX1_isClosed_0 2 rfl rfl)
theorem dX1_isClosed_5 : decode cX1_isClosed 5 = .ok (.invokestatic 289, 3) := dk_184 1 33 (dk_at dksX1_isClosed_0 5 rfl rfl)
theorem dX1_isClosed_8 : decode cX1_isClosed 8 = .ok (.iload_n 2, 1) := dk_28 (dk_at dksX1_isClosed_0 8 rfl rfl)
theorem dX1_isClosed_9 : decode cX1_isClosed 9 = .ok (.invokestatic 434, 3) := dk_184 1 178 (dk_at dksX1_isClosed_0 9 rfl rfl)
theorem dX1_isClosed_12 : decode cX1_isClosed 12 = .ok (.invokestatic 102, 3) := dk_184 0 102 (dk_at dksX1_isClosed_0 12 rfl rfl)
theorem dX1_isClosed_15 : decode cX1_isClosed 15 = .ok (.aload_n 0, 1) := dk_42 (dk_at dksX1_isClosed_0 15 rfl rfl)
theorem dX1_isClosed_16 : decode cX1_isClosed 16 = .ok (.iload_n 1, 1) := dk_27 (dk_at dksX1_isClosed_0 16 rfl rfl)
theorem dX1_isClosed_17 : decode cX1_isClosed 17 = .ok (.iload_n 2, 1) := dk_28 (dk_at dksX1_isClosed_0 17 rfl rfl)
theorem dX1_isClosed_18 : decode cX1_isClosed 18 = .ok (.iload_n 2, 1) := dk_28 (dk_at dksX1_isClosed_0 18 rfl rfl)
theorem dX1_isClosed_19 : decode cX1_isClosed 19 = .ok (.iconst 1, 1) := dk_4 (dk_at dksX1_isClosed_0 19 rfl rfl)
theorem dX1_isClosed_20 : decode cX1_isClosed 20 = .ok (.iadd, 1) := dk_96 (dk_at dksX1_isClosed_0 20 rfl rfl)
theorem dX1_isClosed_21 : decode cX1_isClosed 21 = .ok (.invokevirtual 437, 3) := dk_182 1 181 (dk_at dksX1_isClosed_0 21 rfl rfl)
theorem dX1_isClosed_24 : decode cX1_isClosed 24 = .ok (.ireturn, 1) := dk_172 (dk_at dksX1_isClosed_1 0 rfl rfl)
abbrev cX1_isMinute : ByteArray := prog_1_method_61_code
def yX1_isMinute : MethodName := ⟨RX1, "isMinute", "(I)Z"⟩
def dkwX1_isMinute_0 : List UInt8 := [26, 3, 19, 1, 177, 184, 0, 98, 172]
abbrev dktX1_isMinute_0 : List UInt8 := dkwX1_isMinute_0 ++ []
theorem dksX1_isMinute_0 : cX1_isMinute.data.toList.drop 0 = dktX1_isMinute_0 := by decide +kernel
theorem dX1_isMinute_0 : decode cX1_isMinute 0 = .ok (.iload_n 0, 1) := dk_26 (dk_at dksX1_isMinute_0 0 rfl rfl)
theorem dX1_isMinute_1 : decode cX1_isMinute 1 = .ok (.iconst 0, 1) := dk_3 (dk_at dksX1_isMinute_0 1 rfl rfl)
theorem dX1_isMinute_2 : decode cX1_isMinute 2 = .ok (.ldc_w 433, 3) := dk_19 1 177 (dk_at dksX1_isMinute_0 2 rfl rfl)
theorem dX1_isMinute_5 : decode cX1_isMinute 5 = .ok (.invokestatic 98, 3) := dk_184 0 98 (dk_at dksX1_isMinute_0 5 rfl rfl)
theorem dX1_isMinute_8 : decode cX1_isMinute 8 = .ok (.ireturn, 1) := dk_172 (dk_at dksX1_isMinute_0 8 rfl rfl)
abbrev cX1_feePercent : ByteArray := prog_1_method_63_code
def yX1_feePercent : MethodName := ⟨RX1, "feePercent", "(I)I"⟩
def dkwX1_feePercent_0 : List UInt8 := [27, 3, 16, 60, 184, 0, 98, 184, 0, 102, 42, 180, 0, 16, 27, 182, 1, 115, 172]
abbrev dktX1_feePercent_0 : List UInt8 := dkwX1_feePercent_0 ++ []
theorem dksX1_feePercent_0 : cX1_feePercent.data.toList.drop 0 = dktX1_feePercent_0 := by decide +kernel
theorem dX1_feePercent_0 : decode cX1_feePercent 0 = .ok (.iload_n 1, 1) := dk_27 (dk_at dksX1_feePercent_0 0 rfl rfl)
theorem dX1_feePercent_1 : decode cX1_feePercent 1 = .ok (.iconst 0, 1) := dk_3 (dk_at dksX1_feePercent_0 1 rfl rfl)
theorem dX1_feePercent_2 : decode cX1_feePercent 2 = .ok (.bipush 60, 2) := dk_16 60 (dk_at dksX1_feePercent_0 2 rfl rfl)
theorem dX1_feePercent_4 : decode cX1_feePercent 4 = .ok (.invokestatic 98, 3) := dk_184 0 98 (dk_at dksX1_feePercent_0 4 rfl rfl)
theorem dX1_feePercent_7 : decode cX1_feePercent 7 = .ok (.invokestatic 102, 3) := dk_184 0 102 (dk_at dksX1_feePercent_0 7 rfl rfl)
theorem dX1_feePercent_10 : decode cX1_feePercent 10 = .ok (.aload_n 0, 1) := dk_42 (dk_at dksX1_feePercent_0 10 rfl rfl)
theorem dX1_feePercent_11 : decode cX1_feePercent 11 = .ok (.getfield 16, 3) := dk_180 0 16 (dk_at dksX1_feePercent_0 11 rfl rfl)
theorem dX1_feePercent_14 : decode cX1_feePercent 14 = .ok (.iload_n 1, 1) := dk_27 (dk_at dksX1_feePercent_0 14 rfl rfl)
theorem dX1_feePercent_15 : decode cX1_feePercent 15 = .ok (.invokevirtual 371, 3) := dk_182 1 115 (dk_at dksX1_feePercent_0 15 rfl rfl)
theorem dX1_feePercent_18 : decode cX1_feePercent 18 = .ok (.ireturn, 1) := dk_172 (dk_at dksX1_feePercent_0 18 rfl rfl)
abbrev cX1_booking_2 : ByteArray := prog_1_method_66_code
def yX1_booking_2 : MethodName := ⟨RX1, "booking", "(II)I"⟩
def dkwX1_booking_2_1 : List UInt8 := [182, 1, 184, 172]
abbrev dktX1_booking_2_1 : List UInt8 := dkwX1_booking_2_1 ++ []
def dkwX1_booking_2_0 : List UInt8 := [42, 27, 182, 1, 29, 184, 1, 33, 28, 3, 16, 7, 184, 0, 98, 184, 0, 102, 42, 27, 182, 0, 204, 28]
abbrev dktX1_booking_2_0 : List UInt8 := dkwX1_booking_2_0 ++ dktX1_booking_2_1
theorem dksX1_booking_2_0 : cX1_booking_2.data.toList.drop 0 = dktX1_booking_2_0 := by decide +kernel
theorem dksX1_booking_2_1 : cX1_booking_2.data.toList.drop 24 = dktX1_booking_2_1 := dk_seg dksX1_booking_2_0 24 rfl rfl
theorem dX1_booking_2_0 : decode cX1_booking_2 0 = .ok (.aload_n 0, 1) := dk_42 (dk_at dksX1_booking_2_0 0 rfl rfl)
theorem dX1_booking_2_1 : decode cX1_booking_2 1 = .ok (.iload_n 1, 1) := dk_27 (dk_at dksX1_booking_2_0 1 rfl rfl)
theorem dX1_booking_2_2 : decode cX1_booking_2 2 = .ok (.invokevirtual 285, 3) := dk_182 1 29 (dk_at dksX1_booking_2_0 2 rfl rfl)
theorem dX1_booking_2_5 : decode cX1_booking_2 5 = .ok (.invokestatic 289, 3) := dk_184 1 33 (dk_at dksX1_booking_2_0 5 rfl rfl)
theorem dX1_booking_2_8 : decode cX1_booking_2 8 = .ok (.iload_n 2, 1) := dk_28 (dk_at dksX1_booking_2_0 8 rfl rfl)
theorem dX1_booking_2_9 : decode cX1_booking_2 9 = .ok (.iconst 0, 1) := dk_3 (dk_at dksX1_booking_2_0 9 rfl rfl)
theorem dX1_booking_2_10 : decode cX1_booking_2 10 = .ok (.bipush 7, 2) := dk_16 7 (dk_at dksX1_booking_2_0 10 rfl rfl)
theorem dX1_booking_2_12 : decode cX1_booking_2 12 = .ok (.invokestatic 98, 3) := dk_184 0 98 (dk_at dksX1_booking_2_0 12 rfl rfl)
theorem dX1_booking_2_15 : decode cX1_booking_2 15 = .ok (.invokestatic 102, 3) := dk_184 0 102 (dk_at dksX1_booking_2_0 15 rfl rfl)
theorem dX1_booking_2_18 : decode cX1_booking_2 18 = .ok (.aload_n 0, 1) := dk_42 (dk_at dksX1_booking_2_0 18 rfl rfl)
theorem dX1_booking_2_19 : decode cX1_booking_2 19 = .ok (.iload_n 1, 1) := dk_27 (dk_at dksX1_booking_2_0 19 rfl rfl)
theorem dX1_booking_2_20 : decode cX1_booking_2 20 = .ok (.invokevirtual 204, 3) := dk_182 0 204 (dk_at dksX1_booking_2_0 20 rfl rfl)
theorem dX1_booking_2_23 : decode cX1_booking_2 23 = .ok (.iload_n 2, 1) := dk_28 (dk_at dksX1_booking_2_0 23 rfl rfl)
theorem dX1_booking_2_24 : decode cX1_booking_2 24 = .ok (.invokevirtual 440, 3) := dk_182 1 184 (dk_at dksX1_booking_2_1 0 rfl rfl)
theorem dX1_booking_2_27 : decode cX1_booking_2 27 = .ok (.ireturn, 1) := dk_172 (dk_at dksX1_booking_2_1 3 rfl rfl)
abbrev cX1_bookedNeed : ByteArray := prog_1_method_67_code
def yX1_bookedNeed : MethodName := ⟨RX1, "bookedNeed", "(II)I"⟩
def dkwX1_bookedNeed_1 : List UInt8 := [42, 27, 182, 0, 204, 180, 0, 189, 180, 0, 228, 28, 46, 172]
abbrev dktX1_bookedNeed_1 : List UInt8 := dkwX1_bookedNeed_1 ++ []
def dkwX1_bookedNeed_0 : List UInt8 := [42, 27, 182, 1, 29, 153, 0, 15, 42, 28, 182, 1, 95, 153, 0, 7, 4, 167, 0, 4, 3, 184, 1, 33]
abbrev dktX1_bookedNeed_0 : List UInt8 := dkwX1_bookedNeed_0 ++ dktX1_bookedNeed_1
theorem dksX1_bookedNeed_0 : cX1_bookedNeed.data.toList.drop 0 = dktX1_bookedNeed_0 := by decide +kernel
theorem dksX1_bookedNeed_1 : cX1_bookedNeed.data.toList.drop 24 = dktX1_bookedNeed_1 := dk_seg dksX1_bookedNeed_0 24 rfl rfl
theorem dX1_bookedNeed_0 : decode cX1_bookedNeed 0 = .ok (.aload_n 0, 1) := dk_42 (dk_at dksX1_bookedNeed_0 0 rfl rfl)
theorem dX1_bookedNeed_1 : decode cX1_bookedNeed 1 = .ok (.iload_n 1, 1) := dk_27 (dk_at dksX1_bookedNeed_0 1 rfl rfl)
theorem dX1_bookedNeed_2 : decode cX1_bookedNeed 2 = .ok (.invokevirtual 285, 3) := dk_182 1 29 (dk_at dksX1_bookedNeed_0 2 rfl rfl)
theorem dX1_bookedNeed_5 : decode cX1_bookedNeed 5 = .ok (.ifCond .eq 15, 3) := dk_153 0 15 (dk_at dksX1_bookedNeed_0 5 rfl rfl)
theorem dX1_bookedNeed_8 : decode cX1_bookedNeed 8 = .ok (.aload_n 0, 1) := dk_42 (dk_at dksX1_bookedNeed_0 8 rfl rfl)
theorem dX1_bookedNeed_9 : decode cX1_bookedNeed 9 = .ok (.iload_n 2, 1) := dk_28 (dk_at dksX1_bookedNeed_0 9 rfl rfl)
theorem dX1_bookedNeed_10 : decode cX1_bookedNeed 10 = .ok (.invokevirtual 351, 3) := dk_182 1 95 (dk_at dksX1_bookedNeed_0 10 rfl rfl)
theorem dX1_bookedNeed_13 : decode cX1_bookedNeed 13 = .ok (.ifCond .eq 7, 3) := dk_153 0 7 (dk_at dksX1_bookedNeed_0 13 rfl rfl)
theorem dX1_bookedNeed_16 : decode cX1_bookedNeed 16 = .ok (.iconst 1, 1) := dk_4 (dk_at dksX1_bookedNeed_0 16 rfl rfl)
theorem dX1_bookedNeed_17 : decode cX1_bookedNeed 17 = .ok (.goto 4, 3) := dk_167 0 4 (dk_at dksX1_bookedNeed_0 17 rfl rfl)
theorem dX1_bookedNeed_20 : decode cX1_bookedNeed 20 = .ok (.iconst 0, 1) := dk_3 (dk_at dksX1_bookedNeed_0 20 rfl rfl)
theorem dX1_bookedNeed_21 : decode cX1_bookedNeed 21 = .ok (.invokestatic 289, 3) := dk_184 1 33 (dk_at dksX1_bookedNeed_0 21 rfl rfl)
theorem dX1_bookedNeed_24 : decode cX1_bookedNeed 24 = .ok (.aload_n 0, 1) := dk_42 (dk_at dksX1_bookedNeed_1 0 rfl rfl)
theorem dX1_bookedNeed_25 : decode cX1_bookedNeed 25 = .ok (.iload_n 1, 1) := dk_27 (dk_at dksX1_bookedNeed_1 1 rfl rfl)
theorem dX1_bookedNeed_26 : decode cX1_bookedNeed 26 = .ok (.invokevirtual 204, 3) := dk_182 0 204 (dk_at dksX1_bookedNeed_1 2 rfl rfl)
theorem dX1_bookedNeed_29 : decode cX1_bookedNeed 29 = .ok (.getfield 189, 3) := dk_180 0 189 (dk_at dksX1_bookedNeed_1 5 rfl rfl)
theorem dX1_bookedNeed_32 : decode cX1_bookedNeed 32 = .ok (.getfield 228, 3) := dk_180 0 228 (dk_at dksX1_bookedNeed_1 8 rfl rfl)
theorem dX1_bookedNeed_35 : decode cX1_bookedNeed 35 = .ok (.iload_n 2, 1) := dk_28 (dk_at dksX1_bookedNeed_1 11 rfl rfl)
theorem dX1_bookedNeed_36 : decode cX1_bookedNeed 36 = .ok (.iaload, 1) := dk_46 (dk_at dksX1_bookedNeed_1 12 rfl rfl)
theorem dX1_bookedNeed_37 : decode cX1_bookedNeed 37 = .ok (.ireturn, 1) := dk_172 (dk_at dksX1_bookedNeed_1 13 rfl rfl)
abbrev cX1_request : ByteArray := prog_1_method_69_code
def yX1_request : MethodName := ⟨RX1, "request", "(II)I"⟩
def dkwX1_request_5 : List UInt8 := [180, 1, 150, 180, 0, 192, 172, 45, 180, 1, 150, 180, 1, 187, 172]
abbrev dktX1_request_5 : List UInt8 := dkwX1_request_5 ++ []
def dkwX1_request_4 : List UInt8 := [45, 180, 1, 151, 172, 45, 180, 1, 152, 172, 45, 180, 1, 152, 45, 180, 1, 150, 180, 0, 198, 96, 172, 45]
abbrev dktX1_request_4 : List UInt8 := dkwX1_request_4 ++ dktX1_request_5
def dkwX1_request_3 : List UInt8 := [170, 0, 0, 0, 0, 0, 62, 0, 0, 0, 0, 0, 0, 0, 3, 0, 0, 0, 31, 0, 0, 0, 36, 0, 0, 0, 41, 0, 0, 0, 54]
abbrev dktX1_request_3 : List UInt8 := dkwX1_request_3 ++ dktX1_request_4
def dkwX1_request_2 : List UInt8 := [28]
abbrev dktX1_request_2 : List UInt8 := dkwX1_request_2 ++ dktX1_request_3
def dkwX1_request_1 : List UInt8 := [7, 184, 0, 98, 184, 0, 102, 42, 180, 0, 25, 180, 1, 133, 27, 185, 0, 164, 2, 0, 192, 1, 148, 78]
abbrev dktX1_request_1 : List UInt8 := dkwX1_request_1 ++ dktX1_request_2
def dkwX1_request_0 : List UInt8 := [27, 3, 42, 180, 0, 25, 180, 1, 133, 185, 0, 136, 1, 0, 4, 100, 184, 0, 98, 184, 1, 33, 28, 3]
abbrev dktX1_request_0 : List UInt8 := dkwX1_request_0 ++ dktX1_request_1
theorem dksX1_request_0 : cX1_request.data.toList.drop 0 = dktX1_request_0 := by decide +kernel
theorem dksX1_request_1 : cX1_request.data.toList.drop 24 = dktX1_request_1 := dk_seg dksX1_request_0 24 rfl rfl
theorem dksX1_request_2 : cX1_request.data.toList.drop 48 = dktX1_request_2 := dk_seg dksX1_request_1 24 rfl rfl
theorem dksX1_request_3 : cX1_request.data.toList.drop 49 = dktX1_request_3 := dk_seg dksX1_request_2 1 rfl rfl
theorem dksX1_request_4 : cX1_request.data.toList.drop 80 = dktX1_request_4 := dk_seg dksX1_request_3 31 rfl rfl
theorem dksX1_request_5 : cX1_request.data.toList.drop 104 = dktX1_request_5 := dk_seg dksX1_request_4 24 rfl rfl
theorem dX1_request_0 : decode cX1_request 0 = .ok (.iload_n 1, 1) := dk_27 (dk_at dksX1_request_0 0 rfl rfl)
theorem dX1_request_1 : decode cX1_request 1 = .ok (.iconst 0, 1) := dk_3 (dk_at dksX1_request_0 1 rfl rfl)
theorem dX1_request_2 : decode cX1_request 2 = .ok (.aload_n 0, 1) := dk_42 (dk_at dksX1_request_0 2 rfl rfl)
theorem dX1_request_3 : decode cX1_request 3 = .ok (.getfield 25, 3) := dk_180 0 25 (dk_at dksX1_request_0 3 rfl rfl)
theorem dX1_request_6 : decode cX1_request 6 = .ok (.getfield 389, 3) := dk_180 1 133 (dk_at dksX1_request_0 6 rfl rfl)
theorem dX1_request_9 : decode cX1_request 9 = .ok (.invokeinterface 136 1, 5) := by decide +kernel
theorem dX1_request_14 : decode cX1_request 14 = .ok (.iconst 1, 1) := dk_4 (dk_at dksX1_request_0 14 rfl rfl)
theorem dX1_request_15 : decode cX1_request 15 = .ok (.isub, 1) := dk_100 (dk_at dksX1_request_0 15 rfl rfl)
theorem dX1_request_16 : decode cX1_request 16 = .ok (.invokestatic 98, 3) := dk_184 0 98 (dk_at dksX1_request_0 16 rfl rfl)
theorem dX1_request_19 : decode cX1_request 19 = .ok (.invokestatic 289, 3) := dk_184 1 33 (dk_at dksX1_request_0 19 rfl rfl)
theorem dX1_request_22 : decode cX1_request 22 = .ok (.iload_n 2, 1) := dk_28 (dk_at dksX1_request_0 22 rfl rfl)
theorem dX1_request_23 : decode cX1_request 23 = .ok (.iconst 0, 1) := dk_3 (dk_at dksX1_request_0 23 rfl rfl)
theorem dX1_request_24 : decode cX1_request 24 = .ok (.iconst 4, 1) := dk_7 (dk_at dksX1_request_1 0 rfl rfl)
theorem dX1_request_25 : decode cX1_request 25 = .ok (.invokestatic 98, 3) := dk_184 0 98 (dk_at dksX1_request_1 1 rfl rfl)
theorem dX1_request_28 : decode cX1_request 28 = .ok (.invokestatic 102, 3) := dk_184 0 102 (dk_at dksX1_request_1 4 rfl rfl)
theorem dX1_request_31 : decode cX1_request 31 = .ok (.aload_n 0, 1) := dk_42 (dk_at dksX1_request_1 7 rfl rfl)
theorem dX1_request_32 : decode cX1_request 32 = .ok (.getfield 25, 3) := dk_180 0 25 (dk_at dksX1_request_1 8 rfl rfl)
theorem dX1_request_35 : decode cX1_request 35 = .ok (.getfield 389, 3) := dk_180 1 133 (dk_at dksX1_request_1 11 rfl rfl)
theorem dX1_request_38 : decode cX1_request 38 = .ok (.iload_n 1, 1) := dk_27 (dk_at dksX1_request_1 14 rfl rfl)
theorem dX1_request_39 : decode cX1_request 39 = .ok (.invokeinterface 164 2, 5) := by decide +kernel
theorem dX1_request_44 : decode cX1_request 44 = .ok (.checkcast 404, 3) := dk_192 1 148 (dk_at dksX1_request_1 20 rfl rfl)
theorem dX1_request_47 : decode cX1_request 47 = .ok (.astore_n 3, 1) := dk_78 (dk_at dksX1_request_1 23 rfl rfl)
theorem dX1_request_48 : decode cX1_request 48 = .ok (.iload_n 2, 1) := dk_28 (dk_at dksX1_request_2 0 rfl rfl)
theorem dX1_request_49 : decode cX1_request 49 = .ok (.tableswitch 62 0 3 #[31, 36, 41, 54], 31) := by decide +kernel
theorem dX1_request_80 : decode cX1_request 80 = .ok (.aload_n 3, 1) := dk_45 (dk_at dksX1_request_4 0 rfl rfl)
theorem dX1_request_81 : decode cX1_request 81 = .ok (.getfield 407, 3) := dk_180 1 151 (dk_at dksX1_request_4 1 rfl rfl)
theorem dX1_request_84 : decode cX1_request 84 = .ok (.ireturn, 1) := dk_172 (dk_at dksX1_request_4 4 rfl rfl)
theorem dX1_request_85 : decode cX1_request 85 = .ok (.aload_n 3, 1) := dk_45 (dk_at dksX1_request_4 5 rfl rfl)
theorem dX1_request_86 : decode cX1_request 86 = .ok (.getfield 408, 3) := dk_180 1 152 (dk_at dksX1_request_4 6 rfl rfl)
theorem dX1_request_89 : decode cX1_request 89 = .ok (.ireturn, 1) := dk_172 (dk_at dksX1_request_4 9 rfl rfl)
theorem dX1_request_90 : decode cX1_request 90 = .ok (.aload_n 3, 1) := dk_45 (dk_at dksX1_request_4 10 rfl rfl)
theorem dX1_request_91 : decode cX1_request 91 = .ok (.getfield 408, 3) := dk_180 1 152 (dk_at dksX1_request_4 11 rfl rfl)
theorem dX1_request_94 : decode cX1_request 94 = .ok (.aload_n 3, 1) := dk_45 (dk_at dksX1_request_4 14 rfl rfl)
theorem dX1_request_95 : decode cX1_request 95 = .ok (.getfield 406, 3) := dk_180 1 150 (dk_at dksX1_request_4 15 rfl rfl)
theorem dX1_request_98 : decode cX1_request 98 = .ok (.getfield 198, 3) := dk_180 0 198 (dk_at dksX1_request_4 18 rfl rfl)
theorem dX1_request_101 : decode cX1_request 101 = .ok (.iadd, 1) := dk_96 (dk_at dksX1_request_4 21 rfl rfl)
theorem dX1_request_102 : decode cX1_request 102 = .ok (.ireturn, 1) := dk_172 (dk_at dksX1_request_4 22 rfl rfl)
theorem dX1_request_103 : decode cX1_request 103 = .ok (.aload_n 3, 1) := dk_45 (dk_at dksX1_request_4 23 rfl rfl)
theorem dX1_request_104 : decode cX1_request 104 = .ok (.getfield 406, 3) := dk_180 1 150 (dk_at dksX1_request_5 0 rfl rfl)
theorem dX1_request_107 : decode cX1_request 107 = .ok (.getfield 192, 3) := dk_180 0 192 (dk_at dksX1_request_5 3 rfl rfl)
theorem dX1_request_110 : decode cX1_request 110 = .ok (.ireturn, 1) := dk_172 (dk_at dksX1_request_5 6 rfl rfl)
theorem dX1_request_111 : decode cX1_request 111 = .ok (.aload_n 3, 1) := dk_45 (dk_at dksX1_request_5 7 rfl rfl)
theorem dX1_request_112 : decode cX1_request 112 = .ok (.getfield 406, 3) := dk_180 1 150 (dk_at dksX1_request_5 8 rfl rfl)
theorem dX1_request_115 : decode cX1_request 115 = .ok (.getfield 443, 3) := dk_180 1 187 (dk_at dksX1_request_5 11 rfl rfl)
theorem dX1_request_118 : decode cX1_request 118 = .ok (.ireturn, 1) := dk_172 (dk_at dksX1_request_5 14 rfl rfl)
abbrev cX1_problem : ByteArray := prog_1_method_71_code
def yX1_problem : MethodName := ⟨RX1, "problem", "(II)I"⟩
def dkwX1_problem_1 : List UInt8 := [42, 42, 180, 0, 32, 27, 28, 182, 1, 4, 172]
abbrev dktX1_problem_1 : List UInt8 := dkwX1_problem_1 ++ []
def dkwX1_problem_0 : List UInt8 := [42, 27, 28, 182, 1, 109, 42, 180, 0, 16, 180, 0, 154, 158, 0, 7, 4, 167, 0, 4, 3, 184, 0, 94]
abbrev dktX1_problem_0 : List UInt8 := dkwX1_problem_0 ++ dktX1_problem_1
theorem dksX1_problem_0 : cX1_problem.data.toList.drop 0 = dktX1_problem_0 := by decide +kernel
theorem dksX1_problem_1 : cX1_problem.data.toList.drop 24 = dktX1_problem_1 := dk_seg dksX1_problem_0 24 rfl rfl
theorem dX1_problem_0 : decode cX1_problem 0 = .ok (.aload_n 0, 1) := dk_42 (dk_at dksX1_problem_0 0 rfl rfl)
theorem dX1_problem_1 : decode cX1_problem 1 = .ok (.iload_n 1, 1) := dk_27 (dk_at dksX1_problem_0 1 rfl rfl)
theorem dX1_problem_2 : decode cX1_problem 2 = .ok (.iload_n 2, 1) := dk_28 (dk_at dksX1_problem_0 2 rfl rfl)
theorem dX1_problem_3 : decode cX1_problem 3 = .ok (.invokevirtual 365, 3) := dk_182 1 109 (dk_at dksX1_problem_0 3 rfl rfl)
theorem dX1_problem_6 : decode cX1_problem 6 = .ok (.aload_n 0, 1) := dk_42 (dk_at dksX1_problem_0 6 rfl rfl)
theorem dX1_problem_7 : decode cX1_problem 7 = .ok (.getfield 16, 3) := dk_180 0 16 (dk_at dksX1_problem_0 7 rfl rfl)
theorem dX1_problem_10 : decode cX1_problem 10 = .ok (.getfield 154, 3) := dk_180 0 154 (dk_at dksX1_problem_0 10 rfl rfl)
theorem dX1_problem_13 : decode cX1_problem 13 = .ok (.ifCond .le 7, 3) := dk_158 0 7 (dk_at dksX1_problem_0 13 rfl rfl)
theorem dX1_problem_16 : decode cX1_problem 16 = .ok (.iconst 1, 1) := dk_4 (dk_at dksX1_problem_0 16 rfl rfl)
theorem dX1_problem_17 : decode cX1_problem 17 = .ok (.goto 4, 3) := dk_167 0 4 (dk_at dksX1_problem_0 17 rfl rfl)
theorem dX1_problem_20 : decode cX1_problem 20 = .ok (.iconst 0, 1) := dk_3 (dk_at dksX1_problem_0 20 rfl rfl)
theorem dX1_problem_21 : decode cX1_problem 21 = .ok (.invokestatic 94, 3) := dk_184 0 94 (dk_at dksX1_problem_0 21 rfl rfl)
theorem dX1_problem_24 : decode cX1_problem 24 = .ok (.aload_n 0, 1) := dk_42 (dk_at dksX1_problem_1 0 rfl rfl)
theorem dX1_problem_25 : decode cX1_problem 25 = .ok (.aload_n 0, 1) := dk_42 (dk_at dksX1_problem_1 1 rfl rfl)
theorem dX1_problem_26 : decode cX1_problem 26 = .ok (.getfield 32, 3) := dk_180 0 32 (dk_at dksX1_problem_1 2 rfl rfl)
theorem dX1_problem_29 : decode cX1_problem 29 = .ok (.iload_n 1, 1) := dk_27 (dk_at dksX1_problem_1 5 rfl rfl)
theorem dX1_problem_30 : decode cX1_problem 30 = .ok (.iload_n 2, 1) := dk_28 (dk_at dksX1_problem_1 6 rfl rfl)
theorem dX1_problem_31 : decode cX1_problem 31 = .ok (.invokevirtual 260, 3) := dk_182 1 4 (dk_at dksX1_problem_1 7 rfl rfl)
theorem dX1_problem_34 : decode cX1_problem 34 = .ok (.ireturn, 1) := dk_172 (dk_at dksX1_problem_1 10 rfl rfl)
abbrev cX1_price : ByteArray := prog_1_method_72_code
def yX1_price : MethodName := ⟨RX1, "price", "(II)I"⟩
def dkwX1_price_0 : List UInt8 := [42, 27, 28, 182, 1, 109, 42, 180, 0, 16, 42, 180, 0, 32, 27, 28, 182, 0, 254, 172]
abbrev dktX1_price_0 : List UInt8 := dkwX1_price_0 ++ []
theorem dksX1_price_0 : cX1_price.data.toList.drop 0 = dktX1_price_0 := by decide +kernel
theorem dX1_price_0 : decode cX1_price 0 = .ok (.aload_n 0, 1) := dk_42 (dk_at dksX1_price_0 0 rfl rfl)
theorem dX1_price_1 : decode cX1_price 1 = .ok (.iload_n 1, 1) := dk_27 (dk_at dksX1_price_0 1 rfl rfl)
theorem dX1_price_2 : decode cX1_price 2 = .ok (.iload_n 2, 1) := dk_28 (dk_at dksX1_price_0 2 rfl rfl)
theorem dX1_price_3 : decode cX1_price 3 = .ok (.invokevirtual 365, 3) := dk_182 1 109 (dk_at dksX1_price_0 3 rfl rfl)
theorem dX1_price_6 : decode cX1_price 6 = .ok (.aload_n 0, 1) := dk_42 (dk_at dksX1_price_0 6 rfl rfl)
theorem dX1_price_7 : decode cX1_price 7 = .ok (.getfield 16, 3) := dk_180 0 16 (dk_at dksX1_price_0 7 rfl rfl)
theorem dX1_price_10 : decode cX1_price 10 = .ok (.aload_n 0, 1) := dk_42 (dk_at dksX1_price_0 10 rfl rfl)
theorem dX1_price_11 : decode cX1_price 11 = .ok (.getfield 32, 3) := dk_180 0 32 (dk_at dksX1_price_0 11 rfl rfl)
theorem dX1_price_14 : decode cX1_price 14 = .ok (.iload_n 1, 1) := dk_27 (dk_at dksX1_price_0 14 rfl rfl)
theorem dX1_price_15 : decode cX1_price 15 = .ok (.iload_n 2, 1) := dk_28 (dk_at dksX1_price_0 15 rfl rfl)
theorem dX1_price_16 : decode cX1_price 16 = .ok (.invokevirtual 254, 3) := dk_182 0 254 (dk_at dksX1_price_0 16 rfl rfl)
theorem dX1_price_19 : decode cX1_price 19 = .ok (.ireturn, 1) := dk_172 (dk_at dksX1_price_0 19 rfl rfl)
abbrev cX1_earliest : ByteArray := prog_1_method_74_code
def yX1_earliest : MethodName := ⟨RX1, "earliest", "(II)I"⟩
def dkwX1_earliest_2 : List UInt8 := [159, 0, 7, 4, 167, 0, 4, 3, 184, 1, 82, 29, 172]
abbrev dktX1_earliest_2 : List UInt8 := dkwX1_earliest_2 ++ []
def dkwX1_earliest_1 : List UInt8 := [180, 0, 154, 158, 0, 7, 4, 167, 0, 4, 3, 184, 0, 94, 42, 27, 28, 182, 1, 190, 62, 29, 2]
abbrev dktX1_earliest_1 : List UInt8 := dkwX1_earliest_1 ++ dktX1_earliest_2
def dkwX1_earliest_0 : List UInt8 := [42, 27, 182, 1, 65, 184, 1, 33, 28, 3, 18, 163, 184, 0, 98, 184, 0, 102, 42, 180, 0, 16]
abbrev dktX1_earliest_0 : List UInt8 := dkwX1_earliest_0 ++ dktX1_earliest_1
theorem dksX1_earliest_0 : cX1_earliest.data.toList.drop 0 = dktX1_earliest_0 := by decide +kernel
theorem dksX1_earliest_1 : cX1_earliest.data.toList.drop 22 = dktX1_earliest_1 := dk_seg dksX1_earliest_0 22 rfl rfl
theorem dksX1_earliest_2 : cX1_earliest.data.toList.drop 45 = dktX1_earliest_2 := dk_seg dksX1_earliest_1 23 rfl rfl
theorem dX1_earliest_0 : decode cX1_earliest 0 = .ok (.aload_n 0, 1) := dk_42 (dk_at dksX1_earliest_0 0 rfl rfl)
theorem dX1_earliest_1 : decode cX1_earliest 1 = .ok (.iload_n 1, 1) := dk_27 (dk_at dksX1_earliest_0 1 rfl rfl)
theorem dX1_earliest_2 : decode cX1_earliest 2 = .ok (.invokevirtual 321, 3) := dk_182 1 65 (dk_at dksX1_earliest_0 2 rfl rfl)
theorem dX1_earliest_5 : decode cX1_earliest 5 = .ok (.invokestatic 289, 3) := dk_184 1 33 (dk_at dksX1_earliest_0 5 rfl rfl)
theorem dX1_earliest_8 : decode cX1_earliest 8 = .ok (.iload_n 2, 1) := dk_28 (dk_at dksX1_earliest_0 8 rfl rfl)
theorem dX1_earliest_9 : decode cX1_earliest 9 = .ok (.iconst 0, 1) := dk_3 (dk_at dksX1_earliest_0 9 rfl rfl)
theorem dX1_earliest_10 : decode cX1_earliest 10 = .ok (.ldc 163, 2) := dk_18 163 (dk_at dksX1_earliest_0 10 rfl rfl)
theorem dX1_earliest_12 : decode cX1_earliest 12 = .ok (.invokestatic 98, 3) := dk_184 0 98 (dk_at dksX1_earliest_0 12 rfl rfl)
theorem dX1_earliest_15 : decode cX1_earliest 15 = .ok (.invokestatic 102, 3) := dk_184 0 102 (dk_at dksX1_earliest_0 15 rfl rfl)
theorem dX1_earliest_18 : decode cX1_earliest 18 = .ok (.aload_n 0, 1) := dk_42 (dk_at dksX1_earliest_0 18 rfl rfl)
theorem dX1_earliest_19 : decode cX1_earliest 19 = .ok (.getfield 16, 3) := dk_180 0 16 (dk_at dksX1_earliest_0 19 rfl rfl)
theorem dX1_earliest_22 : decode cX1_earliest 22 = .ok (.getfield 154, 3) := dk_180 0 154 (dk_at dksX1_earliest_1 0 rfl rfl)
theorem dX1_earliest_25 : decode cX1_earliest 25 = .ok (.ifCond .le 7, 3) := dk_158 0 7 (dk_at dksX1_earliest_1 3 rfl rfl)
theorem dX1_earliest_28 : decode cX1_earliest 28 = .ok (.iconst 1, 1) := dk_4 (dk_at dksX1_earliest_1 6 rfl rfl)
theorem dX1_earliest_29 : decode cX1_earliest 29 = .ok (.goto 4, 3) := dk_167 0 4 (dk_at dksX1_earliest_1 7 rfl rfl)
theorem dX1_earliest_32 : decode cX1_earliest 32 = .ok (.iconst 0, 1) := dk_3 (dk_at dksX1_earliest_1 10 rfl rfl)
theorem dX1_earliest_33 : decode cX1_earliest 33 = .ok (.invokestatic 94, 3) := dk_184 0 94 (dk_at dksX1_earliest_1 11 rfl rfl)
theorem dX1_earliest_36 : decode cX1_earliest 36 = .ok (.aload_n 0, 1) := dk_42 (dk_at dksX1_earliest_1 14 rfl rfl)
theorem dX1_earliest_37 : decode cX1_earliest 37 = .ok (.iload_n 1, 1) := dk_27 (dk_at dksX1_earliest_1 15 rfl rfl)
theorem dX1_earliest_38 : decode cX1_earliest 38 = .ok (.iload_n 2, 1) := dk_28 (dk_at dksX1_earliest_1 16 rfl rfl)
theorem dX1_earliest_39 : decode cX1_earliest 39 = .ok (.invokevirtual 446, 3) := dk_182 1 190 (dk_at dksX1_earliest_1 17 rfl rfl)
theorem dX1_earliest_42 : decode cX1_earliest 42 = .ok (.istore_n 3, 1) := dk_62 (dk_at dksX1_earliest_1 20 rfl rfl)
theorem dX1_earliest_43 : decode cX1_earliest 43 = .ok (.iload_n 3, 1) := dk_29 (dk_at dksX1_earliest_1 21 rfl rfl)
theorem dX1_earliest_44 : decode cX1_earliest 44 = .ok (.iconst (-1), 1) := dk_2 (dk_at dksX1_earliest_1 22 rfl rfl)
theorem dX1_earliest_45 : decode cX1_earliest 45 = .ok (.if_icmp .eq 7, 3) := dk_159 0 7 (dk_at dksX1_earliest_2 0 rfl rfl)
theorem dX1_earliest_48 : decode cX1_earliest 48 = .ok (.iconst 1, 1) := dk_4 (dk_at dksX1_earliest_2 3 rfl rfl)
theorem dX1_earliest_49 : decode cX1_earliest 49 = .ok (.goto 4, 3) := dk_167 0 4 (dk_at dksX1_earliest_2 4 rfl rfl)
theorem dX1_earliest_52 : decode cX1_earliest 52 = .ok (.iconst 0, 1) := dk_3 (dk_at dksX1_earliest_2 7 rfl rfl)
theorem dX1_earliest_53 : decode cX1_earliest 53 = .ok (.invokestatic 338, 3) := dk_184 1 82 (dk_at dksX1_earliest_2 8 rfl rfl)
theorem dX1_earliest_56 : decode cX1_earliest 56 = .ok (.iload_n 3, 1) := dk_29 (dk_at dksX1_earliest_2 11 rfl rfl)
theorem dX1_earliest_57 : decode cX1_earliest 57 = .ok (.ireturn, 1) := dk_172 (dk_at dksX1_earliest_2 12 rfl rfl)
abbrev cX1_earliestOf : ByteArray := prog_1_method_73_code
def yX1_earliestOf : MethodName := ⟨RX1, "earliestOf", "(II)I"⟩
def dkwX1_earliestOf_1 : List UInt8 := [27, 29, 182, 1, 4, 154, 0, 5, 29, 172, 132, 3, 15, 167, 255, 232, 2, 172]
abbrev dktX1_earliestOf_1 : List UInt8 := dkwX1_earliestOf_1 ++ []
def dkwX1_earliestOf_0 : List UInt8 := [28, 16, 15, 96, 4, 100, 16, 15, 108, 16, 15, 104, 62, 29, 18, 163, 163, 0, 24, 42, 42, 180, 0, 32]
abbrev dktX1_earliestOf_0 : List UInt8 := dkwX1_earliestOf_0 ++ dktX1_earliestOf_1
theorem dksX1_earliestOf_0 : cX1_earliestOf.data.toList.drop 0 = dktX1_earliestOf_0 := by decide +kernel
theorem dksX1_earliestOf_1 : cX1_earliestOf.data.toList.drop 24 = dktX1_earliestOf_1 := dk_seg dksX1_earliestOf_0 24 rfl rfl
theorem dX1_earliestOf_0 : decode cX1_earliestOf 0 = .ok (.iload_n 2, 1) := dk_28 (dk_at dksX1_earliestOf_0 0 rfl rfl)
theorem dX1_earliestOf_1 : decode cX1_earliestOf 1 = .ok (.bipush 15, 2) := dk_16 15 (dk_at dksX1_earliestOf_0 1 rfl rfl)
theorem dX1_earliestOf_3 : decode cX1_earliestOf 3 = .ok (.iadd, 1) := dk_96 (dk_at dksX1_earliestOf_0 3 rfl rfl)
theorem dX1_earliestOf_4 : decode cX1_earliestOf 4 = .ok (.iconst 1, 1) := dk_4 (dk_at dksX1_earliestOf_0 4 rfl rfl)
theorem dX1_earliestOf_5 : decode cX1_earliestOf 5 = .ok (.isub, 1) := dk_100 (dk_at dksX1_earliestOf_0 5 rfl rfl)
theorem dX1_earliestOf_6 : decode cX1_earliestOf 6 = .ok (.bipush 15, 2) := dk_16 15 (dk_at dksX1_earliestOf_0 6 rfl rfl)
theorem dX1_earliestOf_8 : decode cX1_earliestOf 8 = .ok (.idiv, 1) := dk_108 (dk_at dksX1_earliestOf_0 8 rfl rfl)
theorem dX1_earliestOf_9 : decode cX1_earliestOf 9 = .ok (.bipush 15, 2) := dk_16 15 (dk_at dksX1_earliestOf_0 9 rfl rfl)
theorem dX1_earliestOf_11 : decode cX1_earliestOf 11 = .ok (.imul, 1) := dk_104 (dk_at dksX1_earliestOf_0 11 rfl rfl)
theorem dX1_earliestOf_12 : decode cX1_earliestOf 12 = .ok (.istore_n 3, 1) := dk_62 (dk_at dksX1_earliestOf_0 12 rfl rfl)
theorem dX1_earliestOf_13 : decode cX1_earliestOf 13 = .ok (.iload_n 3, 1) := dk_29 (dk_at dksX1_earliestOf_0 13 rfl rfl)
theorem dX1_earliestOf_14 : decode cX1_earliestOf 14 = .ok (.ldc 163, 2) := dk_18 163 (dk_at dksX1_earliestOf_0 14 rfl rfl)
theorem dX1_earliestOf_16 : decode cX1_earliestOf 16 = .ok (.if_icmp .gt 24, 3) := dk_163 0 24 (dk_at dksX1_earliestOf_0 16 rfl rfl)
theorem dX1_earliestOf_19 : decode cX1_earliestOf 19 = .ok (.aload_n 0, 1) := dk_42 (dk_at dksX1_earliestOf_0 19 rfl rfl)
theorem dX1_earliestOf_20 : decode cX1_earliestOf 20 = .ok (.aload_n 0, 1) := dk_42 (dk_at dksX1_earliestOf_0 20 rfl rfl)
theorem dX1_earliestOf_21 : decode cX1_earliestOf 21 = .ok (.getfield 32, 3) := dk_180 0 32 (dk_at dksX1_earliestOf_0 21 rfl rfl)
theorem dX1_earliestOf_24 : decode cX1_earliestOf 24 = .ok (.iload_n 1, 1) := dk_27 (dk_at dksX1_earliestOf_1 0 rfl rfl)
theorem dX1_earliestOf_25 : decode cX1_earliestOf 25 = .ok (.iload_n 3, 1) := dk_29 (dk_at dksX1_earliestOf_1 1 rfl rfl)
theorem dX1_earliestOf_26 : decode cX1_earliestOf 26 = .ok (.invokevirtual 260, 3) := dk_182 1 4 (dk_at dksX1_earliestOf_1 2 rfl rfl)
theorem dX1_earliestOf_29 : decode cX1_earliestOf 29 = .ok (.ifCond .ne 5, 3) := dk_154 0 5 (dk_at dksX1_earliestOf_1 5 rfl rfl)
theorem dX1_earliestOf_32 : decode cX1_earliestOf 32 = .ok (.iload_n 3, 1) := dk_29 (dk_at dksX1_earliestOf_1 8 rfl rfl)
theorem dX1_earliestOf_33 : decode cX1_earliestOf 33 = .ok (.ireturn, 1) := dk_172 (dk_at dksX1_earliestOf_1 9 rfl rfl)
theorem dX1_earliestOf_34 : decode cX1_earliestOf 34 = .ok (.iinc 3 15, 3) := dk_132 3 15 (dk_at dksX1_earliestOf_1 10 rfl rfl)
theorem dX1_earliestOf_37 : decode cX1_earliestOf 37 = .ok (.goto (-24), 3) := dk_167 255 232 (dk_at dksX1_earliestOf_1 13 rfl rfl)
theorem dX1_earliestOf_40 : decode cX1_earliestOf 40 = .ok (.iconst (-1), 1) := dk_2 (dk_at dksX1_earliestOf_1 16 rfl rfl)
theorem dX1_earliestOf_41 : decode cX1_earliestOf 41 = .ok (.ireturn, 1) := dk_172 (dk_at dksX1_earliestOf_1 17 rfl rfl)
abbrev cX1_needElement : ByteArray := prog_1_method_6_code
def yX1_needElement : MethodName := ⟨RX1, "needElement", "(Z)V"⟩
def dkwX1_needElement_0 : List UInt8 := [26, 154, 0, 11, 187, 0, 83, 89, 183, 0, 85, 191, 177]
abbrev dktX1_needElement_0 : List UInt8 := dkwX1_needElement_0 ++ []
theorem dksX1_needElement_0 : cX1_needElement.data.toList.drop 0 = dktX1_needElement_0 := by decide +kernel
theorem dX1_needElement_0 : decode cX1_needElement 0 = .ok (.iload_n 0, 1) := dk_26 (dk_at dksX1_needElement_0 0 rfl rfl)
theorem dX1_needElement_1 : decode cX1_needElement 1 = .ok (.ifCond .ne 11, 3) := dk_154 0 11 (dk_at dksX1_needElement_0 1 rfl rfl)
theorem dX1_needElement_4 : decode cX1_needElement 4 = .ok (.new 83, 3) := dk_187 0 83 (dk_at dksX1_needElement_0 4 rfl rfl)
theorem dX1_needElement_7 : decode cX1_needElement 7 = .ok (.dup, 1) := dk_89 (dk_at dksX1_needElement_0 7 rfl rfl)
theorem dX1_needElement_8 : decode cX1_needElement 8 = .ok (.invokespecial 85, 3) := dk_183 0 85 (dk_at dksX1_needElement_0 8 rfl rfl)
theorem dX1_needElement_11 : decode cX1_needElement 11 = .ok (.athrow, 1) := dk_191 (dk_at dksX1_needElement_0 11 rfl rfl)
theorem dX1_needElement_12 : decode cX1_needElement 12 = .ok (.return_, 1) := dk_177 (dk_at dksX1_needElement_0 12 rfl rfl)
abbrev cX1_earliestHall : ByteArray := prog_1_method_75_code
def yX1_earliestHall : MethodName := ⟨RX1, "earliestHall", "(I)I"⟩
def dkwX1_earliestHall_4 : List UInt8 := [159, 0, 7, 4, 167, 0, 4, 3, 184, 1, 82, 28, 172]
abbrev dktX1_earliestHall_4 : List UInt8 := dkwX1_earliestHall_4 ++ []
def dkwX1_earliestHall_3 : List UInt8 := [2, 159, 0, 9, 21, 5, 29, 162, 0, 9, 21, 4, 61, 21, 5, 62, 132, 4, 1, 167, 255, 204, 28, 2]
abbrev dktX1_earliestHall_3 : List UInt8 := dkwX1_earliestHall_3 ++ dktX1_earliestHall_4
def dkwX1_earliestHall_2 : List UInt8 := [185, 0, 136, 1, 0, 162, 0, 41, 42, 21, 4, 27, 182, 1, 190, 54, 5, 21, 5, 2, 159, 0, 20, 28]
abbrev dktX1_earliestHall_2 : List UInt8 := dkwX1_earliestHall_2 ++ dktX1_earliestHall_3
def dkwX1_earliestHall_1 : List UInt8 := [3, 184, 0, 94, 2, 61, 3, 62, 3, 54, 4, 21, 4, 42, 180, 0, 16, 180, 0, 132]
abbrev dktX1_earliestHall_1 : List UInt8 := dkwX1_earliestHall_1 ++ dktX1_earliestHall_2
def dkwX1_earliestHall_0 : List UInt8 := [27, 3, 18, 163, 184, 0, 98, 184, 0, 102, 42, 180, 0, 16, 180, 0, 154, 158, 0, 7, 4, 167, 0, 4]
abbrev dktX1_earliestHall_0 : List UInt8 := dkwX1_earliestHall_0 ++ dktX1_earliestHall_1
theorem dksX1_earliestHall_0 : cX1_earliestHall.data.toList.drop 0 = dktX1_earliestHall_0 := by decide +kernel
theorem dksX1_earliestHall_1 : cX1_earliestHall.data.toList.drop 24 = dktX1_earliestHall_1 := dk_seg dksX1_earliestHall_0 24 rfl rfl
theorem dksX1_earliestHall_2 : cX1_earliestHall.data.toList.drop 44 = dktX1_earliestHall_2 := dk_seg dksX1_earliestHall_1 20 rfl rfl
theorem dksX1_earliestHall_3 : cX1_earliestHall.data.toList.drop 68 = dktX1_earliestHall_3 := dk_seg dksX1_earliestHall_2 24 rfl rfl
theorem dksX1_earliestHall_4 : cX1_earliestHall.data.toList.drop 92 = dktX1_earliestHall_4 := dk_seg dksX1_earliestHall_3 24 rfl rfl
theorem dX1_earliestHall_0 : decode cX1_earliestHall 0 = .ok (.iload_n 1, 1) := dk_27 (dk_at dksX1_earliestHall_0 0 rfl rfl)
theorem dX1_earliestHall_1 : decode cX1_earliestHall 1 = .ok (.iconst 0, 1) := dk_3 (dk_at dksX1_earliestHall_0 1 rfl rfl)
theorem dX1_earliestHall_2 : decode cX1_earliestHall 2 = .ok (.ldc 163, 2) := dk_18 163 (dk_at dksX1_earliestHall_0 2 rfl rfl)
theorem dX1_earliestHall_4 : decode cX1_earliestHall 4 = .ok (.invokestatic 98, 3) := dk_184 0 98 (dk_at dksX1_earliestHall_0 4 rfl rfl)
theorem dX1_earliestHall_7 : decode cX1_earliestHall 7 = .ok (.invokestatic 102, 3) := dk_184 0 102 (dk_at dksX1_earliestHall_0 7 rfl rfl)
theorem dX1_earliestHall_10 : decode cX1_earliestHall 10 = .ok (.aload_n 0, 1) := dk_42 (dk_at dksX1_earliestHall_0 10 rfl rfl)
theorem dX1_earliestHall_11 : decode cX1_earliestHall 11 = .ok (.getfield 16, 3) := dk_180 0 16 (dk_at dksX1_earliestHall_0 11 rfl rfl)
theorem dX1_earliestHall_14 : decode cX1_earliestHall 14 = .ok (.getfield 154, 3) := dk_180 0 154 (dk_at dksX1_earliestHall_0 14 rfl rfl)
theorem dX1_earliestHall_17 : decode cX1_earliestHall 17 = .ok (.ifCond .le 7, 3) := dk_158 0 7 (dk_at dksX1_earliestHall_0 17 rfl rfl)
theorem dX1_earliestHall_20 : decode cX1_earliestHall 20 = .ok (.iconst 1, 1) := dk_4 (dk_at dksX1_earliestHall_0 20 rfl rfl)
theorem dX1_earliestHall_21 : decode cX1_earliestHall 21 = .ok (.goto 4, 3) := dk_167 0 4 (dk_at dksX1_earliestHall_0 21 rfl rfl)
theorem dX1_earliestHall_24 : decode cX1_earliestHall 24 = .ok (.iconst 0, 1) := dk_3 (dk_at dksX1_earliestHall_1 0 rfl rfl)
theorem dX1_earliestHall_25 : decode cX1_earliestHall 25 = .ok (.invokestatic 94, 3) := dk_184 0 94 (dk_at dksX1_earliestHall_1 1 rfl rfl)
theorem dX1_earliestHall_28 : decode cX1_earliestHall 28 = .ok (.iconst (-1), 1) := dk_2 (dk_at dksX1_earliestHall_1 4 rfl rfl)
theorem dX1_earliestHall_29 : decode cX1_earliestHall 29 = .ok (.istore_n 2, 1) := dk_61 (dk_at dksX1_earliestHall_1 5 rfl rfl)
theorem dX1_earliestHall_30 : decode cX1_earliestHall 30 = .ok (.iconst 0, 1) := dk_3 (dk_at dksX1_earliestHall_1 6 rfl rfl)
theorem dX1_earliestHall_31 : decode cX1_earliestHall 31 = .ok (.istore_n 3, 1) := dk_62 (dk_at dksX1_earliestHall_1 7 rfl rfl)
theorem dX1_earliestHall_32 : decode cX1_earliestHall 32 = .ok (.iconst 0, 1) := dk_3 (dk_at dksX1_earliestHall_1 8 rfl rfl)
theorem dX1_earliestHall_33 : decode cX1_earliestHall 33 = .ok (.istore 4, 2) := dk_54 4 (dk_at dksX1_earliestHall_1 9 rfl rfl)
theorem dX1_earliestHall_35 : decode cX1_earliestHall 35 = .ok (.iload 4, 2) := dk_21 4 (dk_at dksX1_earliestHall_1 11 rfl rfl)
theorem dX1_earliestHall_37 : decode cX1_earliestHall 37 = .ok (.aload_n 0, 1) := dk_42 (dk_at dksX1_earliestHall_1 13 rfl rfl)
theorem dX1_earliestHall_38 : decode cX1_earliestHall 38 = .ok (.getfield 16, 3) := dk_180 0 16 (dk_at dksX1_earliestHall_1 14 rfl rfl)
theorem dX1_earliestHall_41 : decode cX1_earliestHall 41 = .ok (.getfield 132, 3) := dk_180 0 132 (dk_at dksX1_earliestHall_1 17 rfl rfl)
theorem dX1_earliestHall_44 : decode cX1_earliestHall 44 = .ok (.invokeinterface 136 1, 5) := by decide +kernel
theorem dX1_earliestHall_49 : decode cX1_earliestHall 49 = .ok (.if_icmp .ge 41, 3) := dk_162 0 41 (dk_at dksX1_earliestHall_2 5 rfl rfl)
theorem dX1_earliestHall_52 : decode cX1_earliestHall 52 = .ok (.aload_n 0, 1) := dk_42 (dk_at dksX1_earliestHall_2 8 rfl rfl)
theorem dX1_earliestHall_53 : decode cX1_earliestHall 53 = .ok (.iload 4, 2) := dk_21 4 (dk_at dksX1_earliestHall_2 9 rfl rfl)
theorem dX1_earliestHall_55 : decode cX1_earliestHall 55 = .ok (.iload_n 1, 1) := dk_27 (dk_at dksX1_earliestHall_2 11 rfl rfl)
theorem dX1_earliestHall_56 : decode cX1_earliestHall 56 = .ok (.invokevirtual 446, 3) := dk_182 1 190 (dk_at dksX1_earliestHall_2 12 rfl rfl)
theorem dX1_earliestHall_59 : decode cX1_earliestHall 59 = .ok (.istore 5, 2) := dk_54 5 (dk_at dksX1_earliestHall_2 15 rfl rfl)
theorem dX1_earliestHall_61 : decode cX1_earliestHall 61 = .ok (.iload 5, 2) := dk_21 5 (dk_at dksX1_earliestHall_2 17 rfl rfl)
theorem dX1_earliestHall_63 : decode cX1_earliestHall 63 = .ok (.iconst (-1), 1) := dk_2 (dk_at dksX1_earliestHall_2 19 rfl rfl)
theorem dX1_earliestHall_64 : decode cX1_earliestHall 64 = .ok (.if_icmp .eq 20, 3) := dk_159 0 20 (dk_at dksX1_earliestHall_2 20 rfl rfl)
theorem dX1_earliestHall_67 : decode cX1_earliestHall 67 = .ok (.iload_n 2, 1) := dk_28 (dk_at dksX1_earliestHall_2 23 rfl rfl)
theorem dX1_earliestHall_68 : decode cX1_earliestHall 68 = .ok (.iconst (-1), 1) := dk_2 (dk_at dksX1_earliestHall_3 0 rfl rfl)
theorem dX1_earliestHall_69 : decode cX1_earliestHall 69 = .ok (.if_icmp .eq 9, 3) := dk_159 0 9 (dk_at dksX1_earliestHall_3 1 rfl rfl)
theorem dX1_earliestHall_72 : decode cX1_earliestHall 72 = .ok (.iload 5, 2) := dk_21 5 (dk_at dksX1_earliestHall_3 4 rfl rfl)
theorem dX1_earliestHall_74 : decode cX1_earliestHall 74 = .ok (.iload_n 3, 1) := dk_29 (dk_at dksX1_earliestHall_3 6 rfl rfl)
theorem dX1_earliestHall_75 : decode cX1_earliestHall 75 = .ok (.if_icmp .ge 9, 3) := dk_162 0 9 (dk_at dksX1_earliestHall_3 7 rfl rfl)
theorem dX1_earliestHall_78 : decode cX1_earliestHall 78 = .ok (.iload 4, 2) := dk_21 4 (dk_at dksX1_earliestHall_3 10 rfl rfl)
theorem dX1_earliestHall_80 : decode cX1_earliestHall 80 = .ok (.istore_n 2, 1) := dk_61 (dk_at dksX1_earliestHall_3 12 rfl rfl)
theorem dX1_earliestHall_81 : decode cX1_earliestHall 81 = .ok (.iload 5, 2) := dk_21 5 (dk_at dksX1_earliestHall_3 13 rfl rfl)
theorem dX1_earliestHall_83 : decode cX1_earliestHall 83 = .ok (.istore_n 3, 1) := dk_62 (dk_at dksX1_earliestHall_3 15 rfl rfl)
theorem dX1_earliestHall_84 : decode cX1_earliestHall 84 = .ok (.iinc 4 1, 3) := dk_132 4 1 (dk_at dksX1_earliestHall_3 16 rfl rfl)
theorem dX1_earliestHall_87 : decode cX1_earliestHall 87 = .ok (.goto (-52), 3) := dk_167 255 204 (dk_at dksX1_earliestHall_3 19 rfl rfl)
theorem dX1_earliestHall_90 : decode cX1_earliestHall 90 = .ok (.iload_n 2, 1) := dk_28 (dk_at dksX1_earliestHall_3 22 rfl rfl)
theorem dX1_earliestHall_91 : decode cX1_earliestHall 91 = .ok (.iconst (-1), 1) := dk_2 (dk_at dksX1_earliestHall_3 23 rfl rfl)
theorem dX1_earliestHall_92 : decode cX1_earliestHall 92 = .ok (.if_icmp .eq 7, 3) := dk_159 0 7 (dk_at dksX1_earliestHall_4 0 rfl rfl)
theorem dX1_earliestHall_95 : decode cX1_earliestHall 95 = .ok (.iconst 1, 1) := dk_4 (dk_at dksX1_earliestHall_4 3 rfl rfl)
theorem dX1_earliestHall_96 : decode cX1_earliestHall 96 = .ok (.goto 4, 3) := dk_167 0 4 (dk_at dksX1_earliestHall_4 4 rfl rfl)
theorem dX1_earliestHall_99 : decode cX1_earliestHall 99 = .ok (.iconst 0, 1) := dk_3 (dk_at dksX1_earliestHall_4 7 rfl rfl)
theorem dX1_earliestHall_100 : decode cX1_earliestHall 100 = .ok (.invokestatic 338, 3) := dk_184 1 82 (dk_at dksX1_earliestHall_4 8 rfl rfl)
theorem dX1_earliestHall_103 : decode cX1_earliestHall 103 = .ok (.iload_n 2, 1) := dk_28 (dk_at dksX1_earliestHall_4 11 rfl rfl)
theorem dX1_earliestHall_104 : decode cX1_earliestHall 104 = .ok (.ireturn, 1) := dk_172 (dk_at dksX1_earliestHall_4 12 rfl rfl)
abbrev cX1_conflicts : ByteArray := prog_1_method_76_code
def yX1_conflicts : MethodName := ⟨RX1, "conflicts", "(II)J"⟩
def dkwX1_conflicts_4 : List UInt8 := [9, 129, 66, 132, 5, 1, 167, 255, 186, 33, 173]
abbrev dktX1_conflicts_4 : List UInt8 := dkwX1_conflicts_4 ++ []
def dkwX1_conflicts_3 : List UInt8 := [160, 0, 24, 42, 25, 6, 42, 180, 0, 32, 28, 182, 0, 215, 153, 0, 10, 10, 21, 5, 121, 167, 0, 4]
abbrev dktX1_conflicts_3 : List UInt8 := dkwX1_conflicts_3 ++ dktX1_conflicts_4
def dkwX1_conflicts_2 : List UInt8 := [21, 5, 182, 0, 204, 58, 6, 33, 25, 6, 180, 1, 36, 153, 0, 33, 25, 6, 180, 0, 212, 27]
abbrev dktX1_conflicts_2 : List UInt8 := dkwX1_conflicts_2 ++ dktX1_conflicts_3
def dkwX1_conflicts_1 : List UInt8 := [9, 66, 3, 54, 5, 21, 5, 42, 180, 0, 25, 180, 0, 160, 185, 0, 136, 1, 0, 162, 0, 59, 42]
abbrev dktX1_conflicts_1 : List UInt8 := dkwX1_conflicts_1 ++ dktX1_conflicts_2
def dkwX1_conflicts_0 : List UInt8 := [42, 27, 28, 182, 1, 109, 42, 180, 0, 16, 180, 0, 154, 158, 0, 7, 4, 167, 0, 4, 3, 184, 0, 94]
abbrev dktX1_conflicts_0 : List UInt8 := dkwX1_conflicts_0 ++ dktX1_conflicts_1
theorem dksX1_conflicts_0 : cX1_conflicts.data.toList.drop 0 = dktX1_conflicts_0 := by decide +kernel
theorem dksX1_conflicts_1 : cX1_conflicts.data.toList.drop 24 = dktX1_conflicts_1 := dk_seg dksX1_conflicts_0 24 rfl rfl
theorem dksX1_conflicts_2 : cX1_conflicts.data.toList.drop 47 = dktX1_conflicts_2 := dk_seg dksX1_conflicts_1 23 rfl rfl
theorem dksX1_conflicts_3 : cX1_conflicts.data.toList.drop 69 = dktX1_conflicts_3 := dk_seg dksX1_conflicts_2 22 rfl rfl
theorem dksX1_conflicts_4 : cX1_conflicts.data.toList.drop 93 = dktX1_conflicts_4 := dk_seg dksX1_conflicts_3 24 rfl rfl
theorem dX1_conflicts_0 : decode cX1_conflicts 0 = .ok (.aload_n 0, 1) := dk_42 (dk_at dksX1_conflicts_0 0 rfl rfl)
theorem dX1_conflicts_1 : decode cX1_conflicts 1 = .ok (.iload_n 1, 1) := dk_27 (dk_at dksX1_conflicts_0 1 rfl rfl)
theorem dX1_conflicts_2 : decode cX1_conflicts 2 = .ok (.iload_n 2, 1) := dk_28 (dk_at dksX1_conflicts_0 2 rfl rfl)
theorem dX1_conflicts_3 : decode cX1_conflicts 3 = .ok (.invokevirtual 365, 3) := dk_182 1 109 (dk_at dksX1_conflicts_0 3 rfl rfl)
theorem dX1_conflicts_6 : decode cX1_conflicts 6 = .ok (.aload_n 0, 1) := dk_42 (dk_at dksX1_conflicts_0 6 rfl rfl)
theorem dX1_conflicts_7 : decode cX1_conflicts 7 = .ok (.getfield 16, 3) := dk_180 0 16 (dk_at dksX1_conflicts_0 7 rfl rfl)
theorem dX1_conflicts_10 : decode cX1_conflicts 10 = .ok (.getfield 154, 3) := dk_180 0 154 (dk_at dksX1_conflicts_0 10 rfl rfl)
theorem dX1_conflicts_13 : decode cX1_conflicts 13 = .ok (.ifCond .le 7, 3) := dk_158 0 7 (dk_at dksX1_conflicts_0 13 rfl rfl)
theorem dX1_conflicts_16 : decode cX1_conflicts 16 = .ok (.iconst 1, 1) := dk_4 (dk_at dksX1_conflicts_0 16 rfl rfl)
theorem dX1_conflicts_17 : decode cX1_conflicts 17 = .ok (.goto 4, 3) := dk_167 0 4 (dk_at dksX1_conflicts_0 17 rfl rfl)
theorem dX1_conflicts_20 : decode cX1_conflicts 20 = .ok (.iconst 0, 1) := dk_3 (dk_at dksX1_conflicts_0 20 rfl rfl)
theorem dX1_conflicts_21 : decode cX1_conflicts 21 = .ok (.invokestatic 94, 3) := dk_184 0 94 (dk_at dksX1_conflicts_0 21 rfl rfl)
theorem dX1_conflicts_24 : decode cX1_conflicts 24 = .ok (.lconst 0, 1) := dk_9 (dk_at dksX1_conflicts_1 0 rfl rfl)
theorem dX1_conflicts_25 : decode cX1_conflicts 25 = .ok (.lstore_n 3, 1) := dk_66 (dk_at dksX1_conflicts_1 1 rfl rfl)
theorem dX1_conflicts_26 : decode cX1_conflicts 26 = .ok (.iconst 0, 1) := dk_3 (dk_at dksX1_conflicts_1 2 rfl rfl)
theorem dX1_conflicts_27 : decode cX1_conflicts 27 = .ok (.istore 5, 2) := dk_54 5 (dk_at dksX1_conflicts_1 3 rfl rfl)
theorem dX1_conflicts_29 : decode cX1_conflicts 29 = .ok (.iload 5, 2) := dk_21 5 (dk_at dksX1_conflicts_1 5 rfl rfl)
theorem dX1_conflicts_31 : decode cX1_conflicts 31 = .ok (.aload_n 0, 1) := dk_42 (dk_at dksX1_conflicts_1 7 rfl rfl)
theorem dX1_conflicts_32 : decode cX1_conflicts 32 = .ok (.getfield 25, 3) := dk_180 0 25 (dk_at dksX1_conflicts_1 8 rfl rfl)
theorem dX1_conflicts_35 : decode cX1_conflicts 35 = .ok (.getfield 160, 3) := dk_180 0 160 (dk_at dksX1_conflicts_1 11 rfl rfl)
theorem dX1_conflicts_38 : decode cX1_conflicts 38 = .ok (.invokeinterface 136 1, 5) := by decide +kernel
theorem dX1_conflicts_43 : decode cX1_conflicts 43 = .ok (.if_icmp .ge 59, 3) := dk_162 0 59 (dk_at dksX1_conflicts_1 19 rfl rfl)
theorem dX1_conflicts_46 : decode cX1_conflicts 46 = .ok (.aload_n 0, 1) := dk_42 (dk_at dksX1_conflicts_1 22 rfl rfl)
theorem dX1_conflicts_47 : decode cX1_conflicts 47 = .ok (.iload 5, 2) := dk_21 5 (dk_at dksX1_conflicts_2 0 rfl rfl)
theorem dX1_conflicts_49 : decode cX1_conflicts 49 = .ok (.invokevirtual 204, 3) := dk_182 0 204 (dk_at dksX1_conflicts_2 2 rfl rfl)
theorem dX1_conflicts_52 : decode cX1_conflicts 52 = .ok (.astore 6, 2) := dk_58 6 (dk_at dksX1_conflicts_2 5 rfl rfl)
theorem dX1_conflicts_54 : decode cX1_conflicts 54 = .ok (.lload_n 3, 1) := dk_33 (dk_at dksX1_conflicts_2 7 rfl rfl)
theorem dX1_conflicts_55 : decode cX1_conflicts 55 = .ok (.aload 6, 2) := dk_25 6 (dk_at dksX1_conflicts_2 8 rfl rfl)
theorem dX1_conflicts_57 : decode cX1_conflicts 57 = .ok (.getfield 292, 3) := dk_180 1 36 (dk_at dksX1_conflicts_2 10 rfl rfl)
theorem dX1_conflicts_60 : decode cX1_conflicts 60 = .ok (.ifCond .eq 33, 3) := dk_153 0 33 (dk_at dksX1_conflicts_2 13 rfl rfl)
theorem dX1_conflicts_63 : decode cX1_conflicts 63 = .ok (.aload 6, 2) := dk_25 6 (dk_at dksX1_conflicts_2 16 rfl rfl)
theorem dX1_conflicts_65 : decode cX1_conflicts 65 = .ok (.getfield 212, 3) := dk_180 0 212 (dk_at dksX1_conflicts_2 18 rfl rfl)
theorem dX1_conflicts_68 : decode cX1_conflicts 68 = .ok (.iload_n 1, 1) := dk_27 (dk_at dksX1_conflicts_2 21 rfl rfl)
theorem dX1_conflicts_69 : decode cX1_conflicts 69 = .ok (.if_icmp .ne 24, 3) := dk_160 0 24 (dk_at dksX1_conflicts_3 0 rfl rfl)
theorem dX1_conflicts_72 : decode cX1_conflicts 72 = .ok (.aload_n 0, 1) := dk_42 (dk_at dksX1_conflicts_3 3 rfl rfl)
theorem dX1_conflicts_73 : decode cX1_conflicts 73 = .ok (.aload 6, 2) := dk_25 6 (dk_at dksX1_conflicts_3 4 rfl rfl)
theorem dX1_conflicts_75 : decode cX1_conflicts 75 = .ok (.aload_n 0, 1) := dk_42 (dk_at dksX1_conflicts_3 6 rfl rfl)
theorem dX1_conflicts_76 : decode cX1_conflicts 76 = .ok (.getfield 32, 3) := dk_180 0 32 (dk_at dksX1_conflicts_3 7 rfl rfl)
theorem dX1_conflicts_79 : decode cX1_conflicts 79 = .ok (.iload_n 2, 1) := dk_28 (dk_at dksX1_conflicts_3 10 rfl rfl)
theorem dX1_conflicts_80 : decode cX1_conflicts 80 = .ok (.invokevirtual 215, 3) := dk_182 0 215 (dk_at dksX1_conflicts_3 11 rfl rfl)
theorem dX1_conflicts_83 : decode cX1_conflicts 83 = .ok (.ifCond .eq 10, 3) := dk_153 0 10 (dk_at dksX1_conflicts_3 14 rfl rfl)
theorem dX1_conflicts_86 : decode cX1_conflicts 86 = .ok (.lconst 1, 1) := dk_10 (dk_at dksX1_conflicts_3 17 rfl rfl)
theorem dX1_conflicts_87 : decode cX1_conflicts 87 = .ok (.iload 5, 2) := dk_21 5 (dk_at dksX1_conflicts_3 18 rfl rfl)
theorem dX1_conflicts_89 : decode cX1_conflicts 89 = .ok (.lshl, 1) := dk_121 (dk_at dksX1_conflicts_3 20 rfl rfl)
theorem dX1_conflicts_90 : decode cX1_conflicts 90 = .ok (.goto 4, 3) := dk_167 0 4 (dk_at dksX1_conflicts_3 21 rfl rfl)
theorem dX1_conflicts_93 : decode cX1_conflicts 93 = .ok (.lconst 0, 1) := dk_9 (dk_at dksX1_conflicts_4 0 rfl rfl)
theorem dX1_conflicts_94 : decode cX1_conflicts 94 = .ok (.lor, 1) := dk_129 (dk_at dksX1_conflicts_4 1 rfl rfl)
theorem dX1_conflicts_95 : decode cX1_conflicts 95 = .ok (.lstore_n 3, 1) := dk_66 (dk_at dksX1_conflicts_4 2 rfl rfl)
theorem dX1_conflicts_96 : decode cX1_conflicts 96 = .ok (.iinc 5 1, 3) := dk_132 5 1 (dk_at dksX1_conflicts_4 3 rfl rfl)
theorem dX1_conflicts_99 : decode cX1_conflicts 99 = .ok (.goto (-70), 3) := dk_167 255 186 (dk_at dksX1_conflicts_4 6 rfl rfl)
theorem dX1_conflicts_102 : decode cX1_conflicts 102 = .ok (.lload_n 3, 1) := dk_33 (dk_at dksX1_conflicts_4 9 rfl rfl)
theorem dX1_conflicts_103 : decode cX1_conflicts 103 = .ok (.lreturn, 1) := dk_173 (dk_at dksX1_conflicts_4 10 rfl rfl)
abbrev cX1_moveProblem : ByteArray := prog_1_method_53_code
def yX1_moveProblem : MethodName := ⟨RX1, "moveProblem", "(III)I"⟩
def dkwX1_moveProblem_1 : List UInt8 := [28, 29, 182, 1, 156, 172]
abbrev dktX1_moveProblem_1 : List UInt8 := dkwX1_moveProblem_1 ++ []
def dkwX1_moveProblem_0 : List UInt8 := [42, 27, 28, 29, 182, 1, 71, 42, 27, 182, 0, 204, 180, 1, 36, 184, 0, 94, 42, 42, 27, 182, 0, 204]
abbrev dktX1_moveProblem_0 : List UInt8 := dkwX1_moveProblem_0 ++ dktX1_moveProblem_1
theorem dksX1_moveProblem_0 : cX1_moveProblem.data.toList.drop 0 = dktX1_moveProblem_0 := by decide +kernel
theorem dksX1_moveProblem_1 : cX1_moveProblem.data.toList.drop 24 = dktX1_moveProblem_1 := dk_seg dksX1_moveProblem_0 24 rfl rfl
theorem dX1_moveProblem_0 : decode cX1_moveProblem 0 = .ok (.aload_n 0, 1) := dk_42 (dk_at dksX1_moveProblem_0 0 rfl rfl)
theorem dX1_moveProblem_1 : decode cX1_moveProblem 1 = .ok (.iload_n 1, 1) := dk_27 (dk_at dksX1_moveProblem_0 1 rfl rfl)
theorem dX1_moveProblem_2 : decode cX1_moveProblem 2 = .ok (.iload_n 2, 1) := dk_28 (dk_at dksX1_moveProblem_0 2 rfl rfl)
theorem dX1_moveProblem_3 : decode cX1_moveProblem 3 = .ok (.iload_n 3, 1) := dk_29 (dk_at dksX1_moveProblem_0 3 rfl rfl)
theorem dX1_moveProblem_4 : decode cX1_moveProblem 4 = .ok (.invokevirtual 327, 3) := dk_182 1 71 (dk_at dksX1_moveProblem_0 4 rfl rfl)
theorem dX1_moveProblem_7 : decode cX1_moveProblem 7 = .ok (.aload_n 0, 1) := dk_42 (dk_at dksX1_moveProblem_0 7 rfl rfl)
theorem dX1_moveProblem_8 : decode cX1_moveProblem 8 = .ok (.iload_n 1, 1) := dk_27 (dk_at dksX1_moveProblem_0 8 rfl rfl)
theorem dX1_moveProblem_9 : decode cX1_moveProblem 9 = .ok (.invokevirtual 204, 3) := dk_182 0 204 (dk_at dksX1_moveProblem_0 9 rfl rfl)
theorem dX1_moveProblem_12 : decode cX1_moveProblem 12 = .ok (.getfield 292, 3) := dk_180 1 36 (dk_at dksX1_moveProblem_0 12 rfl rfl)
theorem dX1_moveProblem_15 : decode cX1_moveProblem 15 = .ok (.invokestatic 94, 3) := dk_184 0 94 (dk_at dksX1_moveProblem_0 15 rfl rfl)
theorem dX1_moveProblem_18 : decode cX1_moveProblem 18 = .ok (.aload_n 0, 1) := dk_42 (dk_at dksX1_moveProblem_0 18 rfl rfl)
theorem dX1_moveProblem_19 : decode cX1_moveProblem 19 = .ok (.aload_n 0, 1) := dk_42 (dk_at dksX1_moveProblem_0 19 rfl rfl)
theorem dX1_moveProblem_20 : decode cX1_moveProblem 20 = .ok (.iload_n 1, 1) := dk_27 (dk_at dksX1_moveProblem_0 20 rfl rfl)
theorem dX1_moveProblem_21 : decode cX1_moveProblem 21 = .ok (.invokevirtual 204, 3) := dk_182 0 204 (dk_at dksX1_moveProblem_0 21 rfl rfl)
theorem dX1_moveProblem_24 : decode cX1_moveProblem 24 = .ok (.iload_n 2, 1) := dk_28 (dk_at dksX1_moveProblem_1 0 rfl rfl)
theorem dX1_moveProblem_25 : decode cX1_moveProblem 25 = .ok (.iload_n 3, 1) := dk_29 (dk_at dksX1_moveProblem_1 1 rfl rfl)
theorem dX1_moveProblem_26 : decode cX1_moveProblem 26 = .ok (.invokevirtual 412, 3) := dk_182 1 156 (dk_at dksX1_moveProblem_1 2 rfl rfl)
theorem dX1_moveProblem_29 : decode cX1_moveProblem 29 = .ok (.ireturn, 1) := dk_172 (dk_at dksX1_moveProblem_1 5 rfl rfl)
abbrev cX1_chain : ByteArray := prog_1_method_40_code
def yX1_chain : MethodName := ⟨RX1, "chain", "(IIII)I"⟩
def dkwX1_chain_4 : List UInt8 := [172]
abbrev dktX1_chain_4 : List UInt8 := dkwX1_chain_4 ++ []
def dkwX1_chain_3 : List UInt8 := [167, 0, 24, 42, 180, 0, 25, 180, 0, 160, 42, 180, 0, 64, 21, 4, 4, 100, 50, 185, 1, 85, 2, 0]
abbrev dktX1_chain_3 : List UInt8 := dkwX1_chain_3 ++ dktX1_chain_4
def dkwX1_chain_2 : List UInt8 := [4, 167, 0, 4, 3, 184, 1, 82, 21, 4, 154, 0, 6, 21, 5, 172, 21, 4, 21, 5, 164, 0, 7, 2]
abbrev dktX1_chain_2 : List UInt8 := dkwX1_chain_2 ++ dktX1_chain_3
def dkwX1_chain_1 : List UInt8 := [180, 1, 36, 184, 0, 94, 42, 42, 27, 182, 0, 204, 28, 29, 182, 1, 75, 54, 5, 21, 5, 158, 0, 7]
abbrev dktX1_chain_1 : List UInt8 := dkwX1_chain_1 ++ dktX1_chain_2
def dkwX1_chain_0 : List UInt8 := [42, 27, 28, 29, 182, 1, 71, 21, 4, 3, 6, 184, 0, 98, 184, 0, 102, 42, 27, 182, 0, 204]
abbrev dktX1_chain_0 : List UInt8 := dkwX1_chain_0 ++ dktX1_chain_1
theorem dksX1_chain_0 : cX1_chain.data.toList.drop 0 = dktX1_chain_0 := by decide +kernel
theorem dksX1_chain_1 : cX1_chain.data.toList.drop 22 = dktX1_chain_1 := dk_seg dksX1_chain_0 22 rfl rfl
theorem dksX1_chain_2 : cX1_chain.data.toList.drop 46 = dktX1_chain_2 := dk_seg dksX1_chain_1 24 rfl rfl
theorem dksX1_chain_3 : cX1_chain.data.toList.drop 70 = dktX1_chain_3 := dk_seg dksX1_chain_2 24 rfl rfl
theorem dksX1_chain_4 : cX1_chain.data.toList.drop 94 = dktX1_chain_4 := dk_seg dksX1_chain_3 24 rfl rfl
theorem dX1_chain_0 : decode cX1_chain 0 = .ok (.aload_n 0, 1) := dk_42 (dk_at dksX1_chain_0 0 rfl rfl)
theorem dX1_chain_1 : decode cX1_chain 1 = .ok (.iload_n 1, 1) := dk_27 (dk_at dksX1_chain_0 1 rfl rfl)
theorem dX1_chain_2 : decode cX1_chain 2 = .ok (.iload_n 2, 1) := dk_28 (dk_at dksX1_chain_0 2 rfl rfl)
theorem dX1_chain_3 : decode cX1_chain 3 = .ok (.iload_n 3, 1) := dk_29 (dk_at dksX1_chain_0 3 rfl rfl)
theorem dX1_chain_4 : decode cX1_chain 4 = .ok (.invokevirtual 327, 3) := dk_182 1 71 (dk_at dksX1_chain_0 4 rfl rfl)
theorem dX1_chain_7 : decode cX1_chain 7 = .ok (.iload 4, 2) := dk_21 4 (dk_at dksX1_chain_0 7 rfl rfl)
theorem dX1_chain_9 : decode cX1_chain 9 = .ok (.iconst 0, 1) := dk_3 (dk_at dksX1_chain_0 9 rfl rfl)
theorem dX1_chain_10 : decode cX1_chain 10 = .ok (.iconst 3, 1) := dk_6 (dk_at dksX1_chain_0 10 rfl rfl)
theorem dX1_chain_11 : decode cX1_chain 11 = .ok (.invokestatic 98, 3) := dk_184 0 98 (dk_at dksX1_chain_0 11 rfl rfl)
theorem dX1_chain_14 : decode cX1_chain 14 = .ok (.invokestatic 102, 3) := dk_184 0 102 (dk_at dksX1_chain_0 14 rfl rfl)
theorem dX1_chain_17 : decode cX1_chain 17 = .ok (.aload_n 0, 1) := dk_42 (dk_at dksX1_chain_0 17 rfl rfl)
theorem dX1_chain_18 : decode cX1_chain 18 = .ok (.iload_n 1, 1) := dk_27 (dk_at dksX1_chain_0 18 rfl rfl)
theorem dX1_chain_19 : decode cX1_chain 19 = .ok (.invokevirtual 204, 3) := dk_182 0 204 (dk_at dksX1_chain_0 19 rfl rfl)
theorem dX1_chain_22 : decode cX1_chain 22 = .ok (.getfield 292, 3) := dk_180 1 36 (dk_at dksX1_chain_1 0 rfl rfl)
theorem dX1_chain_25 : decode cX1_chain 25 = .ok (.invokestatic 94, 3) := dk_184 0 94 (dk_at dksX1_chain_1 3 rfl rfl)
theorem dX1_chain_28 : decode cX1_chain 28 = .ok (.aload_n 0, 1) := dk_42 (dk_at dksX1_chain_1 6 rfl rfl)
theorem dX1_chain_29 : decode cX1_chain 29 = .ok (.aload_n 0, 1) := dk_42 (dk_at dksX1_chain_1 7 rfl rfl)
theorem dX1_chain_30 : decode cX1_chain 30 = .ok (.iload_n 1, 1) := dk_27 (dk_at dksX1_chain_1 8 rfl rfl)
theorem dX1_chain_31 : decode cX1_chain 31 = .ok (.invokevirtual 204, 3) := dk_182 0 204 (dk_at dksX1_chain_1 9 rfl rfl)
theorem dX1_chain_34 : decode cX1_chain 34 = .ok (.iload_n 2, 1) := dk_28 (dk_at dksX1_chain_1 12 rfl rfl)
theorem dX1_chain_35 : decode cX1_chain 35 = .ok (.iload_n 3, 1) := dk_29 (dk_at dksX1_chain_1 13 rfl rfl)
theorem dX1_chain_36 : decode cX1_chain 36 = .ok (.invokevirtual 331, 3) := dk_182 1 75 (dk_at dksX1_chain_1 14 rfl rfl)
theorem dX1_chain_39 : decode cX1_chain 39 = .ok (.istore 5, 2) := dk_54 5 (dk_at dksX1_chain_1 17 rfl rfl)
theorem dX1_chain_41 : decode cX1_chain 41 = .ok (.iload 5, 2) := dk_21 5 (dk_at dksX1_chain_1 19 rfl rfl)
theorem dX1_chain_43 : decode cX1_chain 43 = .ok (.ifCond .le 7, 3) := dk_158 0 7 (dk_at dksX1_chain_1 21 rfl rfl)
theorem dX1_chain_46 : decode cX1_chain 46 = .ok (.iconst 1, 1) := dk_4 (dk_at dksX1_chain_2 0 rfl rfl)
theorem dX1_chain_47 : decode cX1_chain 47 = .ok (.goto 4, 3) := dk_167 0 4 (dk_at dksX1_chain_2 1 rfl rfl)
theorem dX1_chain_50 : decode cX1_chain 50 = .ok (.iconst 0, 1) := dk_3 (dk_at dksX1_chain_2 4 rfl rfl)
theorem dX1_chain_51 : decode cX1_chain 51 = .ok (.invokestatic 338, 3) := dk_184 1 82 (dk_at dksX1_chain_2 5 rfl rfl)
theorem dX1_chain_54 : decode cX1_chain 54 = .ok (.iload 4, 2) := dk_21 4 (dk_at dksX1_chain_2 8 rfl rfl)
theorem dX1_chain_56 : decode cX1_chain 56 = .ok (.ifCond .ne 6, 3) := dk_154 0 6 (dk_at dksX1_chain_2 10 rfl rfl)
theorem dX1_chain_59 : decode cX1_chain 59 = .ok (.iload 5, 2) := dk_21 5 (dk_at dksX1_chain_2 13 rfl rfl)
theorem dX1_chain_61 : decode cX1_chain 61 = .ok (.ireturn, 1) := dk_172 (dk_at dksX1_chain_2 15 rfl rfl)
theorem dX1_chain_62 : decode cX1_chain 62 = .ok (.iload 4, 2) := dk_21 4 (dk_at dksX1_chain_2 16 rfl rfl)
theorem dX1_chain_64 : decode cX1_chain 64 = .ok (.iload 5, 2) := dk_21 5 (dk_at dksX1_chain_2 18 rfl rfl)
theorem dX1_chain_66 : decode cX1_chain 66 = .ok (.if_icmp .le 7, 3) := dk_164 0 7 (dk_at dksX1_chain_2 20 rfl rfl)
theorem dX1_chain_69 : decode cX1_chain 69 = .ok (.iconst (-1), 1) := dk_2 (dk_at dksX1_chain_2 23 rfl rfl)
theorem dX1_chain_70 : decode cX1_chain 70 = .ok (.goto 24, 3) := dk_167 0 24 (dk_at dksX1_chain_3 0 rfl rfl)
theorem dX1_chain_73 : decode cX1_chain 73 = .ok (.aload_n 0, 1) := dk_42 (dk_at dksX1_chain_3 3 rfl rfl)
theorem dX1_chain_74 : decode cX1_chain 74 = .ok (.getfield 25, 3) := dk_180 0 25 (dk_at dksX1_chain_3 4 rfl rfl)
theorem dX1_chain_77 : decode cX1_chain 77 = .ok (.getfield 160, 3) := dk_180 0 160 (dk_at dksX1_chain_3 7 rfl rfl)
theorem dX1_chain_80 : decode cX1_chain 80 = .ok (.aload_n 0, 1) := dk_42 (dk_at dksX1_chain_3 10 rfl rfl)
theorem dX1_chain_81 : decode cX1_chain 81 = .ok (.getfield 64, 3) := dk_180 0 64 (dk_at dksX1_chain_3 11 rfl rfl)
theorem dX1_chain_84 : decode cX1_chain 84 = .ok (.iload 4, 2) := dk_21 4 (dk_at dksX1_chain_3 14 rfl rfl)
theorem dX1_chain_86 : decode cX1_chain 86 = .ok (.iconst 1, 1) := dk_4 (dk_at dksX1_chain_3 16 rfl rfl)
theorem dX1_chain_87 : decode cX1_chain 87 = .ok (.isub, 1) := dk_100 (dk_at dksX1_chain_3 17 rfl rfl)
theorem dX1_chain_88 : decode cX1_chain 88 = .ok (.aaload, 1) := dk_50 (dk_at dksX1_chain_3 18 rfl rfl)
theorem dX1_chain_89 : decode cX1_chain 89 = .ok (.invokeinterface 341 2, 5) := by decide +kernel
theorem dX1_chain_94 : decode cX1_chain 94 = .ok (.ireturn, 1) := dk_172 (dk_at dksX1_chain_4 0 rfl rfl)
abbrev cX1_swapProblem : ByteArray := prog_1_method_34_code
def yX1_swapProblem : MethodName := ⟨RX1, "swapProblem", "(II)I"⟩
def dkwX1_swapProblem_7 : List UInt8 := [21, 8, 182, 1, 12, 3, 172]
abbrev dktX1_swapProblem_7 : List UInt8 := dkwX1_swapProblem_7 ++ []
def dkwX1_swapProblem_6 : List UInt8 := [180, 1, 54, 167, 0, 4, 3, 96, 172, 42, 45, 21, 5, 21, 6, 182, 1, 12, 42, 25, 4, 21, 7]
abbrev dktX1_swapProblem_6 : List UInt8 := dkwX1_swapProblem_6 ++ dktX1_swapProblem_7
def dkwX1_swapProblem_5 : List UInt8 := [182, 1, 50, 58, 10, 25, 9, 180, 1, 54, 25, 10, 193, 1, 7, 153, 0, 14, 25, 10, 192, 1, 7]
abbrev dktX1_swapProblem_5 : List UInt8 := dkwX1_swapProblem_5 ++ dktX1_swapProblem_6
def dkwX1_swapProblem_4 : List UInt8 := [180, 0, 201, 54, 8, 42, 45, 25, 4, 182, 1, 39, 167, 0, 43, 58, 9, 4, 172, 58, 9, 25, 9]
abbrev dktX1_swapProblem_4 : List UInt8 := dkwX1_swapProblem_4 ++ dktX1_swapProblem_5
def dkwX1_swapProblem_3 : List UInt8 := [184, 0, 94, 45, 180, 0, 212, 54, 5, 45, 180, 0, 201, 54, 6, 25, 4, 180, 0, 212, 54, 7, 25, 4]
abbrev dktX1_swapProblem_3 : List UInt8 := dkwX1_swapProblem_3 ++ dktX1_swapProblem_4
def dkwX1_swapProblem_2 : List UInt8 := [58, 4, 45, 180, 1, 36, 153, 0, 15, 25, 4, 180, 1, 36, 153, 0, 7, 4, 167, 0, 4, 3]
abbrev dktX1_swapProblem_2 : List UInt8 := dkwX1_swapProblem_2 ++ dktX1_swapProblem_3
def dkwX1_swapProblem_1 : List UInt8 := [27, 28, 159, 0, 7, 4, 167, 0, 4, 3, 184, 0, 102, 42, 27, 182, 0, 204, 78, 42, 28, 182, 0, 204]
abbrev dktX1_swapProblem_1 : List UInt8 := dkwX1_swapProblem_1 ++ dktX1_swapProblem_2
def dkwX1_swapProblem_0 : List UInt8 := [42, 27, 182, 1, 29, 153, 0, 15, 42, 28, 182, 1, 29, 153, 0, 7, 4, 167, 0, 4, 3, 184, 1, 33]
abbrev dktX1_swapProblem_0 : List UInt8 := dkwX1_swapProblem_0 ++ dktX1_swapProblem_1
theorem dksX1_swapProblem_0 : cX1_swapProblem.data.toList.drop 0 = dktX1_swapProblem_0 := by decide +kernel
theorem dksX1_swapProblem_1 : cX1_swapProblem.data.toList.drop 24 = dktX1_swapProblem_1 := dk_seg dksX1_swapProblem_0 24 rfl rfl
theorem dksX1_swapProblem_2 : cX1_swapProblem.data.toList.drop 48 = dktX1_swapProblem_2 := dk_seg dksX1_swapProblem_1 24 rfl rfl
theorem dksX1_swapProblem_3 : cX1_swapProblem.data.toList.drop 70 = dktX1_swapProblem_3 := dk_seg dksX1_swapProblem_2 22 rfl rfl
theorem dksX1_swapProblem_4 : cX1_swapProblem.data.toList.drop 94 = dktX1_swapProblem_4 := dk_seg dksX1_swapProblem_3 24 rfl rfl
theorem dksX1_swapProblem_5 : cX1_swapProblem.data.toList.drop 117 = dktX1_swapProblem_5 := dk_seg dksX1_swapProblem_4 23 rfl rfl
theorem dksX1_swapProblem_6 : cX1_swapProblem.data.toList.drop 140 = dktX1_swapProblem_6 := dk_seg dksX1_swapProblem_5 23 rfl rfl
theorem dksX1_swapProblem_7 : cX1_swapProblem.data.toList.drop 163 = dktX1_swapProblem_7 := dk_seg dksX1_swapProblem_6 23 rfl rfl
theorem dX1_swapProblem_0 : decode cX1_swapProblem 0 = .ok (.aload_n 0, 1) := dk_42 (dk_at dksX1_swapProblem_0 0 rfl rfl)
theorem dX1_swapProblem_1 : decode cX1_swapProblem 1 = .ok (.iload_n 1, 1) := dk_27 (dk_at dksX1_swapProblem_0 1 rfl rfl)
theorem dX1_swapProblem_2 : decode cX1_swapProblem 2 = .ok (.invokevirtual 285, 3) := dk_182 1 29 (dk_at dksX1_swapProblem_0 2 rfl rfl)
theorem dX1_swapProblem_5 : decode cX1_swapProblem 5 = .ok (.ifCond .eq 15, 3) := dk_153 0 15 (dk_at dksX1_swapProblem_0 5 rfl rfl)
theorem dX1_swapProblem_8 : decode cX1_swapProblem 8 = .ok (.aload_n 0, 1) := dk_42 (dk_at dksX1_swapProblem_0 8 rfl rfl)
theorem dX1_swapProblem_9 : decode cX1_swapProblem 9 = .ok (.iload_n 2, 1) := dk_28 (dk_at dksX1_swapProblem_0 9 rfl rfl)
theorem dX1_swapProblem_10 : decode cX1_swapProblem 10 = .ok (.invokevirtual 285, 3) := dk_182 1 29 (dk_at dksX1_swapProblem_0 10 rfl rfl)
theorem dX1_swapProblem_13 : decode cX1_swapProblem 13 = .ok (.ifCond .eq 7, 3) := dk_153 0 7 (dk_at dksX1_swapProblem_0 13 rfl rfl)
theorem dX1_swapProblem_16 : decode cX1_swapProblem 16 = .ok (.iconst 1, 1) := dk_4 (dk_at dksX1_swapProblem_0 16 rfl rfl)
theorem dX1_swapProblem_17 : decode cX1_swapProblem 17 = .ok (.goto 4, 3) := dk_167 0 4 (dk_at dksX1_swapProblem_0 17 rfl rfl)
theorem dX1_swapProblem_20 : decode cX1_swapProblem 20 = .ok (.iconst 0, 1) := dk_3 (dk_at dksX1_swapProblem_0 20 rfl rfl)
theorem dX1_swapProblem_21 : decode cX1_swapProblem 21 = .ok (.invokestatic 289, 3) := dk_184 1 33 (dk_at dksX1_swapProblem_0 21 rfl rfl)
theorem dX1_swapProblem_24 : decode cX1_swapProblem 24 = .ok (.iload_n 1, 1) := dk_27 (dk_at dksX1_swapProblem_1 0 rfl rfl)
theorem dX1_swapProblem_25 : decode cX1_swapProblem 25 = .ok (.iload_n 2, 1) := dk_28 (dk_at dksX1_swapProblem_1 1 rfl rfl)
theorem dX1_swapProblem_26 : decode cX1_swapProblem 26 = .ok (.if_icmp .eq 7, 3) := dk_159 0 7 (dk_at dksX1_swapProblem_1 2 rfl rfl)
theorem dX1_swapProblem_29 : decode cX1_swapProblem 29 = .ok (.iconst 1, 1) := dk_4 (dk_at dksX1_swapProblem_1 5 rfl rfl)
theorem dX1_swapProblem_30 : decode cX1_swapProblem 30 = .ok (.goto 4, 3) := dk_167 0 4 (dk_at dksX1_swapProblem_1 6 rfl rfl)
theorem dX1_swapProblem_33 : decode cX1_swapProblem 33 = .ok (.iconst 0, 1) := dk_3 (dk_at dksX1_swapProblem_1 9 rfl rfl)
theorem dX1_swapProblem_34 : decode cX1_swapProblem 34 = .ok (.invokestatic 102, 3) := dk_184 0 102 (dk_at dksX1_swapProblem_1 10 rfl rfl)
theorem dX1_swapProblem_37 : decode cX1_swapProblem 37 = .ok (.aload_n 0, 1) := dk_42 (dk_at dksX1_swapProblem_1 13 rfl rfl)
theorem dX1_swapProblem_38 : decode cX1_swapProblem 38 = .ok (.iload_n 1, 1) := dk_27 (dk_at dksX1_swapProblem_1 14 rfl rfl)
theorem dX1_swapProblem_39 : decode cX1_swapProblem 39 = .ok (.invokevirtual 204, 3) := dk_182 0 204 (dk_at dksX1_swapProblem_1 15 rfl rfl)
theorem dX1_swapProblem_42 : decode cX1_swapProblem 42 = .ok (.astore_n 3, 1) := dk_78 (dk_at dksX1_swapProblem_1 18 rfl rfl)
theorem dX1_swapProblem_43 : decode cX1_swapProblem 43 = .ok (.aload_n 0, 1) := dk_42 (dk_at dksX1_swapProblem_1 19 rfl rfl)
theorem dX1_swapProblem_44 : decode cX1_swapProblem 44 = .ok (.iload_n 2, 1) := dk_28 (dk_at dksX1_swapProblem_1 20 rfl rfl)
theorem dX1_swapProblem_45 : decode cX1_swapProblem 45 = .ok (.invokevirtual 204, 3) := dk_182 0 204 (dk_at dksX1_swapProblem_1 21 rfl rfl)
theorem dX1_swapProblem_48 : decode cX1_swapProblem 48 = .ok (.astore 4, 2) := dk_58 4 (dk_at dksX1_swapProblem_2 0 rfl rfl)
theorem dX1_swapProblem_50 : decode cX1_swapProblem 50 = .ok (.aload_n 3, 1) := dk_45 (dk_at dksX1_swapProblem_2 2 rfl rfl)
theorem dX1_swapProblem_51 : decode cX1_swapProblem 51 = .ok (.getfield 292, 3) := dk_180 1 36 (dk_at dksX1_swapProblem_2 3 rfl rfl)
theorem dX1_swapProblem_54 : decode cX1_swapProblem 54 = .ok (.ifCond .eq 15, 3) := dk_153 0 15 (dk_at dksX1_swapProblem_2 6 rfl rfl)
theorem dX1_swapProblem_57 : decode cX1_swapProblem 57 = .ok (.aload 4, 2) := dk_25 4 (dk_at dksX1_swapProblem_2 9 rfl rfl)
theorem dX1_swapProblem_59 : decode cX1_swapProblem 59 = .ok (.getfield 292, 3) := dk_180 1 36 (dk_at dksX1_swapProblem_2 11 rfl rfl)
theorem dX1_swapProblem_62 : decode cX1_swapProblem 62 = .ok (.ifCond .eq 7, 3) := dk_153 0 7 (dk_at dksX1_swapProblem_2 14 rfl rfl)
theorem dX1_swapProblem_65 : decode cX1_swapProblem 65 = .ok (.iconst 1, 1) := dk_4 (dk_at dksX1_swapProblem_2 17 rfl rfl)
theorem dX1_swapProblem_66 : decode cX1_swapProblem 66 = .ok (.goto 4, 3) := dk_167 0 4 (dk_at dksX1_swapProblem_2 18 rfl rfl)
theorem dX1_swapProblem_69 : decode cX1_swapProblem 69 = .ok (.iconst 0, 1) := dk_3 (dk_at dksX1_swapProblem_2 21 rfl rfl)
theorem dX1_swapProblem_70 : decode cX1_swapProblem 70 = .ok (.invokestatic 94, 3) := dk_184 0 94 (dk_at dksX1_swapProblem_3 0 rfl rfl)
theorem dX1_swapProblem_73 : decode cX1_swapProblem 73 = .ok (.aload_n 3, 1) := dk_45 (dk_at dksX1_swapProblem_3 3 rfl rfl)
theorem dX1_swapProblem_74 : decode cX1_swapProblem 74 = .ok (.getfield 212, 3) := dk_180 0 212 (dk_at dksX1_swapProblem_3 4 rfl rfl)
theorem dX1_swapProblem_77 : decode cX1_swapProblem 77 = .ok (.istore 5, 2) := dk_54 5 (dk_at dksX1_swapProblem_3 7 rfl rfl)
theorem dX1_swapProblem_79 : decode cX1_swapProblem 79 = .ok (.aload_n 3, 1) := dk_45 (dk_at dksX1_swapProblem_3 9 rfl rfl)
theorem dX1_swapProblem_80 : decode cX1_swapProblem 80 = .ok (.getfield 201, 3) := dk_180 0 201 (dk_at dksX1_swapProblem_3 10 rfl rfl)
theorem dX1_swapProblem_83 : decode cX1_swapProblem 83 = .ok (.istore 6, 2) := dk_54 6 (dk_at dksX1_swapProblem_3 13 rfl rfl)
theorem dX1_swapProblem_85 : decode cX1_swapProblem 85 = .ok (.aload 4, 2) := dk_25 4 (dk_at dksX1_swapProblem_3 15 rfl rfl)
theorem dX1_swapProblem_87 : decode cX1_swapProblem 87 = .ok (.getfield 212, 3) := dk_180 0 212 (dk_at dksX1_swapProblem_3 17 rfl rfl)
theorem dX1_swapProblem_90 : decode cX1_swapProblem 90 = .ok (.istore 7, 2) := dk_54 7 (dk_at dksX1_swapProblem_3 20 rfl rfl)
theorem dX1_swapProblem_92 : decode cX1_swapProblem 92 = .ok (.aload 4, 2) := dk_25 4 (dk_at dksX1_swapProblem_3 22 rfl rfl)
theorem dX1_swapProblem_94 : decode cX1_swapProblem 94 = .ok (.getfield 201, 3) := dk_180 0 201 (dk_at dksX1_swapProblem_4 0 rfl rfl)
theorem dX1_swapProblem_97 : decode cX1_swapProblem 97 = .ok (.istore 8, 2) := dk_54 8 (dk_at dksX1_swapProblem_4 3 rfl rfl)
theorem dX1_swapProblem_99 : decode cX1_swapProblem 99 = .ok (.aload_n 0, 1) := dk_42 (dk_at dksX1_swapProblem_4 5 rfl rfl)
theorem dX1_swapProblem_100 : decode cX1_swapProblem 100 = .ok (.aload_n 3, 1) := dk_45 (dk_at dksX1_swapProblem_4 6 rfl rfl)
theorem dX1_swapProblem_101 : decode cX1_swapProblem 101 = .ok (.aload 4, 2) := dk_25 4 (dk_at dksX1_swapProblem_4 7 rfl rfl)
theorem dX1_swapProblem_103 : decode cX1_swapProblem 103 = .ok (.invokevirtual 295, 3) := dk_182 1 39 (dk_at dksX1_swapProblem_4 9 rfl rfl)
theorem dX1_swapProblem_106 : decode cX1_swapProblem 106 = .ok (.goto 43, 3) := dk_167 0 43 (dk_at dksX1_swapProblem_4 12 rfl rfl)
theorem dX1_swapProblem_109 : decode cX1_swapProblem 109 = .ok (.astore 9, 2) := dk_58 9 (dk_at dksX1_swapProblem_4 15 rfl rfl)
theorem dX1_swapProblem_111 : decode cX1_swapProblem 111 = .ok (.iconst 1, 1) := dk_4 (dk_at dksX1_swapProblem_4 17 rfl rfl)
theorem dX1_swapProblem_112 : decode cX1_swapProblem 112 = .ok (.ireturn, 1) := dk_172 (dk_at dksX1_swapProblem_4 18 rfl rfl)
theorem dX1_swapProblem_113 : decode cX1_swapProblem 113 = .ok (.astore 9, 2) := dk_58 9 (dk_at dksX1_swapProblem_4 19 rfl rfl)
theorem dX1_swapProblem_115 : decode cX1_swapProblem 115 = .ok (.aload 9, 2) := dk_25 9 (dk_at dksX1_swapProblem_4 21 rfl rfl)
theorem dX1_swapProblem_117 : decode cX1_swapProblem 117 = .ok (.invokevirtual 306, 3) := dk_182 1 50 (dk_at dksX1_swapProblem_5 0 rfl rfl)
theorem dX1_swapProblem_120 : decode cX1_swapProblem 120 = .ok (.astore 10, 2) := dk_58 10 (dk_at dksX1_swapProblem_5 3 rfl rfl)
theorem dX1_swapProblem_122 : decode cX1_swapProblem 122 = .ok (.aload 9, 2) := dk_25 9 (dk_at dksX1_swapProblem_5 5 rfl rfl)
theorem dX1_swapProblem_124 : decode cX1_swapProblem 124 = .ok (.getfield 310, 3) := dk_180 1 54 (dk_at dksX1_swapProblem_5 7 rfl rfl)
theorem dX1_swapProblem_127 : decode cX1_swapProblem 127 = .ok (.aload 10, 2) := dk_25 10 (dk_at dksX1_swapProblem_5 10 rfl rfl)
theorem dX1_swapProblem_129 : decode cX1_swapProblem 129 = .ok (.instanceof 263, 3) := dk_193 1 7 (dk_at dksX1_swapProblem_5 12 rfl rfl)
theorem dX1_swapProblem_132 : decode cX1_swapProblem 132 = .ok (.ifCond .eq 14, 3) := dk_153 0 14 (dk_at dksX1_swapProblem_5 15 rfl rfl)
theorem dX1_swapProblem_135 : decode cX1_swapProblem 135 = .ok (.aload 10, 2) := dk_25 10 (dk_at dksX1_swapProblem_5 18 rfl rfl)
theorem dX1_swapProblem_137 : decode cX1_swapProblem 137 = .ok (.checkcast 263, 3) := dk_192 1 7 (dk_at dksX1_swapProblem_5 20 rfl rfl)
theorem dX1_swapProblem_140 : decode cX1_swapProblem 140 = .ok (.getfield 310, 3) := dk_180 1 54 (dk_at dksX1_swapProblem_6 0 rfl rfl)
theorem dX1_swapProblem_143 : decode cX1_swapProblem 143 = .ok (.goto 4, 3) := dk_167 0 4 (dk_at dksX1_swapProblem_6 3 rfl rfl)
theorem dX1_swapProblem_146 : decode cX1_swapProblem 146 = .ok (.iconst 0, 1) := dk_3 (dk_at dksX1_swapProblem_6 6 rfl rfl)
theorem dX1_swapProblem_147 : decode cX1_swapProblem 147 = .ok (.iadd, 1) := dk_96 (dk_at dksX1_swapProblem_6 7 rfl rfl)
theorem dX1_swapProblem_148 : decode cX1_swapProblem 148 = .ok (.ireturn, 1) := dk_172 (dk_at dksX1_swapProblem_6 8 rfl rfl)
theorem dX1_swapProblem_149 : decode cX1_swapProblem 149 = .ok (.aload_n 0, 1) := dk_42 (dk_at dksX1_swapProblem_6 9 rfl rfl)
theorem dX1_swapProblem_150 : decode cX1_swapProblem 150 = .ok (.aload_n 3, 1) := dk_45 (dk_at dksX1_swapProblem_6 10 rfl rfl)
theorem dX1_swapProblem_151 : decode cX1_swapProblem 151 = .ok (.iload 5, 2) := dk_21 5 (dk_at dksX1_swapProblem_6 11 rfl rfl)
theorem dX1_swapProblem_153 : decode cX1_swapProblem 153 = .ok (.iload 6, 2) := dk_21 6 (dk_at dksX1_swapProblem_6 13 rfl rfl)
theorem dX1_swapProblem_155 : decode cX1_swapProblem 155 = .ok (.invokevirtual 268, 3) := dk_182 1 12 (dk_at dksX1_swapProblem_6 15 rfl rfl)
theorem dX1_swapProblem_158 : decode cX1_swapProblem 158 = .ok (.aload_n 0, 1) := dk_42 (dk_at dksX1_swapProblem_6 18 rfl rfl)
theorem dX1_swapProblem_159 : decode cX1_swapProblem 159 = .ok (.aload 4, 2) := dk_25 4 (dk_at dksX1_swapProblem_6 19 rfl rfl)
theorem dX1_swapProblem_161 : decode cX1_swapProblem 161 = .ok (.iload 7, 2) := dk_21 7 (dk_at dksX1_swapProblem_6 21 rfl rfl)
theorem dX1_swapProblem_163 : decode cX1_swapProblem 163 = .ok (.iload 8, 2) := dk_21 8 (dk_at dksX1_swapProblem_7 0 rfl rfl)
theorem dX1_swapProblem_165 : decode cX1_swapProblem 165 = .ok (.invokevirtual 268, 3) := dk_182 1 12 (dk_at dksX1_swapProblem_7 2 rfl rfl)
theorem dX1_swapProblem_168 : decode cX1_swapProblem 168 = .ok (.iconst 0, 1) := dk_3 (dk_at dksX1_swapProblem_7 5 rfl rfl)
theorem dX1_swapProblem_169 : decode cX1_swapProblem 169 = .ok (.ireturn, 1) := dk_172 (dk_at dksX1_swapProblem_7 6 rfl rfl)
abbrev cX1_feeNow : ByteArray := prog_1_method_48_code
def yX1_feeNow : MethodName := ⟨RX1, "feeNow", "(I)I"⟩
def dkwX1_feeNow_0 : List UInt8 := [42, 27, 182, 1, 119, 42, 42, 27, 182, 0, 204, 182, 1, 123, 172]
abbrev dktX1_feeNow_0 : List UInt8 := dkwX1_feeNow_0 ++ []
theorem dksX1_feeNow_0 : cX1_feeNow.data.toList.drop 0 = dktX1_feeNow_0 := by decide +kernel
theorem dX1_feeNow_0 : decode cX1_feeNow 0 = .ok (.aload_n 0, 1) := dk_42 (dk_at dksX1_feeNow_0 0 rfl rfl)
theorem dX1_feeNow_1 : decode cX1_feeNow 1 = .ok (.iload_n 1, 1) := dk_27 (dk_at dksX1_feeNow_0 1 rfl rfl)
theorem dX1_feeNow_2 : decode cX1_feeNow 2 = .ok (.invokevirtual 375, 3) := dk_182 1 119 (dk_at dksX1_feeNow_0 2 rfl rfl)
theorem dX1_feeNow_5 : decode cX1_feeNow 5 = .ok (.aload_n 0, 1) := dk_42 (dk_at dksX1_feeNow_0 5 rfl rfl)
theorem dX1_feeNow_6 : decode cX1_feeNow 6 = .ok (.aload_n 0, 1) := dk_42 (dk_at dksX1_feeNow_0 6 rfl rfl)
theorem dX1_feeNow_7 : decode cX1_feeNow 7 = .ok (.iload_n 1, 1) := dk_27 (dk_at dksX1_feeNow_0 7 rfl rfl)
theorem dX1_feeNow_8 : decode cX1_feeNow 8 = .ok (.invokevirtual 204, 3) := dk_182 0 204 (dk_at dksX1_feeNow_0 8 rfl rfl)
theorem dX1_feeNow_11 : decode cX1_feeNow 11 = .ok (.invokevirtual 379, 3) := dk_182 1 123 (dk_at dksX1_feeNow_0 11 rfl rfl)
theorem dX1_feeNow_14 : decode cX1_feeNow 14 = .ok (.ireturn, 1) := dk_172 (dk_at dksX1_feeNow_0 14 rfl rfl)
abbrev cX1_inUse : ByteArray := prog_1_method_77_code
def yX1_inUse : MethodName := ⟨RX1, "inUse", "(II)I"⟩
def dkwX1_inUse_0 : List UInt8 := [42, 27, 182, 1, 95, 184, 1, 33, 28, 184, 1, 178, 184, 0, 102, 42, 27, 28, 182, 1, 193, 172]
abbrev dktX1_inUse_0 : List UInt8 := dkwX1_inUse_0 ++ []
theorem dksX1_inUse_0 : cX1_inUse.data.toList.drop 0 = dktX1_inUse_0 := by decide +kernel
theorem dX1_inUse_0 : decode cX1_inUse 0 = .ok (.aload_n 0, 1) := dk_42 (dk_at dksX1_inUse_0 0 rfl rfl)
theorem dX1_inUse_1 : decode cX1_inUse 1 = .ok (.iload_n 1, 1) := dk_27 (dk_at dksX1_inUse_0 1 rfl rfl)
theorem dX1_inUse_2 : decode cX1_inUse 2 = .ok (.invokevirtual 351, 3) := dk_182 1 95 (dk_at dksX1_inUse_0 2 rfl rfl)
theorem dX1_inUse_5 : decode cX1_inUse 5 = .ok (.invokestatic 289, 3) := dk_184 1 33 (dk_at dksX1_inUse_0 5 rfl rfl)
theorem dX1_inUse_8 : decode cX1_inUse 8 = .ok (.iload_n 2, 1) := dk_28 (dk_at dksX1_inUse_0 8 rfl rfl)
theorem dX1_inUse_9 : decode cX1_inUse 9 = .ok (.invokestatic 434, 3) := dk_184 1 178 (dk_at dksX1_inUse_0 9 rfl rfl)
theorem dX1_inUse_12 : decode cX1_inUse 12 = .ok (.invokestatic 102, 3) := dk_184 0 102 (dk_at dksX1_inUse_0 12 rfl rfl)
theorem dX1_inUse_15 : decode cX1_inUse 15 = .ok (.aload_n 0, 1) := dk_42 (dk_at dksX1_inUse_0 15 rfl rfl)
theorem dX1_inUse_16 : decode cX1_inUse 16 = .ok (.iload_n 1, 1) := dk_27 (dk_at dksX1_inUse_0 16 rfl rfl)
theorem dX1_inUse_17 : decode cX1_inUse 17 = .ok (.iload_n 2, 1) := dk_28 (dk_at dksX1_inUse_0 17 rfl rfl)
theorem dX1_inUse_18 : decode cX1_inUse 18 = .ok (.invokevirtual 449, 3) := dk_182 1 193 (dk_at dksX1_inUse_0 18 rfl rfl)
theorem dX1_inUse_21 : decode cX1_inUse 21 = .ok (.ireturn, 1) := dk_172 (dk_at dksX1_inUse_0 21 rfl rfl)
abbrev cX1_heldIn : ByteArray := prog_1_method_23_code
def yX1_heldIn : MethodName := ⟨RX1, "heldIn", "(II)I"⟩
def dkwX1_heldIn_4 : List UInt8 := [167, 255, 191, 21, 4, 172]
abbrev dktX1_heldIn_4 : List UInt8 := dkwX1_heldIn_4 ++ []
def dkwX1_heldIn_3 : List UInt8 := [153, 0, 16, 25, 6, 180, 0, 189, 180, 0, 228, 27, 46, 167, 0, 4, 3, 96, 54, 4, 132, 5, 1]
abbrev dktX1_heldIn_3 : List UInt8 := dkwX1_heldIn_3 ++ dktX1_heldIn_4
def dkwX1_heldIn_2 : List UInt8 := [182, 0, 204, 58, 6, 21, 4, 25, 6, 182, 0, 208, 153, 0, 26, 25, 6, 29, 28, 182, 0, 224]
abbrev dktX1_heldIn_2 : List UInt8 := dkwX1_heldIn_2 ++ dktX1_heldIn_3
def dkwX1_heldIn_1 : List UInt8 := [54, 5, 21, 5, 42, 180, 0, 25, 180, 0, 160, 185, 0, 136, 1, 0, 162, 0, 54, 42, 21, 5]
abbrev dktX1_heldIn_1 : List UInt8 := dkwX1_heldIn_1 ++ dktX1_heldIn_2
def dkwX1_heldIn_0 : List UInt8 := [42, 180, 0, 16, 180, 0, 157, 27, 185, 0, 164, 2, 0, 192, 0, 219, 180, 0, 221, 62, 3, 54, 4, 3]
abbrev dktX1_heldIn_0 : List UInt8 := dkwX1_heldIn_0 ++ dktX1_heldIn_1
theorem dksX1_heldIn_0 : cX1_heldIn.data.toList.drop 0 = dktX1_heldIn_0 := by decide +kernel
theorem dksX1_heldIn_1 : cX1_heldIn.data.toList.drop 24 = dktX1_heldIn_1 := dk_seg dksX1_heldIn_0 24 rfl rfl
theorem dksX1_heldIn_2 : cX1_heldIn.data.toList.drop 46 = dktX1_heldIn_2 := dk_seg dksX1_heldIn_1 22 rfl rfl
theorem dksX1_heldIn_3 : cX1_heldIn.data.toList.drop 68 = dktX1_heldIn_3 := dk_seg dksX1_heldIn_2 22 rfl rfl
theorem dksX1_heldIn_4 : cX1_heldIn.data.toList.drop 91 = dktX1_heldIn_4 := dk_seg dksX1_heldIn_3 23 rfl rfl
theorem dX1_heldIn_0 : decode cX1_heldIn 0 = .ok (.aload_n 0, 1) := dk_42 (dk_at dksX1_heldIn_0 0 rfl rfl)
theorem dX1_heldIn_1 : decode cX1_heldIn 1 = .ok (.getfield 16, 3) := dk_180 0 16 (dk_at dksX1_heldIn_0 1 rfl rfl)
theorem dX1_heldIn_4 : decode cX1_heldIn 4 = .ok (.getfield 157, 3) := dk_180 0 157 (dk_at dksX1_heldIn_0 4 rfl rfl)
theorem dX1_heldIn_7 : decode cX1_heldIn 7 = .ok (.iload_n 1, 1) := dk_27 (dk_at dksX1_heldIn_0 7 rfl rfl)
theorem dX1_heldIn_8 : decode cX1_heldIn 8 = .ok (.invokeinterface 164 2, 5) := by decide +kernel
theorem dX1_heldIn_13 : decode cX1_heldIn 13 = .ok (.checkcast 219, 3) := dk_192 0 219 (dk_at dksX1_heldIn_0 13 rfl rfl)
theorem dX1_heldIn_16 : decode cX1_heldIn 16 = .ok (.getfield 221, 3) := dk_180 0 221 (dk_at dksX1_heldIn_0 16 rfl rfl)
theorem dX1_heldIn_19 : decode cX1_heldIn 19 = .ok (.istore_n 3, 1) := dk_62 (dk_at dksX1_heldIn_0 19 rfl rfl)
theorem dX1_heldIn_20 : decode cX1_heldIn 20 = .ok (.iconst 0, 1) := dk_3 (dk_at dksX1_heldIn_0 20 rfl rfl)
theorem dX1_heldIn_21 : decode cX1_heldIn 21 = .ok (.istore 4, 2) := dk_54 4 (dk_at dksX1_heldIn_0 21 rfl rfl)
theorem dX1_heldIn_23 : decode cX1_heldIn 23 = .ok (.iconst 0, 1) := dk_3 (dk_at dksX1_heldIn_0 23 rfl rfl)
theorem dX1_heldIn_24 : decode cX1_heldIn 24 = .ok (.istore 5, 2) := dk_54 5 (dk_at dksX1_heldIn_1 0 rfl rfl)
theorem dX1_heldIn_26 : decode cX1_heldIn 26 = .ok (.iload 5, 2) := dk_21 5 (dk_at dksX1_heldIn_1 2 rfl rfl)
theorem dX1_heldIn_28 : decode cX1_heldIn 28 = .ok (.aload_n 0, 1) := dk_42 (dk_at dksX1_heldIn_1 4 rfl rfl)
theorem dX1_heldIn_29 : decode cX1_heldIn 29 = .ok (.getfield 25, 3) := dk_180 0 25 (dk_at dksX1_heldIn_1 5 rfl rfl)
theorem dX1_heldIn_32 : decode cX1_heldIn 32 = .ok (.getfield 160, 3) := dk_180 0 160 (dk_at dksX1_heldIn_1 8 rfl rfl)
theorem dX1_heldIn_35 : decode cX1_heldIn 35 = .ok (.invokeinterface 136 1, 5) := by decide +kernel
theorem dX1_heldIn_40 : decode cX1_heldIn 40 = .ok (.if_icmp .ge 54, 3) := dk_162 0 54 (dk_at dksX1_heldIn_1 16 rfl rfl)
theorem dX1_heldIn_43 : decode cX1_heldIn 43 = .ok (.aload_n 0, 1) := dk_42 (dk_at dksX1_heldIn_1 19 rfl rfl)
theorem dX1_heldIn_44 : decode cX1_heldIn 44 = .ok (.iload 5, 2) := dk_21 5 (dk_at dksX1_heldIn_1 20 rfl rfl)
theorem dX1_heldIn_46 : decode cX1_heldIn 46 = .ok (.invokevirtual 204, 3) := dk_182 0 204 (dk_at dksX1_heldIn_2 0 rfl rfl)
theorem dX1_heldIn_49 : decode cX1_heldIn 49 = .ok (.astore 6, 2) := dk_58 6 (dk_at dksX1_heldIn_2 3 rfl rfl)
theorem dX1_heldIn_51 : decode cX1_heldIn 51 = .ok (.iload 4, 2) := dk_21 4 (dk_at dksX1_heldIn_2 5 rfl rfl)
theorem dX1_heldIn_53 : decode cX1_heldIn 53 = .ok (.aload 6, 2) := dk_25 6 (dk_at dksX1_heldIn_2 7 rfl rfl)
theorem dX1_heldIn_55 : decode cX1_heldIn 55 = .ok (.invokevirtual 208, 3) := dk_182 0 208 (dk_at dksX1_heldIn_2 9 rfl rfl)
theorem dX1_heldIn_58 : decode cX1_heldIn 58 = .ok (.ifCond .eq 26, 3) := dk_153 0 26 (dk_at dksX1_heldIn_2 12 rfl rfl)
theorem dX1_heldIn_61 : decode cX1_heldIn 61 = .ok (.aload 6, 2) := dk_25 6 (dk_at dksX1_heldIn_2 15 rfl rfl)
theorem dX1_heldIn_63 : decode cX1_heldIn 63 = .ok (.iload_n 3, 1) := dk_29 (dk_at dksX1_heldIn_2 17 rfl rfl)
theorem dX1_heldIn_64 : decode cX1_heldIn 64 = .ok (.iload_n 2, 1) := dk_28 (dk_at dksX1_heldIn_2 18 rfl rfl)
theorem dX1_heldIn_65 : decode cX1_heldIn 65 = .ok (.invokevirtual 224, 3) := dk_182 0 224 (dk_at dksX1_heldIn_2 19 rfl rfl)
theorem dX1_heldIn_68 : decode cX1_heldIn 68 = .ok (.ifCond .eq 16, 3) := dk_153 0 16 (dk_at dksX1_heldIn_3 0 rfl rfl)
theorem dX1_heldIn_71 : decode cX1_heldIn 71 = .ok (.aload 6, 2) := dk_25 6 (dk_at dksX1_heldIn_3 3 rfl rfl)
theorem dX1_heldIn_73 : decode cX1_heldIn 73 = .ok (.getfield 189, 3) := dk_180 0 189 (dk_at dksX1_heldIn_3 5 rfl rfl)
theorem dX1_heldIn_76 : decode cX1_heldIn 76 = .ok (.getfield 228, 3) := dk_180 0 228 (dk_at dksX1_heldIn_3 8 rfl rfl)
theorem dX1_heldIn_79 : decode cX1_heldIn 79 = .ok (.iload_n 1, 1) := dk_27 (dk_at dksX1_heldIn_3 11 rfl rfl)
theorem dX1_heldIn_80 : decode cX1_heldIn 80 = .ok (.iaload, 1) := dk_46 (dk_at dksX1_heldIn_3 12 rfl rfl)
theorem dX1_heldIn_81 : decode cX1_heldIn 81 = .ok (.goto 4, 3) := dk_167 0 4 (dk_at dksX1_heldIn_3 13 rfl rfl)
theorem dX1_heldIn_84 : decode cX1_heldIn 84 = .ok (.iconst 0, 1) := dk_3 (dk_at dksX1_heldIn_3 16 rfl rfl)
theorem dX1_heldIn_85 : decode cX1_heldIn 85 = .ok (.iadd, 1) := dk_96 (dk_at dksX1_heldIn_3 17 rfl rfl)
theorem dX1_heldIn_86 : decode cX1_heldIn 86 = .ok (.istore 4, 2) := dk_54 4 (dk_at dksX1_heldIn_3 18 rfl rfl)
theorem dX1_heldIn_88 : decode cX1_heldIn 88 = .ok (.iinc 5 1, 3) := dk_132 5 1 (dk_at dksX1_heldIn_3 20 rfl rfl)
theorem dX1_heldIn_91 : decode cX1_heldIn 91 = .ok (.goto (-65), 3) := dk_167 255 191 (dk_at dksX1_heldIn_4 0 rfl rfl)
theorem dX1_heldIn_94 : decode cX1_heldIn 94 = .ok (.iload 4, 2) := dk_21 4 (dk_at dksX1_heldIn_4 3 rfl rfl)
theorem dX1_heldIn_96 : decode cX1_heldIn 96 = .ok (.ireturn, 1) := dk_172 (dk_at dksX1_heldIn_4 5 rfl rfl)
abbrev cX1_peak : ByteArray := prog_1_method_79_code
def yX1_peak : MethodName := ⟨RX1, "peak", "(II)I"⟩
def dkwX1_peak_1 : List UInt8 := [17, 5, 160, 28, 104, 17, 5, 160, 96, 182, 0, 240, 172]
abbrev dktX1_peak_1 : List UInt8 := dkwX1_peak_1 ++ []
def dkwX1_peak_0 : List UInt8 := [42, 27, 182, 1, 95, 184, 1, 33, 28, 184, 1, 196, 184, 0, 102, 42, 27, 17, 5, 160, 28, 104]
abbrev dktX1_peak_0 : List UInt8 := dkwX1_peak_0 ++ dktX1_peak_1
theorem dksX1_peak_0 : cX1_peak.data.toList.drop 0 = dktX1_peak_0 := by decide +kernel
theorem dksX1_peak_1 : cX1_peak.data.toList.drop 22 = dktX1_peak_1 := dk_seg dksX1_peak_0 22 rfl rfl
theorem dX1_peak_0 : decode cX1_peak 0 = .ok (.aload_n 0, 1) := dk_42 (dk_at dksX1_peak_0 0 rfl rfl)
theorem dX1_peak_1 : decode cX1_peak 1 = .ok (.iload_n 1, 1) := dk_27 (dk_at dksX1_peak_0 1 rfl rfl)
theorem dX1_peak_2 : decode cX1_peak 2 = .ok (.invokevirtual 351, 3) := dk_182 1 95 (dk_at dksX1_peak_0 2 rfl rfl)
theorem dX1_peak_5 : decode cX1_peak 5 = .ok (.invokestatic 289, 3) := dk_184 1 33 (dk_at dksX1_peak_0 5 rfl rfl)
theorem dX1_peak_8 : decode cX1_peak 8 = .ok (.iload_n 2, 1) := dk_28 (dk_at dksX1_peak_0 8 rfl rfl)
theorem dX1_peak_9 : decode cX1_peak 9 = .ok (.invokestatic 452, 3) := dk_184 1 196 (dk_at dksX1_peak_0 9 rfl rfl)
theorem dX1_peak_12 : decode cX1_peak 12 = .ok (.invokestatic 102, 3) := dk_184 0 102 (dk_at dksX1_peak_0 12 rfl rfl)
theorem dX1_peak_15 : decode cX1_peak 15 = .ok (.aload_n 0, 1) := dk_42 (dk_at dksX1_peak_0 15 rfl rfl)
theorem dX1_peak_16 : decode cX1_peak 16 = .ok (.iload_n 1, 1) := dk_27 (dk_at dksX1_peak_0 16 rfl rfl)
theorem dX1_peak_17 : decode cX1_peak 17 = .ok (.sipush 1440, 3) := dk_17 5 160 (dk_at dksX1_peak_0 17 rfl rfl)
theorem dX1_peak_20 : decode cX1_peak 20 = .ok (.iload_n 2, 1) := dk_28 (dk_at dksX1_peak_0 20 rfl rfl)
theorem dX1_peak_21 : decode cX1_peak 21 = .ok (.imul, 1) := dk_104 (dk_at dksX1_peak_0 21 rfl rfl)
theorem dX1_peak_22 : decode cX1_peak 22 = .ok (.sipush 1440, 3) := dk_17 5 160 (dk_at dksX1_peak_1 0 rfl rfl)
theorem dX1_peak_25 : decode cX1_peak 25 = .ok (.iload_n 2, 1) := dk_28 (dk_at dksX1_peak_1 3 rfl rfl)
theorem dX1_peak_26 : decode cX1_peak 26 = .ok (.imul, 1) := dk_104 (dk_at dksX1_peak_1 4 rfl rfl)
theorem dX1_peak_27 : decode cX1_peak 27 = .ok (.sipush 1440, 3) := dk_17 5 160 (dk_at dksX1_peak_1 5 rfl rfl)
theorem dX1_peak_30 : decode cX1_peak 30 = .ok (.iadd, 1) := dk_96 (dk_at dksX1_peak_1 8 rfl rfl)
theorem dX1_peak_31 : decode cX1_peak 31 = .ok (.invokevirtual 240, 3) := dk_182 0 240 (dk_at dksX1_peak_1 9 rfl rfl)
theorem dX1_peak_34 : decode cX1_peak 34 = .ok (.ireturn, 1) := dk_172 (dk_at dksX1_peak_1 12 rfl rfl)
abbrev cX1_isDay : ByteArray := prog_1_method_78_code
def yX1_isDay : MethodName := ⟨RX1, "isDay", "(I)Z"⟩
def dkwX1_isDay_0 : List UInt8 := [26, 3, 16, 59, 184, 0, 98, 172]
abbrev dktX1_isDay_0 : List UInt8 := dkwX1_isDay_0 ++ []
theorem dksX1_isDay_0 : cX1_isDay.data.toList.drop 0 = dktX1_isDay_0 := by decide +kernel
theorem dX1_isDay_0 : decode cX1_isDay 0 = .ok (.iload_n 0, 1) := dk_26 (dk_at dksX1_isDay_0 0 rfl rfl)
theorem dX1_isDay_1 : decode cX1_isDay 1 = .ok (.iconst 0, 1) := dk_3 (dk_at dksX1_isDay_0 1 rfl rfl)
theorem dX1_isDay_2 : decode cX1_isDay 2 = .ok (.bipush 59, 2) := dk_16 59 (dk_at dksX1_isDay_0 2 rfl rfl)
theorem dX1_isDay_4 : decode cX1_isDay 4 = .ok (.invokestatic 98, 3) := dk_184 0 98 (dk_at dksX1_isDay_0 4 rfl rfl)
theorem dX1_isDay_7 : decode cX1_isDay 7 = .ok (.ireturn, 1) := dk_172 (dk_at dksX1_isDay_0 7 rfl rfl)
abbrev cX1_occupancy : ByteArray := prog_1_method_82_code
def yX1_occupancy : MethodName := ⟨RX1, "occupancy", "(II)I"⟩
def dkwX1_occupancy_4 : List UInt8 := [180, 1, 217, 100, 108, 172]
abbrev dktX1_occupancy_4 : List UInt8 := dkwX1_occupancy_4 ++ []
def dkwX1_occupancy_3 : List UInt8 := [185, 0, 164, 2, 0, 192, 1, 212, 58, 5, 16, 100, 21, 4, 104, 25, 5, 180, 1, 214, 25, 5]
abbrev dktX1_occupancy_3 : List UInt8 := dkwX1_occupancy_3 ++ dktX1_occupancy_4
def dkwX1_occupancy_2 : List UInt8 := [180, 0, 198, 96, 54, 4, 132, 5, 1, 167, 255, 220, 42, 180, 0, 16, 180, 0, 132, 27]
abbrev dktX1_occupancy_2 : List UInt8 := dkwX1_occupancy_2 ++ dktX1_occupancy_3
def dkwX1_occupancy_1 : List UInt8 := [185, 0, 136, 1, 0, 162, 0, 31, 21, 4, 45, 21, 5, 185, 0, 164, 2, 0, 192, 0, 62, 180, 0, 189]
abbrev dktX1_occupancy_1 : List UInt8 := dkwX1_occupancy_1 ++ dktX1_occupancy_2
def dkwX1_occupancy_0 : List UInt8 := [42, 27, 28, 182, 1, 205, 42, 27, 28, 182, 1, 208, 78, 3, 54, 4, 3, 54, 5, 21, 5, 45]
abbrev dktX1_occupancy_0 : List UInt8 := dkwX1_occupancy_0 ++ dktX1_occupancy_1
theorem dksX1_occupancy_0 : cX1_occupancy.data.toList.drop 0 = dktX1_occupancy_0 := by decide +kernel
theorem dksX1_occupancy_1 : cX1_occupancy.data.toList.drop 22 = dktX1_occupancy_1 := dk_seg dksX1_occupancy_0 22 rfl rfl
theorem dksX1_occupancy_2 : cX1_occupancy.data.toList.drop 46 = dktX1_occupancy_2 := dk_seg dksX1_occupancy_1 24 rfl rfl
theorem dksX1_occupancy_3 : cX1_occupancy.data.toList.drop 66 = dktX1_occupancy_3 := dk_seg dksX1_occupancy_2 20 rfl rfl
theorem dksX1_occupancy_4 : cX1_occupancy.data.toList.drop 88 = dktX1_occupancy_4 := dk_seg dksX1_occupancy_3 22 rfl rfl
theorem dX1_occupancy_0 : decode cX1_occupancy 0 = .ok (.aload_n 0, 1) := dk_42 (dk_at dksX1_occupancy_0 0 rfl rfl)
theorem dX1_occupancy_1 : decode cX1_occupancy 1 = .ok (.iload_n 1, 1) := dk_27 (dk_at dksX1_occupancy_0 1 rfl rfl)
theorem dX1_occupancy_2 : decode cX1_occupancy 2 = .ok (.iload_n 2, 1) := dk_28 (dk_at dksX1_occupancy_0 2 rfl rfl)
theorem dX1_occupancy_3 : decode cX1_occupancy 3 = .ok (.invokevirtual 461, 3) := dk_182 1 205 (dk_at dksX1_occupancy_0 3 rfl rfl)
theorem dX1_occupancy_6 : decode cX1_occupancy 6 = .ok (.aload_n 0, 1) := dk_42 (dk_at dksX1_occupancy_0 6 rfl rfl)
theorem dX1_occupancy_7 : decode cX1_occupancy 7 = .ok (.iload_n 1, 1) := dk_27 (dk_at dksX1_occupancy_0 7 rfl rfl)
theorem dX1_occupancy_8 : decode cX1_occupancy 8 = .ok (.iload_n 2, 1) := dk_28 (dk_at dksX1_occupancy_0 8 rfl rfl)
theorem dX1_occupancy_9 : decode cX1_occupancy 9 = .ok (.invokevirtual 464, 3) := dk_182 1 208 (dk_at dksX1_occupancy_0 9 rfl rfl)
theorem dX1_occupancy_12 : decode cX1_occupancy 12 = .ok (.astore_n 3, 1) := dk_78 (dk_at dksX1_occupancy_0 12 rfl rfl)
theorem dX1_occupancy_13 : decode cX1_occupancy 13 = .ok (.iconst 0, 1) := dk_3 (dk_at dksX1_occupancy_0 13 rfl rfl)
theorem dX1_occupancy_14 : decode cX1_occupancy 14 = .ok (.istore 4, 2) := dk_54 4 (dk_at dksX1_occupancy_0 14 rfl rfl)
theorem dX1_occupancy_16 : decode cX1_occupancy 16 = .ok (.iconst 0, 1) := dk_3 (dk_at dksX1_occupancy_0 16 rfl rfl)
theorem dX1_occupancy_17 : decode cX1_occupancy 17 = .ok (.istore 5, 2) := dk_54 5 (dk_at dksX1_occupancy_0 17 rfl rfl)
theorem dX1_occupancy_19 : decode cX1_occupancy 19 = .ok (.iload 5, 2) := dk_21 5 (dk_at dksX1_occupancy_0 19 rfl rfl)
theorem dX1_occupancy_21 : decode cX1_occupancy 21 = .ok (.aload_n 3, 1) := dk_45 (dk_at dksX1_occupancy_0 21 rfl rfl)
theorem dX1_occupancy_22 : decode cX1_occupancy 22 = .ok (.invokeinterface 136 1, 5) := by decide +kernel
theorem dX1_occupancy_27 : decode cX1_occupancy 27 = .ok (.if_icmp .ge 31, 3) := dk_162 0 31 (dk_at dksX1_occupancy_1 5 rfl rfl)
theorem dX1_occupancy_30 : decode cX1_occupancy 30 = .ok (.iload 4, 2) := dk_21 4 (dk_at dksX1_occupancy_1 8 rfl rfl)
theorem dX1_occupancy_32 : decode cX1_occupancy 32 = .ok (.aload_n 3, 1) := dk_45 (dk_at dksX1_occupancy_1 10 rfl rfl)
theorem dX1_occupancy_33 : decode cX1_occupancy 33 = .ok (.iload 5, 2) := dk_21 5 (dk_at dksX1_occupancy_1 11 rfl rfl)
theorem dX1_occupancy_35 : decode cX1_occupancy 35 = .ok (.invokeinterface 164 2, 5) := by decide +kernel
theorem dX1_occupancy_40 : decode cX1_occupancy 40 = .ok (.checkcast 62, 3) := dk_192 0 62 (dk_at dksX1_occupancy_1 18 rfl rfl)
theorem dX1_occupancy_43 : decode cX1_occupancy 43 = .ok (.getfield 189, 3) := dk_180 0 189 (dk_at dksX1_occupancy_1 21 rfl rfl)
theorem dX1_occupancy_46 : decode cX1_occupancy 46 = .ok (.getfield 198, 3) := dk_180 0 198 (dk_at dksX1_occupancy_2 0 rfl rfl)
theorem dX1_occupancy_49 : decode cX1_occupancy 49 = .ok (.iadd, 1) := dk_96 (dk_at dksX1_occupancy_2 3 rfl rfl)
theorem dX1_occupancy_50 : decode cX1_occupancy 50 = .ok (.istore 4, 2) := dk_54 4 (dk_at dksX1_occupancy_2 4 rfl rfl)
theorem dX1_occupancy_52 : decode cX1_occupancy 52 = .ok (.iinc 5 1, 3) := dk_132 5 1 (dk_at dksX1_occupancy_2 6 rfl rfl)
theorem dX1_occupancy_55 : decode cX1_occupancy 55 = .ok (.goto (-36), 3) := dk_167 255 220 (dk_at dksX1_occupancy_2 9 rfl rfl)
theorem dX1_occupancy_58 : decode cX1_occupancy 58 = .ok (.aload_n 0, 1) := dk_42 (dk_at dksX1_occupancy_2 12 rfl rfl)
theorem dX1_occupancy_59 : decode cX1_occupancy 59 = .ok (.getfield 16, 3) := dk_180 0 16 (dk_at dksX1_occupancy_2 13 rfl rfl)
theorem dX1_occupancy_62 : decode cX1_occupancy 62 = .ok (.getfield 132, 3) := dk_180 0 132 (dk_at dksX1_occupancy_2 16 rfl rfl)
theorem dX1_occupancy_65 : decode cX1_occupancy 65 = .ok (.iload_n 1, 1) := dk_27 (dk_at dksX1_occupancy_2 19 rfl rfl)
theorem dX1_occupancy_66 : decode cX1_occupancy 66 = .ok (.invokeinterface 164 2, 5) := by decide +kernel
theorem dX1_occupancy_71 : decode cX1_occupancy 71 = .ok (.checkcast 468, 3) := dk_192 1 212 (dk_at dksX1_occupancy_3 5 rfl rfl)
theorem dX1_occupancy_74 : decode cX1_occupancy 74 = .ok (.astore 5, 2) := dk_58 5 (dk_at dksX1_occupancy_3 8 rfl rfl)
theorem dX1_occupancy_76 : decode cX1_occupancy 76 = .ok (.bipush 100, 2) := dk_16 100 (dk_at dksX1_occupancy_3 10 rfl rfl)
theorem dX1_occupancy_78 : decode cX1_occupancy 78 = .ok (.iload 4, 2) := dk_21 4 (dk_at dksX1_occupancy_3 12 rfl rfl)
theorem dX1_occupancy_80 : decode cX1_occupancy 80 = .ok (.imul, 1) := dk_104 (dk_at dksX1_occupancy_3 14 rfl rfl)
theorem dX1_occupancy_81 : decode cX1_occupancy 81 = .ok (.aload 5, 2) := dk_25 5 (dk_at dksX1_occupancy_3 15 rfl rfl)
theorem dX1_occupancy_83 : decode cX1_occupancy 83 = .ok (.getfield 470, 3) := dk_180 1 214 (dk_at dksX1_occupancy_3 17 rfl rfl)
theorem dX1_occupancy_86 : decode cX1_occupancy 86 = .ok (.aload 5, 2) := dk_25 5 (dk_at dksX1_occupancy_3 20 rfl rfl)
theorem dX1_occupancy_88 : decode cX1_occupancy 88 = .ok (.getfield 473, 3) := dk_180 1 217 (dk_at dksX1_occupancy_4 0 rfl rfl)
theorem dX1_occupancy_91 : decode cX1_occupancy 91 = .ok (.isub, 1) := dk_100 (dk_at dksX1_occupancy_4 3 rfl rfl)
theorem dX1_occupancy_92 : decode cX1_occupancy 92 = .ok (.idiv, 1) := dk_108 (dk_at dksX1_occupancy_4 4 rfl rfl)
theorem dX1_occupancy_93 : decode cX1_occupancy 93 = .ok (.ireturn, 1) := dk_172 (dk_at dksX1_occupancy_4 5 rfl rfl)
abbrev cX1_needHallAndDay : ByteArray := prog_1_method_81_code
def yX1_needHallAndDay : MethodName := ⟨RX1, "needHallAndDay", "(II)V"⟩
def dkwX1_needHallAndDay_0 : List UInt8 := [42, 27, 182, 1, 65, 184, 1, 33, 28, 184, 1, 196, 184, 0, 102, 177]
abbrev dktX1_needHallAndDay_0 : List UInt8 := dkwX1_needHallAndDay_0 ++ []
theorem dksX1_needHallAndDay_0 : cX1_needHallAndDay.data.toList.drop 0 = dktX1_needHallAndDay_0 := by decide +kernel
theorem dX1_needHallAndDay_0 : decode cX1_needHallAndDay 0 = .ok (.aload_n 0, 1) := dk_42 (dk_at dksX1_needHallAndDay_0 0 rfl rfl)
theorem dX1_needHallAndDay_1 : decode cX1_needHallAndDay 1 = .ok (.iload_n 1, 1) := dk_27 (dk_at dksX1_needHallAndDay_0 1 rfl rfl)
theorem dX1_needHallAndDay_2 : decode cX1_needHallAndDay 2 = .ok (.invokevirtual 321, 3) := dk_182 1 65 (dk_at dksX1_needHallAndDay_0 2 rfl rfl)
theorem dX1_needHallAndDay_5 : decode cX1_needHallAndDay 5 = .ok (.invokestatic 289, 3) := dk_184 1 33 (dk_at dksX1_needHallAndDay_0 5 rfl rfl)
theorem dX1_needHallAndDay_8 : decode cX1_needHallAndDay 8 = .ok (.iload_n 2, 1) := dk_28 (dk_at dksX1_needHallAndDay_0 8 rfl rfl)
theorem dX1_needHallAndDay_9 : decode cX1_needHallAndDay 9 = .ok (.invokestatic 452, 3) := dk_184 1 196 (dk_at dksX1_needHallAndDay_0 9 rfl rfl)
theorem dX1_needHallAndDay_12 : decode cX1_needHallAndDay 12 = .ok (.invokestatic 102, 3) := dk_184 0 102 (dk_at dksX1_needHallAndDay_0 12 rfl rfl)
theorem dX1_needHallAndDay_15 : decode cX1_needHallAndDay 15 = .ok (.return_, 1) := dk_177 (dk_at dksX1_needHallAndDay_0 15 rfl rfl)
abbrev cX1_ofDay : ByteArray := prog_1_method_80_code
def yX1_ofDay : MethodName := ⟨RX1, "ofDay", "(II)Ljava/util/List;"⟩
def dkwX1_ofDay_5 : List UInt8 := [25, 5, 185, 1, 202, 3, 0, 132, 4, 1, 167, 255, 145, 45, 176]
abbrev dktX1_ofDay_5 : List UInt8 := dkwX1_ofDay_5 ++ []
def dkwX1_ofDay_4 : List UInt8 := [192, 0, 62, 180, 0, 201, 25, 5, 180, 0, 201, 164, 0, 9, 132, 6, 255, 167, 255, 224, 45, 21, 6]
abbrev dktX1_ofDay_4 : List UInt8 := dkwX1_ofDay_4 ++ dktX1_ofDay_5
def dkwX1_ofDay_3 : List UInt8 := [185, 0, 136, 1, 0, 54, 6, 21, 6, 158, 0, 33, 45, 21, 6, 4, 100, 185, 0, 164, 2, 0]
abbrev dktX1_ofDay_3 : List UInt8 := dkwX1_ofDay_3 ++ dktX1_ofDay_4
def dkwX1_ofDay_2 : List UInt8 := [25, 5, 180, 0, 212, 27, 160, 0, 69, 25, 5, 180, 0, 201, 17, 5, 160, 108, 28, 160, 0, 56, 45]
abbrev dktX1_ofDay_2 : List UInt8 := dkwX1_ofDay_2 ++ dktX1_ofDay_3
def dkwX1_ofDay_1 : List UInt8 := [185, 0, 136, 1, 0, 162, 0, 100, 42, 21, 4, 182, 0, 204, 58, 5, 25, 5, 180, 1, 36, 153, 0, 78]
abbrev dktX1_ofDay_1 : List UInt8 := dkwX1_ofDay_1 ++ dktX1_ofDay_2
def dkwX1_ofDay_0 : List UInt8 := [187, 1, 199, 89, 183, 1, 201, 78, 3, 54, 4, 21, 4, 42, 180, 0, 25, 180, 0, 160]
abbrev dktX1_ofDay_0 : List UInt8 := dkwX1_ofDay_0 ++ dktX1_ofDay_1
theorem dksX1_ofDay_0 : cX1_ofDay.data.toList.drop 0 = dktX1_ofDay_0 := by decide +kernel
theorem dksX1_ofDay_1 : cX1_ofDay.data.toList.drop 20 = dktX1_ofDay_1 := dk_seg dksX1_ofDay_0 20 rfl rfl
theorem dksX1_ofDay_2 : cX1_ofDay.data.toList.drop 44 = dktX1_ofDay_2 := dk_seg dksX1_ofDay_1 24 rfl rfl
theorem dksX1_ofDay_3 : cX1_ofDay.data.toList.drop 67 = dktX1_ofDay_3 := dk_seg dksX1_ofDay_2 23 rfl rfl
theorem dksX1_ofDay_4 : cX1_ofDay.data.toList.drop 89 = dktX1_ofDay_4 := dk_seg dksX1_ofDay_3 22 rfl rfl
theorem dksX1_ofDay_5 : cX1_ofDay.data.toList.drop 112 = dktX1_ofDay_5 := dk_seg dksX1_ofDay_4 23 rfl rfl
theorem dX1_ofDay_0 : decode cX1_ofDay 0 = .ok (.new 455, 3) := dk_187 1 199 (dk_at dksX1_ofDay_0 0 rfl rfl)
theorem dX1_ofDay_3 : decode cX1_ofDay 3 = .ok (.dup, 1) := dk_89 (dk_at dksX1_ofDay_0 3 rfl rfl)
theorem dX1_ofDay_4 : decode cX1_ofDay 4 = .ok (.invokespecial 457, 3) := dk_183 1 201 (dk_at dksX1_ofDay_0 4 rfl rfl)
theorem dX1_ofDay_7 : decode cX1_ofDay 7 = .ok (.astore_n 3, 1) := dk_78 (dk_at dksX1_ofDay_0 7 rfl rfl)
theorem dX1_ofDay_8 : decode cX1_ofDay 8 = .ok (.iconst 0, 1) := dk_3 (dk_at dksX1_ofDay_0 8 rfl rfl)
theorem dX1_ofDay_9 : decode cX1_ofDay 9 = .ok (.istore 4, 2) := dk_54 4 (dk_at dksX1_ofDay_0 9 rfl rfl)
theorem dX1_ofDay_11 : decode cX1_ofDay 11 = .ok (.iload 4, 2) := dk_21 4 (dk_at dksX1_ofDay_0 11 rfl rfl)
theorem dX1_ofDay_13 : decode cX1_ofDay 13 = .ok (.aload_n 0, 1) := dk_42 (dk_at dksX1_ofDay_0 13 rfl rfl)
theorem dX1_ofDay_14 : decode cX1_ofDay 14 = .ok (.getfield 25, 3) := dk_180 0 25 (dk_at dksX1_ofDay_0 14 rfl rfl)
theorem dX1_ofDay_17 : decode cX1_ofDay 17 = .ok (.getfield 160, 3) := dk_180 0 160 (dk_at dksX1_ofDay_0 17 rfl rfl)
theorem dX1_ofDay_20 : decode cX1_ofDay 20 = .ok (.invokeinterface 136 1, 5) := by decide +kernel
theorem dX1_ofDay_25 : decode cX1_ofDay 25 = .ok (.if_icmp .ge 100, 3) := dk_162 0 100 (dk_at dksX1_ofDay_1 5 rfl rfl)
theorem dX1_ofDay_28 : decode cX1_ofDay 28 = .ok (.aload_n 0, 1) := dk_42 (dk_at dksX1_ofDay_1 8 rfl rfl)
theorem dX1_ofDay_29 : decode cX1_ofDay 29 = .ok (.iload 4, 2) := dk_21 4 (dk_at dksX1_ofDay_1 9 rfl rfl)
theorem dX1_ofDay_31 : decode cX1_ofDay 31 = .ok (.invokevirtual 204, 3) := dk_182 0 204 (dk_at dksX1_ofDay_1 11 rfl rfl)
theorem dX1_ofDay_34 : decode cX1_ofDay 34 = .ok (.astore 5, 2) := dk_58 5 (dk_at dksX1_ofDay_1 14 rfl rfl)
theorem dX1_ofDay_36 : decode cX1_ofDay 36 = .ok (.aload 5, 2) := dk_25 5 (dk_at dksX1_ofDay_1 16 rfl rfl)
theorem dX1_ofDay_38 : decode cX1_ofDay 38 = .ok (.getfield 292, 3) := dk_180 1 36 (dk_at dksX1_ofDay_1 18 rfl rfl)
theorem dX1_ofDay_41 : decode cX1_ofDay 41 = .ok (.ifCond .eq 78, 3) := dk_153 0 78 (dk_at dksX1_ofDay_1 21 rfl rfl)
theorem dX1_ofDay_44 : decode cX1_ofDay 44 = .ok (.aload 5, 2) := dk_25 5 (dk_at dksX1_ofDay_2 0 rfl rfl)
theorem dX1_ofDay_46 : decode cX1_ofDay 46 = .ok (.getfield 212, 3) := dk_180 0 212 (dk_at dksX1_ofDay_2 2 rfl rfl)
theorem dX1_ofDay_49 : decode cX1_ofDay 49 = .ok (.iload_n 1, 1) := dk_27 (dk_at dksX1_ofDay_2 5 rfl rfl)
theorem dX1_ofDay_50 : decode cX1_ofDay 50 = .ok (.if_icmp .ne 69, 3) := dk_160 0 69 (dk_at dksX1_ofDay_2 6 rfl rfl)
theorem dX1_ofDay_53 : decode cX1_ofDay 53 = .ok (.aload 5, 2) := dk_25 5 (dk_at dksX1_ofDay_2 9 rfl rfl)
theorem dX1_ofDay_55 : decode cX1_ofDay 55 = .ok (.getfield 201, 3) := dk_180 0 201 (dk_at dksX1_ofDay_2 11 rfl rfl)
theorem dX1_ofDay_58 : decode cX1_ofDay 58 = .ok (.sipush 1440, 3) := dk_17 5 160 (dk_at dksX1_ofDay_2 14 rfl rfl)
theorem dX1_ofDay_61 : decode cX1_ofDay 61 = .ok (.idiv, 1) := dk_108 (dk_at dksX1_ofDay_2 17 rfl rfl)
theorem dX1_ofDay_62 : decode cX1_ofDay 62 = .ok (.iload_n 2, 1) := dk_28 (dk_at dksX1_ofDay_2 18 rfl rfl)
theorem dX1_ofDay_63 : decode cX1_ofDay 63 = .ok (.if_icmp .ne 56, 3) := dk_160 0 56 (dk_at dksX1_ofDay_2 19 rfl rfl)
theorem dX1_ofDay_66 : decode cX1_ofDay 66 = .ok (.aload_n 3, 1) := dk_45 (dk_at dksX1_ofDay_2 22 rfl rfl)
theorem dX1_ofDay_67 : decode cX1_ofDay 67 = .ok (.invokeinterface 136 1, 5) := by decide +kernel
theorem dX1_ofDay_72 : decode cX1_ofDay 72 = .ok (.istore 6, 2) := dk_54 6 (dk_at dksX1_ofDay_3 5 rfl rfl)
theorem dX1_ofDay_74 : decode cX1_ofDay 74 = .ok (.iload 6, 2) := dk_21 6 (dk_at dksX1_ofDay_3 7 rfl rfl)
theorem dX1_ofDay_76 : decode cX1_ofDay 76 = .ok (.ifCond .le 33, 3) := dk_158 0 33 (dk_at dksX1_ofDay_3 9 rfl rfl)
theorem dX1_ofDay_79 : decode cX1_ofDay 79 = .ok (.aload_n 3, 1) := dk_45 (dk_at dksX1_ofDay_3 12 rfl rfl)
theorem dX1_ofDay_80 : decode cX1_ofDay 80 = .ok (.iload 6, 2) := dk_21 6 (dk_at dksX1_ofDay_3 13 rfl rfl)
theorem dX1_ofDay_82 : decode cX1_ofDay 82 = .ok (.iconst 1, 1) := dk_4 (dk_at dksX1_ofDay_3 15 rfl rfl)
theorem dX1_ofDay_83 : decode cX1_ofDay 83 = .ok (.isub, 1) := dk_100 (dk_at dksX1_ofDay_3 16 rfl rfl)
theorem dX1_ofDay_84 : decode cX1_ofDay 84 = .ok (.invokeinterface 164 2, 5) := by decide +kernel
theorem dX1_ofDay_89 : decode cX1_ofDay 89 = .ok (.checkcast 62, 3) := dk_192 0 62 (dk_at dksX1_ofDay_4 0 rfl rfl)
theorem dX1_ofDay_92 : decode cX1_ofDay 92 = .ok (.getfield 201, 3) := dk_180 0 201 (dk_at dksX1_ofDay_4 3 rfl rfl)
theorem dX1_ofDay_95 : decode cX1_ofDay 95 = .ok (.aload 5, 2) := dk_25 5 (dk_at dksX1_ofDay_4 6 rfl rfl)
theorem dX1_ofDay_97 : decode cX1_ofDay 97 = .ok (.getfield 201, 3) := dk_180 0 201 (dk_at dksX1_ofDay_4 8 rfl rfl)
theorem dX1_ofDay_100 : decode cX1_ofDay 100 = .ok (.if_icmp .le 9, 3) := dk_164 0 9 (dk_at dksX1_ofDay_4 11 rfl rfl)
theorem dX1_ofDay_103 : decode cX1_ofDay 103 = .ok (.iinc 6 (-1), 3) := dk_132 6 255 (dk_at dksX1_ofDay_4 14 rfl rfl)
theorem dX1_ofDay_106 : decode cX1_ofDay 106 = .ok (.goto (-32), 3) := dk_167 255 224 (dk_at dksX1_ofDay_4 17 rfl rfl)
theorem dX1_ofDay_109 : decode cX1_ofDay 109 = .ok (.aload_n 3, 1) := dk_45 (dk_at dksX1_ofDay_4 20 rfl rfl)
theorem dX1_ofDay_110 : decode cX1_ofDay 110 = .ok (.iload 6, 2) := dk_21 6 (dk_at dksX1_ofDay_4 21 rfl rfl)
theorem dX1_ofDay_112 : decode cX1_ofDay 112 = .ok (.aload 5, 2) := dk_25 5 (dk_at dksX1_ofDay_5 0 rfl rfl)
theorem dX1_ofDay_114 : decode cX1_ofDay 114 = .ok (.invokeinterface 458 3, 5) := by decide +kernel
theorem dX1_ofDay_119 : decode cX1_ofDay 119 = .ok (.iinc 4 1, 3) := dk_132 4 1 (dk_at dksX1_ofDay_5 7 rfl rfl)
theorem dX1_ofDay_122 : decode cX1_ofDay 122 = .ok (.goto (-111), 3) := dk_167 255 145 (dk_at dksX1_ofDay_5 10 rfl rfl)
theorem dX1_ofDay_125 : decode cX1_ofDay 125 = .ok (.aload_n 3, 1) := dk_45 (dk_at dksX1_ofDay_5 13 rfl rfl)
theorem dX1_ofDay_126 : decode cX1_ofDay 126 = .ok (.areturn, 1) := dk_176 (dk_at dksX1_ofDay_5 14 rfl rfl)
abbrev cX1_setupSum : ByteArray := prog_1_method_83_code
def yX1_setupSum : MethodName := ⟨RX1, "setupSum", "(II)I"⟩
def dkwX1_setupSum_3 : List UInt8 := [192, 0, 62, 180, 0, 189, 180, 0, 192, 46, 96, 54, 4, 132, 5, 1, 167, 255, 192, 21, 4, 172]
abbrev dktX1_setupSum_3 : List UInt8 := dkwX1_setupSum_3 ++ []
def dkwX1_setupSum_2 : List UInt8 := [185, 0, 164, 2, 0, 192, 0, 62, 180, 0, 189, 180, 0, 192, 50, 45, 21, 5, 185, 0, 164, 2, 0]
abbrev dktX1_setupSum_2 : List UInt8 := dkwX1_setupSum_2 ++ dktX1_setupSum_3
def dkwX1_setupSum_1 : List UInt8 := [185, 0, 136, 1, 0, 162, 0, 59, 21, 4, 42, 180, 0, 16, 180, 0, 185, 45, 21, 5, 4, 100]
abbrev dktX1_setupSum_1 : List UInt8 := dkwX1_setupSum_1 ++ dktX1_setupSum_2
def dkwX1_setupSum_0 : List UInt8 := [42, 27, 28, 182, 1, 205, 42, 27, 28, 182, 1, 208, 78, 3, 54, 4, 4, 54, 5, 21, 5, 45]
abbrev dktX1_setupSum_0 : List UInt8 := dkwX1_setupSum_0 ++ dktX1_setupSum_1
theorem dksX1_setupSum_0 : cX1_setupSum.data.toList.drop 0 = dktX1_setupSum_0 := by decide +kernel
theorem dksX1_setupSum_1 : cX1_setupSum.data.toList.drop 22 = dktX1_setupSum_1 := dk_seg dksX1_setupSum_0 22 rfl rfl
theorem dksX1_setupSum_2 : cX1_setupSum.data.toList.drop 44 = dktX1_setupSum_2 := dk_seg dksX1_setupSum_1 22 rfl rfl
theorem dksX1_setupSum_3 : cX1_setupSum.data.toList.drop 67 = dktX1_setupSum_3 := dk_seg dksX1_setupSum_2 23 rfl rfl
theorem dX1_setupSum_0 : decode cX1_setupSum 0 = .ok (.aload_n 0, 1) := dk_42 (dk_at dksX1_setupSum_0 0 rfl rfl)
theorem dX1_setupSum_1 : decode cX1_setupSum 1 = .ok (.iload_n 1, 1) := dk_27 (dk_at dksX1_setupSum_0 1 rfl rfl)
theorem dX1_setupSum_2 : decode cX1_setupSum 2 = .ok (.iload_n 2, 1) := dk_28 (dk_at dksX1_setupSum_0 2 rfl rfl)
theorem dX1_setupSum_3 : decode cX1_setupSum 3 = .ok (.invokevirtual 461, 3) := dk_182 1 205 (dk_at dksX1_setupSum_0 3 rfl rfl)
theorem dX1_setupSum_6 : decode cX1_setupSum 6 = .ok (.aload_n 0, 1) := dk_42 (dk_at dksX1_setupSum_0 6 rfl rfl)
theorem dX1_setupSum_7 : decode cX1_setupSum 7 = .ok (.iload_n 1, 1) := dk_27 (dk_at dksX1_setupSum_0 7 rfl rfl)
theorem dX1_setupSum_8 : decode cX1_setupSum 8 = .ok (.iload_n 2, 1) := dk_28 (dk_at dksX1_setupSum_0 8 rfl rfl)
theorem dX1_setupSum_9 : decode cX1_setupSum 9 = .ok (.invokevirtual 464, 3) := dk_182 1 208 (dk_at dksX1_setupSum_0 9 rfl rfl)
theorem dX1_setupSum_12 : decode cX1_setupSum 12 = .ok (.astore_n 3, 1) := dk_78 (dk_at dksX1_setupSum_0 12 rfl rfl)
theorem dX1_setupSum_13 : decode cX1_setupSum 13 = .ok (.iconst 0, 1) := dk_3 (dk_at dksX1_setupSum_0 13 rfl rfl)
theorem dX1_setupSum_14 : decode cX1_setupSum 14 = .ok (.istore 4, 2) := dk_54 4 (dk_at dksX1_setupSum_0 14 rfl rfl)
theorem dX1_setupSum_16 : decode cX1_setupSum 16 = .ok (.iconst 1, 1) := dk_4 (dk_at dksX1_setupSum_0 16 rfl rfl)
theorem dX1_setupSum_17 : decode cX1_setupSum 17 = .ok (.istore 5, 2) := dk_54 5 (dk_at dksX1_setupSum_0 17 rfl rfl)
theorem dX1_setupSum_19 : decode cX1_setupSum 19 = .ok (.iload 5, 2) := dk_21 5 (dk_at dksX1_setupSum_0 19 rfl rfl)
theorem dX1_setupSum_21 : decode cX1_setupSum 21 = .ok (.aload_n 3, 1) := dk_45 (dk_at dksX1_setupSum_0 21 rfl rfl)
theorem dX1_setupSum_22 : decode cX1_setupSum 22 = .ok (.invokeinterface 136 1, 5) := by decide +kernel
theorem dX1_setupSum_27 : decode cX1_setupSum 27 = .ok (.if_icmp .ge 59, 3) := dk_162 0 59 (dk_at dksX1_setupSum_1 5 rfl rfl)
theorem dX1_setupSum_30 : decode cX1_setupSum 30 = .ok (.iload 4, 2) := dk_21 4 (dk_at dksX1_setupSum_1 8 rfl rfl)
theorem dX1_setupSum_32 : decode cX1_setupSum 32 = .ok (.aload_n 0, 1) := dk_42 (dk_at dksX1_setupSum_1 10 rfl rfl)
theorem dX1_setupSum_33 : decode cX1_setupSum 33 = .ok (.getfield 16, 3) := dk_180 0 16 (dk_at dksX1_setupSum_1 11 rfl rfl)
theorem dX1_setupSum_36 : decode cX1_setupSum 36 = .ok (.getfield 185, 3) := dk_180 0 185 (dk_at dksX1_setupSum_1 14 rfl rfl)
theorem dX1_setupSum_39 : decode cX1_setupSum 39 = .ok (.aload_n 3, 1) := dk_45 (dk_at dksX1_setupSum_1 17 rfl rfl)
theorem dX1_setupSum_40 : decode cX1_setupSum 40 = .ok (.iload 5, 2) := dk_21 5 (dk_at dksX1_setupSum_1 18 rfl rfl)
theorem dX1_setupSum_42 : decode cX1_setupSum 42 = .ok (.iconst 1, 1) := dk_4 (dk_at dksX1_setupSum_1 20 rfl rfl)
theorem dX1_setupSum_43 : decode cX1_setupSum 43 = .ok (.isub, 1) := dk_100 (dk_at dksX1_setupSum_1 21 rfl rfl)
theorem dX1_setupSum_44 : decode cX1_setupSum 44 = .ok (.invokeinterface 164 2, 5) := by decide +kernel
theorem dX1_setupSum_49 : decode cX1_setupSum 49 = .ok (.checkcast 62, 3) := dk_192 0 62 (dk_at dksX1_setupSum_2 5 rfl rfl)
theorem dX1_setupSum_52 : decode cX1_setupSum 52 = .ok (.getfield 189, 3) := dk_180 0 189 (dk_at dksX1_setupSum_2 8 rfl rfl)
theorem dX1_setupSum_55 : decode cX1_setupSum 55 = .ok (.getfield 192, 3) := dk_180 0 192 (dk_at dksX1_setupSum_2 11 rfl rfl)
theorem dX1_setupSum_58 : decode cX1_setupSum 58 = .ok (.aaload, 1) := dk_50 (dk_at dksX1_setupSum_2 14 rfl rfl)
theorem dX1_setupSum_59 : decode cX1_setupSum 59 = .ok (.aload_n 3, 1) := dk_45 (dk_at dksX1_setupSum_2 15 rfl rfl)
theorem dX1_setupSum_60 : decode cX1_setupSum 60 = .ok (.iload 5, 2) := dk_21 5 (dk_at dksX1_setupSum_2 16 rfl rfl)
theorem dX1_setupSum_62 : decode cX1_setupSum 62 = .ok (.invokeinterface 164 2, 5) := by decide +kernel
theorem dX1_setupSum_67 : decode cX1_setupSum 67 = .ok (.checkcast 62, 3) := dk_192 0 62 (dk_at dksX1_setupSum_3 0 rfl rfl)
theorem dX1_setupSum_70 : decode cX1_setupSum 70 = .ok (.getfield 189, 3) := dk_180 0 189 (dk_at dksX1_setupSum_3 3 rfl rfl)
theorem dX1_setupSum_73 : decode cX1_setupSum 73 = .ok (.getfield 192, 3) := dk_180 0 192 (dk_at dksX1_setupSum_3 6 rfl rfl)
theorem dX1_setupSum_76 : decode cX1_setupSum 76 = .ok (.iaload, 1) := dk_46 (dk_at dksX1_setupSum_3 9 rfl rfl)
theorem dX1_setupSum_77 : decode cX1_setupSum 77 = .ok (.iadd, 1) := dk_96 (dk_at dksX1_setupSum_3 10 rfl rfl)
theorem dX1_setupSum_78 : decode cX1_setupSum 78 = .ok (.istore 4, 2) := dk_54 4 (dk_at dksX1_setupSum_3 11 rfl rfl)
theorem dX1_setupSum_80 : decode cX1_setupSum 80 = .ok (.iinc 5 1, 3) := dk_132 5 1 (dk_at dksX1_setupSum_3 13 rfl rfl)
theorem dX1_setupSum_83 : decode cX1_setupSum 83 = .ok (.goto (-64), 3) := dk_167 255 192 (dk_at dksX1_setupSum_3 16 rfl rfl)
theorem dX1_setupSum_86 : decode cX1_setupSum 86 = .ok (.iload 4, 2) := dk_21 4 (dk_at dksX1_setupSum_3 19 rfl rfl)
theorem dX1_setupSum_88 : decode cX1_setupSum 88 = .ok (.ireturn, 1) := dk_172 (dk_at dksX1_setupSum_3 21 rfl rfl)
abbrev cX1_leastSetup : ByteArray := prog_1_method_84_code
def yX1_leastSetup : MethodName := ⟨RX1, "leastSetup", "(II)I"⟩
def dkwX1_leastSetup_11 : List UInt8 := [172]
abbrev dktX1_leastSetup_11 : List UInt8 := dkwX1_leastSetup_11 ++ []
def dkwX1_leastSetup_10 : List UInt8 := [4, 21, 4, 120, 4, 100, 104, 21, 7, 96, 46, 184, 0, 237, 54, 6, 132, 7, 1, 167, 255, 224, 21, 6]
abbrev dktX1_leastSetup_10 : List UInt8 := dkwX1_leastSetup_10 ++ dktX1_leastSetup_11
def dkwX1_leastSetup_9 : List UInt8 := [167, 0, 6, 19, 1, 222, 54, 6, 3, 54, 7, 21, 7, 21, 4, 162, 0, 31, 21, 6, 25, 5, 21, 4]
abbrev dktX1_leastSetup_9 : List UInt8 := dkwX1_leastSetup_9 ++ dktX1_leastSetup_10
def dkwX1_leastSetup_8 : List UInt8 := [21, 7, 96, 21, 9, 79, 132, 7, 1, 167, 255, 119, 132, 6, 1, 167, 255, 101, 21, 4, 154, 0, 7, 3]
abbrev dktX1_leastSetup_8 : List UInt8 := dkwX1_leastSetup_8 ++ dktX1_leastSetup_9
def dkwX1_leastSetup_7 : List UInt8 := [180, 0, 192, 46, 96, 184, 0, 237, 54, 9, 132, 10, 1, 167, 255, 173, 25, 5, 21, 4, 21, 6, 104]
abbrev dktX1_leastSetup_7 : List UInt8 := dkwX1_leastSetup_7 ++ dktX1_leastSetup_8
def dkwX1_leastSetup_6 : List UInt8 := [192, 0, 62, 180, 0, 189, 180, 0, 192, 50, 45, 21, 7, 185, 0, 164, 2, 0, 192, 0, 62, 180, 0, 189]
abbrev dktX1_leastSetup_6 : List UInt8 := dkwX1_leastSetup_6 ++ dktX1_leastSetup_7
def dkwX1_leastSetup_5 : List UInt8 := [21, 4, 21, 8, 104, 21, 10, 96, 46, 42, 180, 0, 16, 180, 0, 185, 45, 21, 10, 185, 0, 164, 2, 0]
abbrev dktX1_leastSetup_5 : List UInt8 := dkwX1_leastSetup_5 ++ dktX1_leastSetup_6
def dkwX1_leastSetup_4 : List UInt8 := [54, 10, 21, 10, 21, 4, 162, 0, 82, 21, 8, 21, 10, 122, 4, 126, 4, 160, 0, 65, 21, 9, 25, 5]
abbrev dktX1_leastSetup_4 : List UInt8 := dkwX1_leastSetup_4 ++ dktX1_leastSetup_5
def dkwX1_leastSetup_3 : List UInt8 := [21, 7, 120, 2, 130, 126, 54, 8, 21, 8, 154, 0, 7, 3, 167, 0, 6, 19, 1, 222, 54, 9, 3]
abbrev dktX1_leastSetup_3 : List UInt8 := dkwX1_leastSetup_3 ++ dktX1_leastSetup_4
def dkwX1_leastSetup_2 : List UInt8 := [54, 6, 21, 6, 4, 21, 4, 120, 162, 0, 152, 3, 54, 7, 21, 7, 21, 4, 162, 0, 136, 21, 6, 4]
abbrev dktX1_leastSetup_2 : List UInt8 := dkwX1_leastSetup_2 ++ dktX1_leastSetup_3
def dkwX1_leastSetup_1 : List UInt8 := [16, 8, 163, 0, 7, 4, 167, 0, 4, 3, 184, 0, 94, 21, 4, 21, 4, 120, 188, 10, 58, 5, 4]
abbrev dktX1_leastSetup_1 : List UInt8 := dkwX1_leastSetup_1 ++ dktX1_leastSetup_2
def dkwX1_leastSetup_0 : List UInt8 := [42, 27, 28, 182, 1, 205, 42, 27, 28, 182, 1, 208, 78, 45, 185, 0, 136, 1, 0, 54, 4, 21, 4]
abbrev dktX1_leastSetup_0 : List UInt8 := dkwX1_leastSetup_0 ++ dktX1_leastSetup_1
theorem dksX1_leastSetup_0 : cX1_leastSetup.data.toList.drop 0 = dktX1_leastSetup_0 := by decide +kernel
theorem dksX1_leastSetup_1 : cX1_leastSetup.data.toList.drop 23 = dktX1_leastSetup_1 := dk_seg dksX1_leastSetup_0 23 rfl rfl
theorem dksX1_leastSetup_2 : cX1_leastSetup.data.toList.drop 46 = dktX1_leastSetup_2 := dk_seg dksX1_leastSetup_1 23 rfl rfl
theorem dksX1_leastSetup_3 : cX1_leastSetup.data.toList.drop 70 = dktX1_leastSetup_3 := dk_seg dksX1_leastSetup_2 24 rfl rfl
theorem dksX1_leastSetup_4 : cX1_leastSetup.data.toList.drop 93 = dktX1_leastSetup_4 := dk_seg dksX1_leastSetup_3 23 rfl rfl
theorem dksX1_leastSetup_5 : cX1_leastSetup.data.toList.drop 117 = dktX1_leastSetup_5 := dk_seg dksX1_leastSetup_4 24 rfl rfl
theorem dksX1_leastSetup_6 : cX1_leastSetup.data.toList.drop 141 = dktX1_leastSetup_6 := dk_seg dksX1_leastSetup_5 24 rfl rfl
theorem dksX1_leastSetup_7 : cX1_leastSetup.data.toList.drop 165 = dktX1_leastSetup_7 := dk_seg dksX1_leastSetup_6 24 rfl rfl
theorem dksX1_leastSetup_8 : cX1_leastSetup.data.toList.drop 188 = dktX1_leastSetup_8 := dk_seg dksX1_leastSetup_7 23 rfl rfl
theorem dksX1_leastSetup_9 : cX1_leastSetup.data.toList.drop 212 = dktX1_leastSetup_9 := dk_seg dksX1_leastSetup_8 24 rfl rfl
theorem dksX1_leastSetup_10 : cX1_leastSetup.data.toList.drop 236 = dktX1_leastSetup_10 := dk_seg dksX1_leastSetup_9 24 rfl rfl
theorem dksX1_leastSetup_11 : cX1_leastSetup.data.toList.drop 260 = dktX1_leastSetup_11 := dk_seg dksX1_leastSetup_10 24 rfl rfl
theorem dX1_leastSetup_0 : decode cX1_leastSetup 0 = .ok (.aload_n 0, 1) := dk_42 (dk_at dksX1_leastSetup_0 0 rfl rfl)
theorem dX1_leastSetup_1 : decode cX1_leastSetup 1 = .ok (.iload_n 1, 1) := dk_27 (dk_at dksX1_leastSetup_0 1 rfl rfl)
theorem dX1_leastSetup_2 : decode cX1_leastSetup 2 = .ok (.iload_n 2, 1) := dk_28 (dk_at dksX1_leastSetup_0 2 rfl rfl)
theorem dX1_leastSetup_3 : decode cX1_leastSetup 3 = .ok (.invokevirtual 461, 3) := dk_182 1 205 (dk_at dksX1_leastSetup_0 3 rfl rfl)
theorem dX1_leastSetup_6 : decode cX1_leastSetup 6 = .ok (.aload_n 0, 1) := dk_42 (dk_at dksX1_leastSetup_0 6 rfl rfl)
theorem dX1_leastSetup_7 : decode cX1_leastSetup 7 = .ok (.iload_n 1, 1) := dk_27 (dk_at dksX1_leastSetup_0 7 rfl rfl)
theorem dX1_leastSetup_8 : decode cX1_leastSetup 8 = .ok (.iload_n 2, 1) := dk_28 (dk_at dksX1_leastSetup_0 8 rfl rfl)
theorem dX1_leastSetup_9 : decode cX1_leastSetup 9 = .ok (.invokevirtual 464, 3) := dk_182 1 208 (dk_at dksX1_leastSetup_0 9 rfl rfl)
theorem dX1_leastSetup_12 : decode cX1_leastSetup 12 = .ok (.astore_n 3, 1) := dk_78 (dk_at dksX1_leastSetup_0 12 rfl rfl)
theorem dX1_leastSetup_13 : decode cX1_leastSetup 13 = .ok (.aload_n 3, 1) := dk_45 (dk_at dksX1_leastSetup_0 13 rfl rfl)
theorem dX1_leastSetup_14 : decode cX1_leastSetup 14 = .ok (.invokeinterface 136 1, 5) := by decide +kernel
theorem dX1_leastSetup_19 : decode cX1_leastSetup 19 = .ok (.istore 4, 2) := dk_54 4 (dk_at dksX1_leastSetup_0 19 rfl rfl)
theorem dX1_leastSetup_21 : decode cX1_leastSetup 21 = .ok (.iload 4, 2) := dk_21 4 (dk_at dksX1_leastSetup_0 21 rfl rfl)
theorem dX1_leastSetup_23 : decode cX1_leastSetup 23 = .ok (.bipush 8, 2) := dk_16 8 (dk_at dksX1_leastSetup_1 0 rfl rfl)
theorem dX1_leastSetup_25 : decode cX1_leastSetup 25 = .ok (.if_icmp .gt 7, 3) := dk_163 0 7 (dk_at dksX1_leastSetup_1 2 rfl rfl)
theorem dX1_leastSetup_28 : decode cX1_leastSetup 28 = .ok (.iconst 1, 1) := dk_4 (dk_at dksX1_leastSetup_1 5 rfl rfl)
theorem dX1_leastSetup_29 : decode cX1_leastSetup 29 = .ok (.goto 4, 3) := dk_167 0 4 (dk_at dksX1_leastSetup_1 6 rfl rfl)
theorem dX1_leastSetup_32 : decode cX1_leastSetup 32 = .ok (.iconst 0, 1) := dk_3 (dk_at dksX1_leastSetup_1 9 rfl rfl)
theorem dX1_leastSetup_33 : decode cX1_leastSetup 33 = .ok (.invokestatic 94, 3) := dk_184 0 94 (dk_at dksX1_leastSetup_1 10 rfl rfl)
theorem dX1_leastSetup_36 : decode cX1_leastSetup 36 = .ok (.iload 4, 2) := dk_21 4 (dk_at dksX1_leastSetup_1 13 rfl rfl)
theorem dX1_leastSetup_38 : decode cX1_leastSetup 38 = .ok (.iload 4, 2) := dk_21 4 (dk_at dksX1_leastSetup_1 15 rfl rfl)
theorem dX1_leastSetup_40 : decode cX1_leastSetup 40 = .ok (.ishl, 1) := dk_120 (dk_at dksX1_leastSetup_1 17 rfl rfl)
theorem dX1_leastSetup_41 : decode cX1_leastSetup 41 = .ok (.newarray .int, 2) := dk_188_10 (dk_at dksX1_leastSetup_1 18 rfl rfl)
theorem dX1_leastSetup_43 : decode cX1_leastSetup 43 = .ok (.astore 5, 2) := dk_58 5 (dk_at dksX1_leastSetup_1 20 rfl rfl)
theorem dX1_leastSetup_45 : decode cX1_leastSetup 45 = .ok (.iconst 1, 1) := dk_4 (dk_at dksX1_leastSetup_1 22 rfl rfl)
theorem dX1_leastSetup_46 : decode cX1_leastSetup 46 = .ok (.istore 6, 2) := dk_54 6 (dk_at dksX1_leastSetup_2 0 rfl rfl)
theorem dX1_leastSetup_48 : decode cX1_leastSetup 48 = .ok (.iload 6, 2) := dk_21 6 (dk_at dksX1_leastSetup_2 2 rfl rfl)
theorem dX1_leastSetup_50 : decode cX1_leastSetup 50 = .ok (.iconst 1, 1) := dk_4 (dk_at dksX1_leastSetup_2 4 rfl rfl)
theorem dX1_leastSetup_51 : decode cX1_leastSetup 51 = .ok (.iload 4, 2) := dk_21 4 (dk_at dksX1_leastSetup_2 5 rfl rfl)
theorem dX1_leastSetup_53 : decode cX1_leastSetup 53 = .ok (.ishl, 1) := dk_120 (dk_at dksX1_leastSetup_2 7 rfl rfl)
theorem dX1_leastSetup_54 : decode cX1_leastSetup 54 = .ok (.if_icmp .ge 152, 3) := dk_162 0 152 (dk_at dksX1_leastSetup_2 8 rfl rfl)
theorem dX1_leastSetup_57 : decode cX1_leastSetup 57 = .ok (.iconst 0, 1) := dk_3 (dk_at dksX1_leastSetup_2 11 rfl rfl)
theorem dX1_leastSetup_58 : decode cX1_leastSetup 58 = .ok (.istore 7, 2) := dk_54 7 (dk_at dksX1_leastSetup_2 12 rfl rfl)
theorem dX1_leastSetup_60 : decode cX1_leastSetup 60 = .ok (.iload 7, 2) := dk_21 7 (dk_at dksX1_leastSetup_2 14 rfl rfl)
theorem dX1_leastSetup_62 : decode cX1_leastSetup 62 = .ok (.iload 4, 2) := dk_21 4 (dk_at dksX1_leastSetup_2 16 rfl rfl)
theorem dX1_leastSetup_64 : decode cX1_leastSetup 64 = .ok (.if_icmp .ge 136, 3) := dk_162 0 136 (dk_at dksX1_leastSetup_2 18 rfl rfl)
theorem dX1_leastSetup_67 : decode cX1_leastSetup 67 = .ok (.iload 6, 2) := dk_21 6 (dk_at dksX1_leastSetup_2 21 rfl rfl)
theorem dX1_leastSetup_69 : decode cX1_leastSetup 69 = .ok (.iconst 1, 1) := dk_4 (dk_at dksX1_leastSetup_2 23 rfl rfl)
theorem dX1_leastSetup_70 : decode cX1_leastSetup 70 = .ok (.iload 7, 2) := dk_21 7 (dk_at dksX1_leastSetup_3 0 rfl rfl)
theorem dX1_leastSetup_72 : decode cX1_leastSetup 72 = .ok (.ishl, 1) := dk_120 (dk_at dksX1_leastSetup_3 2 rfl rfl)
theorem dX1_leastSetup_73 : decode cX1_leastSetup 73 = .ok (.iconst (-1), 1) := dk_2 (dk_at dksX1_leastSetup_3 3 rfl rfl)
theorem dX1_leastSetup_74 : decode cX1_leastSetup 74 = .ok (.ixor, 1) := dk_130 (dk_at dksX1_leastSetup_3 4 rfl rfl)
theorem dX1_leastSetup_75 : decode cX1_leastSetup 75 = .ok (.iand, 1) := dk_126 (dk_at dksX1_leastSetup_3 5 rfl rfl)
theorem dX1_leastSetup_76 : decode cX1_leastSetup 76 = .ok (.istore 8, 2) := dk_54 8 (dk_at dksX1_leastSetup_3 6 rfl rfl)
theorem dX1_leastSetup_78 : decode cX1_leastSetup 78 = .ok (.iload 8, 2) := dk_21 8 (dk_at dksX1_leastSetup_3 8 rfl rfl)
theorem dX1_leastSetup_80 : decode cX1_leastSetup 80 = .ok (.ifCond .ne 7, 3) := dk_154 0 7 (dk_at dksX1_leastSetup_3 10 rfl rfl)
theorem dX1_leastSetup_83 : decode cX1_leastSetup 83 = .ok (.iconst 0, 1) := dk_3 (dk_at dksX1_leastSetup_3 13 rfl rfl)
theorem dX1_leastSetup_84 : decode cX1_leastSetup 84 = .ok (.goto 6, 3) := dk_167 0 6 (dk_at dksX1_leastSetup_3 14 rfl rfl)
theorem dX1_leastSetup_87 : decode cX1_leastSetup 87 = .ok (.ldc_w 478, 3) := dk_19 1 222 (dk_at dksX1_leastSetup_3 17 rfl rfl)
theorem dX1_leastSetup_90 : decode cX1_leastSetup 90 = .ok (.istore 9, 2) := dk_54 9 (dk_at dksX1_leastSetup_3 20 rfl rfl)
theorem dX1_leastSetup_92 : decode cX1_leastSetup 92 = .ok (.iconst 0, 1) := dk_3 (dk_at dksX1_leastSetup_3 22 rfl rfl)
theorem dX1_leastSetup_93 : decode cX1_leastSetup 93 = .ok (.istore 10, 2) := dk_54 10 (dk_at dksX1_leastSetup_4 0 rfl rfl)
theorem dX1_leastSetup_95 : decode cX1_leastSetup 95 = .ok (.iload 10, 2) := dk_21 10 (dk_at dksX1_leastSetup_4 2 rfl rfl)
theorem dX1_leastSetup_97 : decode cX1_leastSetup 97 = .ok (.iload 4, 2) := dk_21 4 (dk_at dksX1_leastSetup_4 4 rfl rfl)
theorem dX1_leastSetup_99 : decode cX1_leastSetup 99 = .ok (.if_icmp .ge 82, 3) := dk_162 0 82 (dk_at dksX1_leastSetup_4 6 rfl rfl)
theorem dX1_leastSetup_102 : decode cX1_leastSetup 102 = .ok (.iload 8, 2) := dk_21 8 (dk_at dksX1_leastSetup_4 9 rfl rfl)
theorem dX1_leastSetup_104 : decode cX1_leastSetup 104 = .ok (.iload 10, 2) := dk_21 10 (dk_at dksX1_leastSetup_4 11 rfl rfl)
theorem dX1_leastSetup_106 : decode cX1_leastSetup 106 = .ok (.ishr, 1) := dk_122 (dk_at dksX1_leastSetup_4 13 rfl rfl)
theorem dX1_leastSetup_107 : decode cX1_leastSetup 107 = .ok (.iconst 1, 1) := dk_4 (dk_at dksX1_leastSetup_4 14 rfl rfl)
theorem dX1_leastSetup_108 : decode cX1_leastSetup 108 = .ok (.iand, 1) := dk_126 (dk_at dksX1_leastSetup_4 15 rfl rfl)
theorem dX1_leastSetup_109 : decode cX1_leastSetup 109 = .ok (.iconst 1, 1) := dk_4 (dk_at dksX1_leastSetup_4 16 rfl rfl)
theorem dX1_leastSetup_110 : decode cX1_leastSetup 110 = .ok (.if_icmp .ne 65, 3) := dk_160 0 65 (dk_at dksX1_leastSetup_4 17 rfl rfl)
theorem dX1_leastSetup_113 : decode cX1_leastSetup 113 = .ok (.iload 9, 2) := dk_21 9 (dk_at dksX1_leastSetup_4 20 rfl rfl)
theorem dX1_leastSetup_115 : decode cX1_leastSetup 115 = .ok (.aload 5, 2) := dk_25 5 (dk_at dksX1_leastSetup_4 22 rfl rfl)
theorem dX1_leastSetup_117 : decode cX1_leastSetup 117 = .ok (.iload 4, 2) := dk_21 4 (dk_at dksX1_leastSetup_5 0 rfl rfl)
theorem dX1_leastSetup_119 : decode cX1_leastSetup 119 = .ok (.iload 8, 2) := dk_21 8 (dk_at dksX1_leastSetup_5 2 rfl rfl)
theorem dX1_leastSetup_121 : decode cX1_leastSetup 121 = .ok (.imul, 1) := dk_104 (dk_at dksX1_leastSetup_5 4 rfl rfl)
theorem dX1_leastSetup_122 : decode cX1_leastSetup 122 = .ok (.iload 10, 2) := dk_21 10 (dk_at dksX1_leastSetup_5 5 rfl rfl)
theorem dX1_leastSetup_124 : decode cX1_leastSetup 124 = .ok (.iadd, 1) := dk_96 (dk_at dksX1_leastSetup_5 7 rfl rfl)
theorem dX1_leastSetup_125 : decode cX1_leastSetup 125 = .ok (.iaload, 1) := dk_46 (dk_at dksX1_leastSetup_5 8 rfl rfl)
theorem dX1_leastSetup_126 : decode cX1_leastSetup 126 = .ok (.aload_n 0, 1) := dk_42 (dk_at dksX1_leastSetup_5 9 rfl rfl)
theorem dX1_leastSetup_127 : decode cX1_leastSetup 127 = .ok (.getfield 16, 3) := dk_180 0 16 (dk_at dksX1_leastSetup_5 10 rfl rfl)
theorem dX1_leastSetup_130 : decode cX1_leastSetup 130 = .ok (.getfield 185, 3) := dk_180 0 185 (dk_at dksX1_leastSetup_5 13 rfl rfl)
theorem dX1_leastSetup_133 : decode cX1_leastSetup 133 = .ok (.aload_n 3, 1) := dk_45 (dk_at dksX1_leastSetup_5 16 rfl rfl)
theorem dX1_leastSetup_134 : decode cX1_leastSetup 134 = .ok (.iload 10, 2) := dk_21 10 (dk_at dksX1_leastSetup_5 17 rfl rfl)
theorem dX1_leastSetup_136 : decode cX1_leastSetup 136 = .ok (.invokeinterface 164 2, 5) := by decide +kernel
theorem dX1_leastSetup_141 : decode cX1_leastSetup 141 = .ok (.checkcast 62, 3) := dk_192 0 62 (dk_at dksX1_leastSetup_6 0 rfl rfl)
theorem dX1_leastSetup_144 : decode cX1_leastSetup 144 = .ok (.getfield 189, 3) := dk_180 0 189 (dk_at dksX1_leastSetup_6 3 rfl rfl)
theorem dX1_leastSetup_147 : decode cX1_leastSetup 147 = .ok (.getfield 192, 3) := dk_180 0 192 (dk_at dksX1_leastSetup_6 6 rfl rfl)
theorem dX1_leastSetup_150 : decode cX1_leastSetup 150 = .ok (.aaload, 1) := dk_50 (dk_at dksX1_leastSetup_6 9 rfl rfl)
theorem dX1_leastSetup_151 : decode cX1_leastSetup 151 = .ok (.aload_n 3, 1) := dk_45 (dk_at dksX1_leastSetup_6 10 rfl rfl)
theorem dX1_leastSetup_152 : decode cX1_leastSetup 152 = .ok (.iload 7, 2) := dk_21 7 (dk_at dksX1_leastSetup_6 11 rfl rfl)
theorem dX1_leastSetup_154 : decode cX1_leastSetup 154 = .ok (.invokeinterface 164 2, 5) := by decide +kernel
theorem dX1_leastSetup_159 : decode cX1_leastSetup 159 = .ok (.checkcast 62, 3) := dk_192 0 62 (dk_at dksX1_leastSetup_6 18 rfl rfl)
theorem dX1_leastSetup_162 : decode cX1_leastSetup 162 = .ok (.getfield 189, 3) := dk_180 0 189 (dk_at dksX1_leastSetup_6 21 rfl rfl)
theorem dX1_leastSetup_165 : decode cX1_leastSetup 165 = .ok (.getfield 192, 3) := dk_180 0 192 (dk_at dksX1_leastSetup_7 0 rfl rfl)
theorem dX1_leastSetup_168 : decode cX1_leastSetup 168 = .ok (.iaload, 1) := dk_46 (dk_at dksX1_leastSetup_7 3 rfl rfl)
theorem dX1_leastSetup_169 : decode cX1_leastSetup 169 = .ok (.iadd, 1) := dk_96 (dk_at dksX1_leastSetup_7 4 rfl rfl)
theorem dX1_leastSetup_170 : decode cX1_leastSetup 170 = .ok (.invokestatic 237, 3) := dk_184 0 237 (dk_at dksX1_leastSetup_7 5 rfl rfl)
theorem dX1_leastSetup_173 : decode cX1_leastSetup 173 = .ok (.istore 9, 2) := dk_54 9 (dk_at dksX1_leastSetup_7 8 rfl rfl)
theorem dX1_leastSetup_175 : decode cX1_leastSetup 175 = .ok (.iinc 10 1, 3) := dk_132 10 1 (dk_at dksX1_leastSetup_7 10 rfl rfl)
theorem dX1_leastSetup_178 : decode cX1_leastSetup 178 = .ok (.goto (-83), 3) := dk_167 255 173 (dk_at dksX1_leastSetup_7 13 rfl rfl)
theorem dX1_leastSetup_181 : decode cX1_leastSetup 181 = .ok (.aload 5, 2) := dk_25 5 (dk_at dksX1_leastSetup_7 16 rfl rfl)
theorem dX1_leastSetup_183 : decode cX1_leastSetup 183 = .ok (.iload 4, 2) := dk_21 4 (dk_at dksX1_leastSetup_7 18 rfl rfl)
theorem dX1_leastSetup_185 : decode cX1_leastSetup 185 = .ok (.iload 6, 2) := dk_21 6 (dk_at dksX1_leastSetup_7 20 rfl rfl)
theorem dX1_leastSetup_187 : decode cX1_leastSetup 187 = .ok (.imul, 1) := dk_104 (dk_at dksX1_leastSetup_7 22 rfl rfl)
theorem dX1_leastSetup_188 : decode cX1_leastSetup 188 = .ok (.iload 7, 2) := dk_21 7 (dk_at dksX1_leastSetup_8 0 rfl rfl)
theorem dX1_leastSetup_190 : decode cX1_leastSetup 190 = .ok (.iadd, 1) := dk_96 (dk_at dksX1_leastSetup_8 2 rfl rfl)
theorem dX1_leastSetup_191 : decode cX1_leastSetup 191 = .ok (.iload 9, 2) := dk_21 9 (dk_at dksX1_leastSetup_8 3 rfl rfl)
theorem dX1_leastSetup_193 : decode cX1_leastSetup 193 = .ok (.iastore, 1) := dk_79 (dk_at dksX1_leastSetup_8 5 rfl rfl)
theorem dX1_leastSetup_194 : decode cX1_leastSetup 194 = .ok (.iinc 7 1, 3) := dk_132 7 1 (dk_at dksX1_leastSetup_8 6 rfl rfl)
theorem dX1_leastSetup_197 : decode cX1_leastSetup 197 = .ok (.goto (-137), 3) := dk_167 255 119 (dk_at dksX1_leastSetup_8 9 rfl rfl)
theorem dX1_leastSetup_200 : decode cX1_leastSetup 200 = .ok (.iinc 6 1, 3) := dk_132 6 1 (dk_at dksX1_leastSetup_8 12 rfl rfl)
theorem dX1_leastSetup_203 : decode cX1_leastSetup 203 = .ok (.goto (-155), 3) := dk_167 255 101 (dk_at dksX1_leastSetup_8 15 rfl rfl)
theorem dX1_leastSetup_206 : decode cX1_leastSetup 206 = .ok (.iload 4, 2) := dk_21 4 (dk_at dksX1_leastSetup_8 18 rfl rfl)
theorem dX1_leastSetup_208 : decode cX1_leastSetup 208 = .ok (.ifCond .ne 7, 3) := dk_154 0 7 (dk_at dksX1_leastSetup_8 20 rfl rfl)
theorem dX1_leastSetup_211 : decode cX1_leastSetup 211 = .ok (.iconst 0, 1) := dk_3 (dk_at dksX1_leastSetup_8 23 rfl rfl)
theorem dX1_leastSetup_212 : decode cX1_leastSetup 212 = .ok (.goto 6, 3) := dk_167 0 6 (dk_at dksX1_leastSetup_9 0 rfl rfl)
theorem dX1_leastSetup_215 : decode cX1_leastSetup 215 = .ok (.ldc_w 478, 3) := dk_19 1 222 (dk_at dksX1_leastSetup_9 3 rfl rfl)
theorem dX1_leastSetup_218 : decode cX1_leastSetup 218 = .ok (.istore 6, 2) := dk_54 6 (dk_at dksX1_leastSetup_9 6 rfl rfl)
theorem dX1_leastSetup_220 : decode cX1_leastSetup 220 = .ok (.iconst 0, 1) := dk_3 (dk_at dksX1_leastSetup_9 8 rfl rfl)
theorem dX1_leastSetup_221 : decode cX1_leastSetup 221 = .ok (.istore 7, 2) := dk_54 7 (dk_at dksX1_leastSetup_9 9 rfl rfl)
theorem dX1_leastSetup_223 : decode cX1_leastSetup 223 = .ok (.iload 7, 2) := dk_21 7 (dk_at dksX1_leastSetup_9 11 rfl rfl)
theorem dX1_leastSetup_225 : decode cX1_leastSetup 225 = .ok (.iload 4, 2) := dk_21 4 (dk_at dksX1_leastSetup_9 13 rfl rfl)
theorem dX1_leastSetup_227 : decode cX1_leastSetup 227 = .ok (.if_icmp .ge 31, 3) := dk_162 0 31 (dk_at dksX1_leastSetup_9 15 rfl rfl)
theorem dX1_leastSetup_230 : decode cX1_leastSetup 230 = .ok (.iload 6, 2) := dk_21 6 (dk_at dksX1_leastSetup_9 18 rfl rfl)
theorem dX1_leastSetup_232 : decode cX1_leastSetup 232 = .ok (.aload 5, 2) := dk_25 5 (dk_at dksX1_leastSetup_9 20 rfl rfl)
theorem dX1_leastSetup_234 : decode cX1_leastSetup 234 = .ok (.iload 4, 2) := dk_21 4 (dk_at dksX1_leastSetup_9 22 rfl rfl)
theorem dX1_leastSetup_236 : decode cX1_leastSetup 236 = .ok (.iconst 1, 1) := dk_4 (dk_at dksX1_leastSetup_10 0 rfl rfl)
theorem dX1_leastSetup_237 : decode cX1_leastSetup 237 = .ok (.iload 4, 2) := dk_21 4 (dk_at dksX1_leastSetup_10 1 rfl rfl)
theorem dX1_leastSetup_239 : decode cX1_leastSetup 239 = .ok (.ishl, 1) := dk_120 (dk_at dksX1_leastSetup_10 3 rfl rfl)
theorem dX1_leastSetup_240 : decode cX1_leastSetup 240 = .ok (.iconst 1, 1) := dk_4 (dk_at dksX1_leastSetup_10 4 rfl rfl)
theorem dX1_leastSetup_241 : decode cX1_leastSetup 241 = .ok (.isub, 1) := dk_100 (dk_at dksX1_leastSetup_10 5 rfl rfl)
theorem dX1_leastSetup_242 : decode cX1_leastSetup 242 = .ok (.imul, 1) := dk_104 (dk_at dksX1_leastSetup_10 6 rfl rfl)
theorem dX1_leastSetup_243 : decode cX1_leastSetup 243 = .ok (.iload 7, 2) := dk_21 7 (dk_at dksX1_leastSetup_10 7 rfl rfl)
theorem dX1_leastSetup_245 : decode cX1_leastSetup 245 = .ok (.iadd, 1) := dk_96 (dk_at dksX1_leastSetup_10 9 rfl rfl)
theorem dX1_leastSetup_246 : decode cX1_leastSetup 246 = .ok (.iaload, 1) := dk_46 (dk_at dksX1_leastSetup_10 10 rfl rfl)
theorem dX1_leastSetup_247 : decode cX1_leastSetup 247 = .ok (.invokestatic 237, 3) := dk_184 0 237 (dk_at dksX1_leastSetup_10 11 rfl rfl)
theorem dX1_leastSetup_250 : decode cX1_leastSetup 250 = .ok (.istore 6, 2) := dk_54 6 (dk_at dksX1_leastSetup_10 14 rfl rfl)
theorem dX1_leastSetup_252 : decode cX1_leastSetup 252 = .ok (.iinc 7 1, 3) := dk_132 7 1 (dk_at dksX1_leastSetup_10 16 rfl rfl)
theorem dX1_leastSetup_255 : decode cX1_leastSetup 255 = .ok (.goto (-32), 3) := dk_167 255 224 (dk_at dksX1_leastSetup_10 19 rfl rfl)
theorem dX1_leastSetup_258 : decode cX1_leastSetup 258 = .ok (.iload 6, 2) := dk_21 6 (dk_at dksX1_leastSetup_10 22 rfl rfl)
theorem dX1_leastSetup_260 : decode cX1_leastSetup 260 = .ok (.ireturn, 1) := dk_172 (dk_at dksX1_leastSetup_11 0 rfl rfl)
abbrev cX1_nextBooking : ByteArray := prog_1_method_85_code
def yX1_nextBooking : MethodName := ⟨RX1, "nextBooking", "(II)I"⟩
def dkwX1_nextBooking_4 : List UInt8 := [132, 4, 1, 167, 255, 178, 29, 2, 159, 0, 7, 4, 167, 0, 4, 3, 184, 1, 82, 29, 172]
abbrev dktX1_nextBooking_4 : List UInt8 := dkwX1_nextBooking_4 ++ []
def dkwX1_nextBooking_3 : List UInt8 := [29, 2, 159, 0, 19, 25, 5, 180, 0, 201, 42, 29, 182, 0, 204, 180, 0, 201, 162, 0, 6, 21, 4, 62]
abbrev dktX1_nextBooking_3 : List UInt8 := dkwX1_nextBooking_3 ++ dktX1_nextBooking_4
def dkwX1_nextBooking_2 : List UInt8 := [180, 1, 36, 153, 0, 45, 25, 5, 180, 0, 212, 27, 160, 0, 36, 25, 5, 180, 0, 201, 28, 161, 0, 27]
abbrev dktX1_nextBooking_2 : List UInt8 := dkwX1_nextBooking_2 ++ dktX1_nextBooking_3
def dkwX1_nextBooking_1 : List UInt8 := [180, 0, 25, 180, 0, 160, 185, 0, 136, 1, 0, 162, 0, 67, 42, 21, 4, 182, 0, 204, 58, 5, 25, 5]
abbrev dktX1_nextBooking_1 : List UInt8 := dkwX1_nextBooking_1 ++ dktX1_nextBooking_2
def dkwX1_nextBooking_0 : List UInt8 := [42, 27, 182, 1, 65, 184, 1, 33, 28, 184, 1, 178, 184, 0, 102, 2, 62, 3, 54, 4, 21, 4, 42]
abbrev dktX1_nextBooking_0 : List UInt8 := dkwX1_nextBooking_0 ++ dktX1_nextBooking_1
theorem dksX1_nextBooking_0 : cX1_nextBooking.data.toList.drop 0 = dktX1_nextBooking_0 := by decide +kernel
theorem dksX1_nextBooking_1 : cX1_nextBooking.data.toList.drop 23 = dktX1_nextBooking_1 := dk_seg dksX1_nextBooking_0 23 rfl rfl
theorem dksX1_nextBooking_2 : cX1_nextBooking.data.toList.drop 47 = dktX1_nextBooking_2 := dk_seg dksX1_nextBooking_1 24 rfl rfl
theorem dksX1_nextBooking_3 : cX1_nextBooking.data.toList.drop 71 = dktX1_nextBooking_3 := dk_seg dksX1_nextBooking_2 24 rfl rfl
theorem dksX1_nextBooking_4 : cX1_nextBooking.data.toList.drop 95 = dktX1_nextBooking_4 := dk_seg dksX1_nextBooking_3 24 rfl rfl
theorem dX1_nextBooking_0 : decode cX1_nextBooking 0 = .ok (.aload_n 0, 1) := dk_42 (dk_at dksX1_nextBooking_0 0 rfl rfl)
theorem dX1_nextBooking_1 : decode cX1_nextBooking 1 = .ok (.iload_n 1, 1) := dk_27 (dk_at dksX1_nextBooking_0 1 rfl rfl)
theorem dX1_nextBooking_2 : decode cX1_nextBooking 2 = .ok (.invokevirtual 321, 3) := dk_182 1 65 (dk_at dksX1_nextBooking_0 2 rfl rfl)
theorem dX1_nextBooking_5 : decode cX1_nextBooking 5 = .ok (.invokestatic 289, 3) := dk_184 1 33 (dk_at dksX1_nextBooking_0 5 rfl rfl)
theorem dX1_nextBooking_8 : decode cX1_nextBooking 8 = .ok (.iload_n 2, 1) := dk_28 (dk_at dksX1_nextBooking_0 8 rfl rfl)
theorem dX1_nextBooking_9 : decode cX1_nextBooking 9 = .ok (.invokestatic 434, 3) := dk_184 1 178 (dk_at dksX1_nextBooking_0 9 rfl rfl)
theorem dX1_nextBooking_12 : decode cX1_nextBooking 12 = .ok (.invokestatic 102, 3) := dk_184 0 102 (dk_at dksX1_nextBooking_0 12 rfl rfl)
theorem dX1_nextBooking_15 : decode cX1_nextBooking 15 = .ok (.iconst (-1), 1) := dk_2 (dk_at dksX1_nextBooking_0 15 rfl rfl)
theorem dX1_nextBooking_16 : decode cX1_nextBooking 16 = .ok (.istore_n 3, 1) := dk_62 (dk_at dksX1_nextBooking_0 16 rfl rfl)
theorem dX1_nextBooking_17 : decode cX1_nextBooking 17 = .ok (.iconst 0, 1) := dk_3 (dk_at dksX1_nextBooking_0 17 rfl rfl)
theorem dX1_nextBooking_18 : decode cX1_nextBooking 18 = .ok (.istore 4, 2) := dk_54 4 (dk_at dksX1_nextBooking_0 18 rfl rfl)
theorem dX1_nextBooking_20 : decode cX1_nextBooking 20 = .ok (.iload 4, 2) := dk_21 4 (dk_at dksX1_nextBooking_0 20 rfl rfl)
theorem dX1_nextBooking_22 : decode cX1_nextBooking 22 = .ok (.aload_n 0, 1) := dk_42 (dk_at dksX1_nextBooking_0 22 rfl rfl)
theorem dX1_nextBooking_23 : decode cX1_nextBooking 23 = .ok (.getfield 25, 3) := dk_180 0 25 (dk_at dksX1_nextBooking_1 0 rfl rfl)
theorem dX1_nextBooking_26 : decode cX1_nextBooking 26 = .ok (.getfield 160, 3) := dk_180 0 160 (dk_at dksX1_nextBooking_1 3 rfl rfl)
theorem dX1_nextBooking_29 : decode cX1_nextBooking 29 = .ok (.invokeinterface 136 1, 5) := by decide +kernel
theorem dX1_nextBooking_34 : decode cX1_nextBooking 34 = .ok (.if_icmp .ge 67, 3) := dk_162 0 67 (dk_at dksX1_nextBooking_1 11 rfl rfl)
theorem dX1_nextBooking_37 : decode cX1_nextBooking 37 = .ok (.aload_n 0, 1) := dk_42 (dk_at dksX1_nextBooking_1 14 rfl rfl)
theorem dX1_nextBooking_38 : decode cX1_nextBooking 38 = .ok (.iload 4, 2) := dk_21 4 (dk_at dksX1_nextBooking_1 15 rfl rfl)
theorem dX1_nextBooking_40 : decode cX1_nextBooking 40 = .ok (.invokevirtual 204, 3) := dk_182 0 204 (dk_at dksX1_nextBooking_1 17 rfl rfl)
theorem dX1_nextBooking_43 : decode cX1_nextBooking 43 = .ok (.astore 5, 2) := dk_58 5 (dk_at dksX1_nextBooking_1 20 rfl rfl)
theorem dX1_nextBooking_45 : decode cX1_nextBooking 45 = .ok (.aload 5, 2) := dk_25 5 (dk_at dksX1_nextBooking_1 22 rfl rfl)
theorem dX1_nextBooking_47 : decode cX1_nextBooking 47 = .ok (.getfield 292, 3) := dk_180 1 36 (dk_at dksX1_nextBooking_2 0 rfl rfl)
theorem dX1_nextBooking_50 : decode cX1_nextBooking 50 = .ok (.ifCond .eq 45, 3) := dk_153 0 45 (dk_at dksX1_nextBooking_2 3 rfl rfl)
theorem dX1_nextBooking_53 : decode cX1_nextBooking 53 = .ok (.aload 5, 2) := dk_25 5 (dk_at dksX1_nextBooking_2 6 rfl rfl)
theorem dX1_nextBooking_55 : decode cX1_nextBooking 55 = .ok (.getfield 212, 3) := dk_180 0 212 (dk_at dksX1_nextBooking_2 8 rfl rfl)
theorem dX1_nextBooking_58 : decode cX1_nextBooking 58 = .ok (.iload_n 1, 1) := dk_27 (dk_at dksX1_nextBooking_2 11 rfl rfl)
theorem dX1_nextBooking_59 : decode cX1_nextBooking 59 = .ok (.if_icmp .ne 36, 3) := dk_160 0 36 (dk_at dksX1_nextBooking_2 12 rfl rfl)
theorem dX1_nextBooking_62 : decode cX1_nextBooking 62 = .ok (.aload 5, 2) := dk_25 5 (dk_at dksX1_nextBooking_2 15 rfl rfl)
theorem dX1_nextBooking_64 : decode cX1_nextBooking 64 = .ok (.getfield 201, 3) := dk_180 0 201 (dk_at dksX1_nextBooking_2 17 rfl rfl)
theorem dX1_nextBooking_67 : decode cX1_nextBooking 67 = .ok (.iload_n 2, 1) := dk_28 (dk_at dksX1_nextBooking_2 20 rfl rfl)
theorem dX1_nextBooking_68 : decode cX1_nextBooking 68 = .ok (.if_icmp .lt 27, 3) := dk_161 0 27 (dk_at dksX1_nextBooking_2 21 rfl rfl)
theorem dX1_nextBooking_71 : decode cX1_nextBooking 71 = .ok (.iload_n 3, 1) := dk_29 (dk_at dksX1_nextBooking_3 0 rfl rfl)
theorem dX1_nextBooking_72 : decode cX1_nextBooking 72 = .ok (.iconst (-1), 1) := dk_2 (dk_at dksX1_nextBooking_3 1 rfl rfl)
theorem dX1_nextBooking_73 : decode cX1_nextBooking 73 = .ok (.if_icmp .eq 19, 3) := dk_159 0 19 (dk_at dksX1_nextBooking_3 2 rfl rfl)
theorem dX1_nextBooking_76 : decode cX1_nextBooking 76 = .ok (.aload 5, 2) := dk_25 5 (dk_at dksX1_nextBooking_3 5 rfl rfl)
theorem dX1_nextBooking_78 : decode cX1_nextBooking 78 = .ok (.getfield 201, 3) := dk_180 0 201 (dk_at dksX1_nextBooking_3 7 rfl rfl)
theorem dX1_nextBooking_81 : decode cX1_nextBooking 81 = .ok (.aload_n 0, 1) := dk_42 (dk_at dksX1_nextBooking_3 10 rfl rfl)
theorem dX1_nextBooking_82 : decode cX1_nextBooking 82 = .ok (.iload_n 3, 1) := dk_29 (dk_at dksX1_nextBooking_3 11 rfl rfl)
theorem dX1_nextBooking_83 : decode cX1_nextBooking 83 = .ok (.invokevirtual 204, 3) := dk_182 0 204 (dk_at dksX1_nextBooking_3 12 rfl rfl)
theorem dX1_nextBooking_86 : decode cX1_nextBooking 86 = .ok (.getfield 201, 3) := dk_180 0 201 (dk_at dksX1_nextBooking_3 15 rfl rfl)
theorem dX1_nextBooking_89 : decode cX1_nextBooking 89 = .ok (.if_icmp .ge 6, 3) := dk_162 0 6 (dk_at dksX1_nextBooking_3 18 rfl rfl)
theorem dX1_nextBooking_92 : decode cX1_nextBooking 92 = .ok (.iload 4, 2) := dk_21 4 (dk_at dksX1_nextBooking_3 21 rfl rfl)
theorem dX1_nextBooking_94 : decode cX1_nextBooking 94 = .ok (.istore_n 3, 1) := dk_62 (dk_at dksX1_nextBooking_3 23 rfl rfl)
theorem dX1_nextBooking_95 : decode cX1_nextBooking 95 = .ok (.iinc 4 1, 3) := dk_132 4 1 (dk_at dksX1_nextBooking_4 0 rfl rfl)
theorem dX1_nextBooking_98 : decode cX1_nextBooking 98 = .ok (.goto (-78), 3) := dk_167 255 178 (dk_at dksX1_nextBooking_4 3 rfl rfl)
theorem dX1_nextBooking_101 : decode cX1_nextBooking 101 = .ok (.iload_n 3, 1) := dk_29 (dk_at dksX1_nextBooking_4 6 rfl rfl)
theorem dX1_nextBooking_102 : decode cX1_nextBooking 102 = .ok (.iconst (-1), 1) := dk_2 (dk_at dksX1_nextBooking_4 7 rfl rfl)
theorem dX1_nextBooking_103 : decode cX1_nextBooking 103 = .ok (.if_icmp .eq 7, 3) := dk_159 0 7 (dk_at dksX1_nextBooking_4 8 rfl rfl)
theorem dX1_nextBooking_106 : decode cX1_nextBooking 106 = .ok (.iconst 1, 1) := dk_4 (dk_at dksX1_nextBooking_4 11 rfl rfl)
theorem dX1_nextBooking_107 : decode cX1_nextBooking 107 = .ok (.goto 4, 3) := dk_167 0 4 (dk_at dksX1_nextBooking_4 12 rfl rfl)
theorem dX1_nextBooking_110 : decode cX1_nextBooking 110 = .ok (.iconst 0, 1) := dk_3 (dk_at dksX1_nextBooking_4 15 rfl rfl)
theorem dX1_nextBooking_111 : decode cX1_nextBooking 111 = .ok (.invokestatic 338, 3) := dk_184 1 82 (dk_at dksX1_nextBooking_4 16 rfl rfl)
theorem dX1_nextBooking_114 : decode cX1_nextBooking 114 = .ok (.iload_n 3, 1) := dk_29 (dk_at dksX1_nextBooking_4 19 rfl rfl)
theorem dX1_nextBooking_115 : decode cX1_nextBooking 115 = .ok (.ireturn, 1) := dk_172 (dk_at dksX1_nextBooking_4 20 rfl rfl)
abbrev cX1_undo : ByteArray := prog_1_method_86_code
def yX1_undo : MethodName := ⟨RX1, "undo", "()I"⟩
def dkwX1_undo_1 : List UInt8 := [182, 1, 226, 192, 0, 20, 181, 0, 25, 42, 180, 0, 39, 182, 0, 142, 172]
abbrev dktX1_undo_1 : List UInt8 := dkwX1_undo_1 ++ []
def dkwX1_undo_0 : List UInt8 := [42, 180, 0, 39, 182, 1, 223, 154, 0, 7, 4, 167, 0, 4, 3, 184, 0, 94, 42, 42, 180, 0, 39]
abbrev dktX1_undo_0 : List UInt8 := dkwX1_undo_0 ++ dktX1_undo_1
theorem dksX1_undo_0 : cX1_undo.data.toList.drop 0 = dktX1_undo_0 := by decide +kernel
theorem dksX1_undo_1 : cX1_undo.data.toList.drop 23 = dktX1_undo_1 := dk_seg dksX1_undo_0 23 rfl rfl
theorem dX1_undo_0 : decode cX1_undo 0 = .ok (.aload_n 0, 1) := dk_42 (dk_at dksX1_undo_0 0 rfl rfl)
theorem dX1_undo_1 : decode cX1_undo 1 = .ok (.getfield 39, 3) := dk_180 0 39 (dk_at dksX1_undo_0 1 rfl rfl)
theorem dX1_undo_4 : decode cX1_undo 4 = .ok (.invokevirtual 479, 3) := dk_182 1 223 (dk_at dksX1_undo_0 4 rfl rfl)
theorem dX1_undo_7 : decode cX1_undo 7 = .ok (.ifCond .ne 7, 3) := dk_154 0 7 (dk_at dksX1_undo_0 7 rfl rfl)
theorem dX1_undo_10 : decode cX1_undo 10 = .ok (.iconst 1, 1) := dk_4 (dk_at dksX1_undo_0 10 rfl rfl)
theorem dX1_undo_11 : decode cX1_undo 11 = .ok (.goto 4, 3) := dk_167 0 4 (dk_at dksX1_undo_0 11 rfl rfl)
theorem dX1_undo_14 : decode cX1_undo 14 = .ok (.iconst 0, 1) := dk_3 (dk_at dksX1_undo_0 14 rfl rfl)
theorem dX1_undo_15 : decode cX1_undo 15 = .ok (.invokestatic 94, 3) := dk_184 0 94 (dk_at dksX1_undo_0 15 rfl rfl)
theorem dX1_undo_18 : decode cX1_undo 18 = .ok (.aload_n 0, 1) := dk_42 (dk_at dksX1_undo_0 18 rfl rfl)
theorem dX1_undo_19 : decode cX1_undo 19 = .ok (.aload_n 0, 1) := dk_42 (dk_at dksX1_undo_0 19 rfl rfl)
theorem dX1_undo_20 : decode cX1_undo 20 = .ok (.getfield 39, 3) := dk_180 0 39 (dk_at dksX1_undo_0 20 rfl rfl)
theorem dX1_undo_23 : decode cX1_undo 23 = .ok (.invokevirtual 482, 3) := dk_182 1 226 (dk_at dksX1_undo_1 0 rfl rfl)
theorem dX1_undo_26 : decode cX1_undo 26 = .ok (.checkcast 20, 3) := dk_192 0 20 (dk_at dksX1_undo_1 3 rfl rfl)
theorem dX1_undo_29 : decode cX1_undo 29 = .ok (.putfield 25, 3) := dk_181 0 25 (dk_at dksX1_undo_1 6 rfl rfl)
theorem dX1_undo_32 : decode cX1_undo 32 = .ok (.aload_n 0, 1) := dk_42 (dk_at dksX1_undo_1 9 rfl rfl)
theorem dX1_undo_33 : decode cX1_undo 33 = .ok (.getfield 39, 3) := dk_180 0 39 (dk_at dksX1_undo_1 10 rfl rfl)
theorem dX1_undo_36 : decode cX1_undo 36 = .ok (.invokevirtual 142, 3) := dk_182 0 142 (dk_at dksX1_undo_1 13 rfl rfl)
theorem dX1_undo_39 : decode cX1_undo 39 = .ok (.ireturn, 1) := dk_172 (dk_at dksX1_undo_1 16 rfl rfl)
abbrev cX1_restore : ByteArray := prog_1_method_89_code
def yX1_restore : MethodName := ⟨RX1, "restore", "()I"⟩
def dkwX1_restore_1 : List UInt8 := [183, 0, 147, 181, 0, 25, 42, 180, 0, 39, 182, 0, 129, 42, 180, 0, 25, 180, 1, 16, 172]
abbrev dktX1_restore_1 : List UInt8 := dkwX1_restore_1 ++ []
def dkwX1_restore_0 : List UInt8 := [42, 180, 0, 126, 198, 0, 7, 4, 167, 0, 4, 3, 184, 0, 94, 42, 187, 0, 20, 89, 42, 180, 0, 126]
abbrev dktX1_restore_0 : List UInt8 := dkwX1_restore_0 ++ dktX1_restore_1
theorem dksX1_restore_0 : cX1_restore.data.toList.drop 0 = dktX1_restore_0 := by decide +kernel
theorem dksX1_restore_1 : cX1_restore.data.toList.drop 24 = dktX1_restore_1 := dk_seg dksX1_restore_0 24 rfl rfl
theorem dX1_restore_0 : decode cX1_restore 0 = .ok (.aload_n 0, 1) := dk_42 (dk_at dksX1_restore_0 0 rfl rfl)
theorem dX1_restore_1 : decode cX1_restore 1 = .ok (.getfield 126, 3) := dk_180 0 126 (dk_at dksX1_restore_0 1 rfl rfl)
theorem dX1_restore_4 : decode cX1_restore 4 = .ok (.ifnull 7, 3) := dk_198 0 7 (dk_at dksX1_restore_0 4 rfl rfl)
theorem dX1_restore_7 : decode cX1_restore 7 = .ok (.iconst 1, 1) := dk_4 (dk_at dksX1_restore_0 7 rfl rfl)
theorem dX1_restore_8 : decode cX1_restore 8 = .ok (.goto 4, 3) := dk_167 0 4 (dk_at dksX1_restore_0 8 rfl rfl)
theorem dX1_restore_11 : decode cX1_restore 11 = .ok (.iconst 0, 1) := dk_3 (dk_at dksX1_restore_0 11 rfl rfl)
theorem dX1_restore_12 : decode cX1_restore 12 = .ok (.invokestatic 94, 3) := dk_184 0 94 (dk_at dksX1_restore_0 12 rfl rfl)
theorem dX1_restore_15 : decode cX1_restore 15 = .ok (.aload_n 0, 1) := dk_42 (dk_at dksX1_restore_0 15 rfl rfl)
theorem dX1_restore_16 : decode cX1_restore 16 = .ok (.new 20, 3) := dk_187 0 20 (dk_at dksX1_restore_0 16 rfl rfl)
theorem dX1_restore_19 : decode cX1_restore 19 = .ok (.dup, 1) := dk_89 (dk_at dksX1_restore_0 19 rfl rfl)
theorem dX1_restore_20 : decode cX1_restore 20 = .ok (.aload_n 0, 1) := dk_42 (dk_at dksX1_restore_0 20 rfl rfl)
theorem dX1_restore_21 : decode cX1_restore 21 = .ok (.getfield 126, 3) := dk_180 0 126 (dk_at dksX1_restore_0 21 rfl rfl)
theorem dX1_restore_24 : decode cX1_restore 24 = .ok (.invokespecial 147, 3) := dk_183 0 147 (dk_at dksX1_restore_1 0 rfl rfl)
theorem dX1_restore_27 : decode cX1_restore 27 = .ok (.putfield 25, 3) := dk_181 0 25 (dk_at dksX1_restore_1 3 rfl rfl)
theorem dX1_restore_30 : decode cX1_restore 30 = .ok (.aload_n 0, 1) := dk_42 (dk_at dksX1_restore_1 6 rfl rfl)
theorem dX1_restore_31 : decode cX1_restore 31 = .ok (.getfield 39, 3) := dk_180 0 39 (dk_at dksX1_restore_1 7 rfl rfl)
theorem dX1_restore_34 : decode cX1_restore 34 = .ok (.invokevirtual 129, 3) := dk_182 0 129 (dk_at dksX1_restore_1 10 rfl rfl)
theorem dX1_restore_37 : decode cX1_restore 37 = .ok (.aload_n 0, 1) := dk_42 (dk_at dksX1_restore_1 13 rfl rfl)
theorem dX1_restore_38 : decode cX1_restore 38 = .ok (.getfield 25, 3) := dk_180 0 25 (dk_at dksX1_restore_1 14 rfl rfl)
theorem dX1_restore_41 : decode cX1_restore 41 = .ok (.getfield 272, 3) := dk_180 1 16 (dk_at dksX1_restore_1 17 rfl rfl)
theorem dX1_restore_44 : decode cX1_restore 44 = .ok (.ireturn, 1) := dk_172 (dk_at dksX1_restore_1 20 rfl rfl)
theorem q142 : (Jvm.Cond.initialized "HallPlan") ∈ lw_all := lw_g (lw_at lw_m1 1 rfl) rfl
theorem q183 : (Jvm.Cond.instantiable "HallPlan" (12 : Nat)) ∈ lw_all := lw_g (lw_at lw_m1 42 rfl) rfl
theorem q185 : (Jvm.Cond.instanceMethod ({ cls := "HallPlan", name := "<init>", desc := "()V" } : Jvm.MethodName)) ∈ lw_all := lw_g (lw_at lw_m1 44 rfl) rfl
theorem q186 : (Jvm.Cond.code ({ cls := "HallPlan", name := "<init>", desc := "()V" } : Jvm.MethodName) prog_1_method_1_code (1 : Nat) (Option.none : Option Jvm.ClassFile.FieldType)) ∈ lw_all := lw_g (lw_at lw_m1 45 rfl) rfl
theorem q187 : (Jvm.Cond.methodLink "HallPlan" (1 : Nat) ({ cls := "java/lang/Object", name := "<init>", desc := "()V" } : Jvm.MethodName)) ∈ lw_all := lw_g (lw_at lw_m1 46 rfl) rfl
theorem q190 : (Jvm.Cond.classLink "HallPlan" (13 : Nat) "HallPlan$Setup") ∈ lw_all := lw_g (lw_at lw_m1 49 rfl) rfl
theorem q192 : (Jvm.Cond.methodLinkNest "HallPlan" (15 : Nat) ({ cls := "HallPlan$Setup", name := "<init>", desc := "()V" } : Jvm.MethodName) "HallPlan") ∈ lw_tbl := lw_at lw_m1 51 rfl
theorem q234 : (Jvm.Cond.fieldLinkNest "HallPlan" (132 : Nat) "HallPlan$Setup" "halls" "Ljava/util/List;" "HallPlan") ∈ lw_tbl := lw_at lw_m1 93 rfl
theorem q237 : (Jvm.Cond.fieldLinkNest "HallPlan" (157 : Nat) "HallPlan$Setup" "kinds" "Ljava/util/List;" "HallPlan") ∈ lw_tbl := lw_at lw_m1 96 rfl
theorem q240 : (Jvm.Cond.fieldLinkNest "HallPlan" (185 : Nat) "HallPlan$Setup" "between" "[[I" "HallPlan") ∈ lw_tbl := lw_at lw_m1 99 rfl
theorem q244 : (Jvm.Cond.fieldLinkNest "HallPlan" (182 : Nat) "HallPlan$Setup" "weeklies" "[LHallPlan$Closure;" "HallPlan") ∈ lw_tbl := lw_at lw_m1 103 rfl
theorem q248 : (Jvm.Cond.fieldLinkNest "HallPlan" (154 : Nat) "HallPlan$Setup" "types" "I" "HallPlan") ∈ lw_tbl := lw_at lw_m1 107 rfl
theorem q254 : (Jvm.Cond.fieldLinkNest "HallPlan" (179 : Nat) "HallPlan$Setup" "weekly" "I" "HallPlan") ∈ lw_tbl := lw_at lw_m1 113 rfl
theorem q257 : (Jvm.Cond.fieldLinkNest "HallPlan" (427 : Nat) "HallPlan$Setup" "feeCount" "I" "HallPlan") ∈ lw_tbl := lw_at lw_m1 116 rfl
theorem q260 : (Jvm.Cond.fieldLinkNest "HallPlan" (430 : Nat) "HallPlan$Setup" "weekend" "I" "HallPlan") ∈ lw_tbl := lw_at lw_m1 119 rfl
theorem q287 : (Jvm.Cond.classLink "HallPlan" (20 : Nat) "HallPlan$State") ∈ lw_all := lw_g (lw_at lw_m1 146 rfl) rfl
theorem q289 : (Jvm.Cond.methodLink "HallPlan" (22 : Nat) ({ cls := "HallPlan$State", name := "<init>", desc := "(LHallPlan$Setup;)V" } : Jvm.MethodName)) ∈ lw_all := lw_g (lw_at lw_m1 148 rfl) rfl
theorem q300 : (Jvm.Cond.fieldLinkNest "HallPlan" (160 : Nat) "HallPlan$State" "bookings" "Ljava/util/List;" "HallPlan") ∈ lw_tbl := lw_at lw_m1 159 rfl
theorem q302 : (Jvm.Cond.fieldLinkNest "HallPlan" (389 : Nat) "HallPlan$State" "requests" "Ljava/util/List;" "HallPlan") ∈ lw_tbl := lw_at lw_m1 161 rfl
theorem q304 : (Jvm.Cond.fieldLinkNest "HallPlan" (171 : Nat) "HallPlan$State" "closures" "[LHallPlan$Closure;" "HallPlan") ∈ lw_tbl := lw_at lw_m1 163 rfl
theorem q306 : (Jvm.Cond.fieldLinkNest "HallPlan" (168 : Nat) "HallPlan$State" "closed" "I" "HallPlan") ∈ lw_tbl := lw_at lw_m1 165 rfl
theorem q308 : (Jvm.Cond.fieldLinkNest "HallPlan" (272 : Nat) "HallPlan$State" "now" "I" "HallPlan") ∈ lw_tbl := lw_at lw_m1 167 rfl
theorem q320 : (Jvm.Cond.classLink "HallPlan" (29 : Nat) "HallPlan$Event") ∈ lw_all := lw_g (lw_at lw_m1 179 rfl) rfl
theorem q322 : (Jvm.Cond.methodLink "HallPlan" (31 : Nat) ({ cls := "HallPlan$Event", name := "<init>", desc := "()V" } : Jvm.MethodName)) ∈ lw_all := lw_g (lw_at lw_m1 181 rfl) rfl
theorem q332 : (Jvm.Cond.fieldLinkNest "HallPlan" (192 : Nat) "HallPlan$Event" "type" "I" "HallPlan") ∈ lw_tbl := lw_at lw_m1 191 rfl
theorem q335 : (Jvm.Cond.fieldLinkNest "HallPlan" (443 : Nat) "HallPlan$Event" "guests" "I" "HallPlan") ∈ lw_tbl := lw_at lw_m1 194 rfl
theorem q339 : (Jvm.Cond.fieldLinkNest "HallPlan" (198 : Nat) "HallPlan$Event" "duration" "I" "HallPlan") ∈ lw_tbl := lw_at lw_m1 198 rfl
theorem q342 : (Jvm.Cond.fieldLinkNest "HallPlan" (228 : Nat) "HallPlan$Event" "needs" "[I" "HallPlan") ∈ lw_tbl := lw_at lw_m1 201 rfl
theorem q352 : (Jvm.Cond.classLink "HallPlan" (36 : Nat) "java/util/ArrayDeque") ∈ lw_all := lw_g (lw_at lw_m1 211 rfl) rfl
theorem q354 : (Jvm.Cond.methodLink "HallPlan" (38 : Nat) ({ cls := "java/util/ArrayDeque", name := "<init>", desc := "()V" } : Jvm.MethodName)) ∈ lw_all := lw_g (lw_at lw_m1 213 rfl) rfl
theorem q370 : (Jvm.Cond.classLink "HallPlan" (43 : Nat) "HallPlan$Check") ∈ lw_all := lw_g (lw_at lw_m1 229 rfl) rfl
theorem q372 : (Jvm.Cond.privateMethod ({ cls := "HallPlan", name := "lambda$new$1", desc := "(LHallPlan$Event;II)Z" } : Jvm.MethodName)) ∈ lw_tbl := lw_at lw_m1 231 rfl
theorem q373 : (Jvm.Cond.instanceMethod ({ cls := "HallPlan", name := "lambda$new$1", desc := "(LHallPlan$Event;II)Z" } : Jvm.MethodName)) ∈ lw_all := lw_g (lw_at lw_m1 232 rfl) rfl
theorem q374 : (Jvm.Cond.code ({ cls := "HallPlan", name := "lambda$new$1", desc := "(LHallPlan$Event;II)Z" } : Jvm.MethodName) prog_1_method_95_code (4 : Nat) (Option.some Jvm.ClassFile.FieldType.boolean)) ∈ lw_all := lw_g (lw_at lw_m1 233 rfl) rfl
theorem q375 : (Jvm.Cond.privateMethod ({ cls := "HallPlan", name := "lambda$new$2", desc := "(LHallPlan$Event;II)Z" } : Jvm.MethodName)) ∈ lw_tbl := lw_at lw_m1 234 rfl
theorem q376 : (Jvm.Cond.instanceMethod ({ cls := "HallPlan", name := "lambda$new$2", desc := "(LHallPlan$Event;II)Z" } : Jvm.MethodName)) ∈ lw_all := lw_g (lw_at lw_m1 235 rfl) rfl
theorem q377 : (Jvm.Cond.code ({ cls := "HallPlan", name := "lambda$new$2", desc := "(LHallPlan$Event;II)Z" } : Jvm.MethodName) prog_1_method_94_code (4 : Nat) (Option.some Jvm.ClassFile.FieldType.boolean)) ∈ lw_all := lw_g (lw_at lw_m1 236 rfl) rfl
theorem q378 : (Jvm.Cond.interfaceEntry "HallPlan" (164 : Nat)) ∈ lw_tbl := lw_at lw_m1 237 rfl
theorem q379 : (Jvm.Cond.methodLink "HallPlan" (164 : Nat) ({ cls := "java/util/List", name := "get", desc := "(I)Ljava/lang/Object;" } : Jvm.MethodName)) ∈ lw_all := lw_g (lw_at lw_m1 238 rfl) rfl
theorem q398 : (Jvm.Cond.classLink "HallPlan" (468 : Nat) "HallPlan$Hall") ∈ lw_all := lw_g (lw_at lw_m2 17 rfl) rfl
theorem q399 : (Jvm.Cond.methodLink "HallPlan" (495 : Nat) ({ cls := "HallPlan$Hall", name := "isOpen", desc := "(II)Z" } : Jvm.MethodName)) ∈ lw_all := lw_g (lw_at lw_m2 18 rfl) rfl
theorem q403 : (Jvm.Cond.privateMethod ({ cls := "HallPlan", name := "lambda$new$3", desc := "(LHallPlan$Event;II)Z" } : Jvm.MethodName)) ∈ lw_tbl := lw_at lw_m2 22 rfl
theorem q404 : (Jvm.Cond.instanceMethod ({ cls := "HallPlan", name := "lambda$new$3", desc := "(LHallPlan$Event;II)Z" } : Jvm.MethodName)) ∈ lw_all := lw_g (lw_at lw_m2 23 rfl) rfl
theorem q405 : (Jvm.Cond.code ({ cls := "HallPlan", name := "lambda$new$3", desc := "(LHallPlan$Event;II)Z" } : Jvm.MethodName) prog_1_method_93_code (4 : Nat) (Option.some Jvm.ClassFile.FieldType.boolean)) ∈ lw_all := lw_g (lw_at lw_m2 24 rfl) rfl
theorem q406 : (Jvm.Cond.privateMethod ({ cls := "HallPlan", name := "lambda$new$4", desc := "(LHallPlan$Event;II)Z" } : Jvm.MethodName)) ∈ lw_tbl := lw_at lw_m2 25 rfl
theorem q407 : (Jvm.Cond.instanceMethod ({ cls := "HallPlan", name := "lambda$new$4", desc := "(LHallPlan$Event;II)Z" } : Jvm.MethodName)) ∈ lw_all := lw_g (lw_at lw_m2 26 rfl) rfl
theorem q408 : (Jvm.Cond.code ({ cls := "HallPlan", name := "lambda$new$4", desc := "(LHallPlan$Event;II)Z" } : Jvm.MethodName) prog_1_method_92_code (4 : Nat) (Option.some Jvm.ClassFile.FieldType.boolean)) ∈ lw_all := lw_g (lw_at lw_m2 27 rfl) rfl
theorem q409 : (Jvm.Cond.methodLink "HallPlan" (437 : Nat) ({ cls := "HallPlan", name := "isClosedIn", desc := "(III)Z" } : Jvm.MethodName)) ∈ lw_all := lw_g (lw_at lw_m2 28 rfl) rfl
theorem q410 : (Jvm.Cond.privateMethod ({ cls := "HallPlan", name := "isClosedIn", desc := "(III)Z" } : Jvm.MethodName)) ∈ lw_tbl := lw_at lw_m2 29 rfl
theorem q411 : (Jvm.Cond.instanceMethod ({ cls := "HallPlan", name := "isClosedIn", desc := "(III)Z" } : Jvm.MethodName)) ∈ lw_all := lw_g (lw_at lw_m2 30 rfl) rfl
theorem q412 : (Jvm.Cond.code ({ cls := "HallPlan", name := "isClosedIn", desc := "(III)Z" } : Jvm.MethodName) prog_1_method_20_code (6 : Nat) (Option.some Jvm.ClassFile.FieldType.boolean)) ∈ lw_all := lw_g (lw_at lw_m2 31 rfl) rfl
theorem q413 : (Jvm.Cond.interfaceEntry "HallPlan" (175 : Nat)) ∈ lw_tbl := lw_at lw_m2 32 rfl
theorem q414 : (Jvm.Cond.methodLink "HallPlan" (175 : Nat) ({ cls := "HallPlan$Closure", name := "meets", desc := "(III)Z" } : Jvm.MethodName)) ∈ lw_all := lw_g (lw_at lw_m2 33 rfl) rfl
theorem q417 : (Jvm.Cond.privateMethod ({ cls := "HallPlan", name := "lambda$new$5", desc := "(LHallPlan$Event;II)Z" } : Jvm.MethodName)) ∈ lw_tbl := lw_at lw_m2 36 rfl
theorem q418 : (Jvm.Cond.instanceMethod ({ cls := "HallPlan", name := "lambda$new$5", desc := "(LHallPlan$Event;II)Z" } : Jvm.MethodName)) ∈ lw_all := lw_g (lw_at lw_m2 37 rfl) rfl
theorem q419 : (Jvm.Cond.code ({ cls := "HallPlan", name := "lambda$new$5", desc := "(LHallPlan$Event;II)Z" } : Jvm.MethodName) prog_1_method_91_code (4 : Nat) (Option.some Jvm.ClassFile.FieldType.boolean)) ∈ lw_all := lw_g (lw_at lw_m2 38 rfl) rfl
theorem q420 : (Jvm.Cond.methodLink "HallPlan" (489 : Nat) ({ cls := "HallPlan", name := "isAnyNear", desc := "(LHallPlan$Event;II)Z" } : Jvm.MethodName)) ∈ lw_all := lw_g (lw_at lw_m2 39 rfl) rfl
theorem q421 : (Jvm.Cond.privateMethod ({ cls := "HallPlan", name := "isAnyNear", desc := "(LHallPlan$Event;II)Z" } : Jvm.MethodName)) ∈ lw_tbl := lw_at lw_m2 40 rfl
theorem q422 : (Jvm.Cond.instanceMethod ({ cls := "HallPlan", name := "isAnyNear", desc := "(LHallPlan$Event;II)Z" } : Jvm.MethodName)) ∈ lw_all := lw_g (lw_at lw_m2 41 rfl) rfl
theorem q423 : (Jvm.Cond.code ({ cls := "HallPlan", name := "isAnyNear", desc := "(LHallPlan$Event;II)Z" } : Jvm.MethodName) prog_1_method_22_code (6 : Nat) (Option.some Jvm.ClassFile.FieldType.boolean)) ∈ lw_all := lw_g (lw_at lw_m2 42 rfl) rfl
theorem q424 : (Jvm.Cond.interfaceEntry "HallPlan" (136 : Nat)) ∈ lw_tbl := lw_at lw_m2 43 rfl
theorem q425 : (Jvm.Cond.methodLink "HallPlan" (136 : Nat) ({ cls := "java/util/List", name := "size", desc := "()I" } : Jvm.MethodName)) ∈ lw_all := lw_g (lw_at lw_m2 44 rfl) rfl
theorem q433 : (Jvm.Cond.methodLink "HallPlan" (204 : Nat) ({ cls := "HallPlan", name := "booking", desc := "(I)LHallPlan$Booking;" } : Jvm.MethodName)) ∈ lw_all := lw_g (lw_at lw_m2 52 rfl) rfl
theorem q434 : (Jvm.Cond.privateMethod ({ cls := "HallPlan", name := "booking", desc := "(I)LHallPlan$Booking;" } : Jvm.MethodName)) ∈ lw_tbl := lw_at lw_m2 53 rfl
theorem q435 : (Jvm.Cond.instanceMethod ({ cls := "HallPlan", name := "booking", desc := "(I)LHallPlan$Booking;" } : Jvm.MethodName)) ∈ lw_all := lw_g (lw_at lw_m2 54 rfl) rfl
theorem q436 : (Jvm.Cond.code ({ cls := "HallPlan", name := "booking", desc := "(I)LHallPlan$Booking;" } : Jvm.MethodName) prog_1_method_19_code (2 : Nat) (Option.some (Jvm.ClassFile.FieldType.object "HallPlan$Booking"))) ∈ lw_all := lw_g (lw_at lw_m2 55 rfl) rfl
theorem q437 : (Jvm.Cond.classLink "HallPlan" (62 : Nat) "HallPlan$Booking") ∈ lw_all := lw_g (lw_at lw_m2 56 rfl) rfl
theorem q438 : (Jvm.Cond.methodLink "HallPlan" (208 : Nat) ({ cls := "HallPlan$Booking", name := "counts", desc := "()Z" } : Jvm.MethodName)) ∈ lw_all := lw_g (lw_at lw_m2 57 rfl) rfl
theorem q442 : (Jvm.Cond.methodLink "HallPlan" (215 : Nat) ({ cls := "HallPlan", name := "isNear", desc := "(LHallPlan$Booking;LHallPlan$Event;I)Z" } : Jvm.MethodName)) ∈ lw_all := lw_g (lw_at lw_m2 61 rfl) rfl
theorem q443 : (Jvm.Cond.privateMethod ({ cls := "HallPlan", name := "isNear", desc := "(LHallPlan$Booking;LHallPlan$Event;I)Z" } : Jvm.MethodName)) ∈ lw_tbl := lw_at lw_m2 62 rfl
theorem q444 : (Jvm.Cond.instanceMethod ({ cls := "HallPlan", name := "isNear", desc := "(LHallPlan$Booking;LHallPlan$Event;I)Z" } : Jvm.MethodName)) ∈ lw_all := lw_g (lw_at lw_m2 63 rfl) rfl
theorem q445 : (Jvm.Cond.code ({ cls := "HallPlan", name := "isNear", desc := "(LHallPlan$Booking;LHallPlan$Event;I)Z" } : Jvm.MethodName) prog_1_method_21_code (6 : Nat) (Option.some Jvm.ClassFile.FieldType.boolean)) ∈ lw_all := lw_g (lw_at lw_m2 64 rfl) rfl
theorem q446 : (Jvm.Cond.methodLink "HallPlan" (195 : Nat) ({ cls := "HallPlan$Booking", name := "end", desc := "()I" } : Jvm.MethodName)) ∈ lw_all := lw_g (lw_at lw_m2 65 rfl) rfl
theorem q450 : (Jvm.Cond.privateMethod ({ cls := "HallPlan", name := "lambda$new$6", desc := "(LHallPlan$Event;II)Z" } : Jvm.MethodName)) ∈ lw_tbl := lw_at lw_m2 69 rfl
theorem q451 : (Jvm.Cond.instanceMethod ({ cls := "HallPlan", name := "lambda$new$6", desc := "(LHallPlan$Event;II)Z" } : Jvm.MethodName)) ∈ lw_all := lw_g (lw_at lw_m2 70 rfl) rfl
theorem q452 : (Jvm.Cond.code ({ cls := "HallPlan", name := "lambda$new$6", desc := "(LHallPlan$Event;II)Z" } : Jvm.MethodName) prog_1_method_90_code (4 : Nat) (Option.some Jvm.ClassFile.FieldType.boolean)) ∈ lw_all := lw_g (lw_at lw_m2 71 rfl) rfl
theorem q453 : (Jvm.Cond.methodLink "HallPlan" (485 : Nat) ({ cls := "HallPlan", name := "lacks", desc := "(LHallPlan$Event;I)Z" } : Jvm.MethodName)) ∈ lw_all := lw_g (lw_at lw_m2 72 rfl) rfl
theorem q454 : (Jvm.Cond.privateMethod ({ cls := "HallPlan", name := "lacks", desc := "(LHallPlan$Event;I)Z" } : Jvm.MethodName)) ∈ lw_tbl := lw_at lw_m2 73 rfl
theorem q455 : (Jvm.Cond.instanceMethod ({ cls := "HallPlan", name := "lacks", desc := "(LHallPlan$Event;I)Z" } : Jvm.MethodName)) ∈ lw_all := lw_g (lw_at lw_m2 74 rfl) rfl
theorem q456 : (Jvm.Cond.code ({ cls := "HallPlan", name := "lacks", desc := "(LHallPlan$Event;I)Z" } : Jvm.MethodName) prog_1_method_25_code (5 : Nat) (Option.some Jvm.ClassFile.FieldType.boolean)) ∈ lw_all := lw_g (lw_at lw_m2 75 rfl) rfl
theorem q457 : (Jvm.Cond.classLink "HallPlan" (219 : Nat) "HallPlan$Kind") ∈ lw_all := lw_g (lw_at lw_m2 76 rfl) rfl
theorem q458 : (Jvm.Cond.methodLink "HallPlan" (240 : Nat) ({ cls := "HallPlan", name := "mostHeld", desc := "(III)I" } : Jvm.MethodName)) ∈ lw_all := lw_g (lw_at lw_m2 77 rfl) rfl
theorem q459 : (Jvm.Cond.privateMethod ({ cls := "HallPlan", name := "mostHeld", desc := "(III)I" } : Jvm.MethodName)) ∈ lw_tbl := lw_at lw_m2 78 rfl
theorem q460 : (Jvm.Cond.instanceMethod ({ cls := "HallPlan", name := "mostHeld", desc := "(III)I" } : Jvm.MethodName)) ∈ lw_all := lw_g (lw_at lw_m2 79 rfl) rfl
theorem q461 : (Jvm.Cond.code ({ cls := "HallPlan", name := "mostHeld", desc := "(III)I" } : Jvm.MethodName) prog_1_method_24_code (10 : Nat) (Option.some Jvm.ClassFile.FieldType.int)) ∈ lw_all := lw_g (lw_at lw_m2 80 rfl) rfl
theorem q462 : (Jvm.Cond.methodLink "HallPlan" (231 : Nat) ({ cls := "java/lang/Math", name := "max", desc := "(II)I" } : Jvm.MethodName)) ∈ lw_all := lw_g (lw_at lw_m2 81 rfl) rfl
theorem q465 : (Jvm.Cond.methodLink "HallPlan" (237 : Nat) ({ cls := "java/lang/Math", name := "min", desc := "(II)I" } : Jvm.MethodName)) ∈ lw_all := lw_g (lw_at lw_m2 84 rfl) rfl
theorem q469 : (Jvm.Cond.fieldLink "HallPlan" (9 : Nat) "HallPlan" "buffer" "[B") ∈ lw_all := lw_g (lw_at lw_m2 88 rfl) rfl
theorem q472 : (Jvm.Cond.fieldLink "HallPlan" (90 : Nat) "HallPlan" "length" "I") ∈ lw_all := lw_g (lw_at lw_m2 91 rfl) rfl
theorem q473 : (Jvm.Cond.fieldLink "HallPlan" (16 : Nat) "HallPlan" "setup" "LHallPlan$Setup;") ∈ lw_all := lw_g (lw_at lw_m2 92 rfl) rfl
theorem q474 : (Jvm.Cond.fieldLink "HallPlan" (25 : Nat) "HallPlan" "state" "LHallPlan$State;") ∈ lw_all := lw_g (lw_at lw_m2 93 rfl) rfl
theorem q475 : (Jvm.Cond.fieldLink "HallPlan" (126 : Nat) "HallPlan" "saved" "LHallPlan$State;") ∈ lw_all := lw_g (lw_at lw_m2 94 rfl) rfl
theorem q476 : (Jvm.Cond.fieldLink "HallPlan" (32 : Nat) "HallPlan" "draft" "LHallPlan$Event;") ∈ lw_all := lw_g (lw_at lw_m2 95 rfl) rfl
theorem q477 : (Jvm.Cond.fieldLink "HallPlan" (39 : Nat) "HallPlan" "history" "Ljava/util/ArrayDeque;") ∈ lw_all := lw_g (lw_at lw_m2 96 rfl) rfl
theorem q478 : (Jvm.Cond.fieldLink "HallPlan" (45 : Nat) "HallPlan" "checks" "[LHallPlan$Check;") ∈ lw_all := lw_g (lw_at lw_m2 97 rfl) rfl
theorem q479 : (Jvm.Cond.fieldLink "HallPlan" (58 : Nat) "HallPlan" "grid" "[I") ∈ lw_all := lw_g (lw_at lw_m2 98 rfl) rfl
theorem q480 : (Jvm.Cond.fieldLink "HallPlan" (64 : Nat) "HallPlan" "links" "[LHallPlan$Booking;") ∈ lw_all := lw_g (lw_at lw_m2 99 rfl) rfl
theorem q481 : (Jvm.Cond.fieldLink "HallPlan" (68 : Nat) "HallPlan" "hallOf" "[I") ∈ lw_all := lw_g (lw_at lw_m2 100 rfl) rfl
theorem q482 : (Jvm.Cond.fieldLink "HallPlan" (71 : Nat) "HallPlan" "startOf" "[I") ∈ lw_all := lw_g (lw_at lw_m2 101 rfl) rfl
theorem q483 : (Jvm.Cond.laysFinal "HallPlan" "HallPlan" "buffer" "[B") ∈ lw_all := lw_g (lw_at lw_m2 102 rfl) rfl
theorem q484 : (Jvm.Cond.soleField "HallPlan" "buffer") ∈ lw_all := lw_g (lw_at lw_m2 103 rfl) rfl
theorem q485 : (Jvm.Cond.lays "HallPlan" "HallPlan" "length" "I") ∈ lw_all := lw_g (lw_at lw_m2 104 rfl) rfl
theorem q486 : (Jvm.Cond.soleField "HallPlan" "length") ∈ lw_all := lw_g (lw_at lw_m2 105 rfl) rfl
theorem q487 : (Jvm.Cond.lays "HallPlan" "HallPlan" "setup" "LHallPlan$Setup;") ∈ lw_all := lw_g (lw_at lw_m2 106 rfl) rfl
theorem q488 : (Jvm.Cond.soleField "HallPlan" "setup") ∈ lw_all := lw_g (lw_at lw_m2 107 rfl) rfl
theorem q489 : (Jvm.Cond.lays "HallPlan" "HallPlan" "state" "LHallPlan$State;") ∈ lw_all := lw_g (lw_at lw_m2 108 rfl) rfl
theorem q490 : (Jvm.Cond.soleField "HallPlan" "state") ∈ lw_all := lw_g (lw_at lw_m2 109 rfl) rfl
theorem q491 : (Jvm.Cond.lays "HallPlan" "HallPlan" "saved" "LHallPlan$State;") ∈ lw_all := lw_g (lw_at lw_m2 110 rfl) rfl
theorem q492 : (Jvm.Cond.soleField "HallPlan" "saved") ∈ lw_all := lw_g (lw_at lw_m2 111 rfl) rfl
theorem q493 : (Jvm.Cond.lays "HallPlan" "HallPlan" "draft" "LHallPlan$Event;") ∈ lw_all := lw_g (lw_at lw_m2 112 rfl) rfl
theorem q494 : (Jvm.Cond.soleField "HallPlan" "draft") ∈ lw_all := lw_g (lw_at lw_m2 113 rfl) rfl
theorem q495 : (Jvm.Cond.laysFinal "HallPlan" "HallPlan" "history" "Ljava/util/ArrayDeque;") ∈ lw_all := lw_g (lw_at lw_m2 114 rfl) rfl
theorem q496 : (Jvm.Cond.soleField "HallPlan" "history") ∈ lw_all := lw_g (lw_at lw_m2 115 rfl) rfl
theorem q497 : (Jvm.Cond.laysFinal "HallPlan" "HallPlan" "checks" "[LHallPlan$Check;") ∈ lw_all := lw_g (lw_at lw_m2 116 rfl) rfl
theorem q498 : (Jvm.Cond.soleField "HallPlan" "checks") ∈ lw_all := lw_g (lw_at lw_m2 117 rfl) rfl
theorem q499 : (Jvm.Cond.laysFinal "HallPlan" "HallPlan" "grid" "[I") ∈ lw_all := lw_g (lw_at lw_m2 118 rfl) rfl
theorem q500 : (Jvm.Cond.soleField "HallPlan" "grid") ∈ lw_all := lw_g (lw_at lw_m2 119 rfl) rfl
theorem q501 : (Jvm.Cond.laysFinal "HallPlan" "HallPlan" "links" "[LHallPlan$Booking;") ∈ lw_all := lw_g (lw_at lw_m2 120 rfl) rfl
theorem q502 : (Jvm.Cond.soleField "HallPlan" "links") ∈ lw_all := lw_g (lw_at lw_m2 121 rfl) rfl
theorem q503 : (Jvm.Cond.laysFinal "HallPlan" "HallPlan" "hallOf" "[I") ∈ lw_all := lw_g (lw_at lw_m2 122 rfl) rfl
theorem q504 : (Jvm.Cond.soleField "HallPlan" "hallOf") ∈ lw_all := lw_g (lw_at lw_m2 123 rfl) rfl
theorem q505 : (Jvm.Cond.laysFinal "HallPlan" "HallPlan" "startOf" "[I") ∈ lw_all := lw_g (lw_at lw_m2 124 rfl) rfl
theorem q506 : (Jvm.Cond.soleField "HallPlan" "startOf") ∈ lw_all := lw_g (lw_at lw_m2 125 rfl) rfl
theorem q507 : (Jvm.Cond.superclass "HallPlan" "java/lang/Object") ∈ lw_all := lw_g (lw_at lw_m2 126 rfl) rfl
theorem q509 : (Jvm.Cond.instanceMethod ({ cls := "HallPlan", name := "errorPosition", desc := "()I" } : Jvm.MethodName)) ∈ lw_all := lw_g (lw_at lw_m2 128 rfl) rfl
theorem q510 : (Jvm.Cond.selects "HallPlan" ({ cls := "HallPlan", name := "errorPosition", desc := "()I" } : Jvm.MethodName) ({ cls := "HallPlan", name := "errorPosition", desc := "()I" } : Jvm.MethodName)) ∈ lw_all := lw_g (lw_at lw_m2 129 rfl) rfl
theorem q511 : (Jvm.Cond.codeWith ({ cls := "HallPlan", name := "errorPosition", desc := "()I" } : Jvm.MethodName) prog_1_method_11_code (2 : Nat) (Option.some Jvm.ClassFile.FieldType.int) [((0 : Nat), (13 : Nat), (14 : Nat), (118 : Nat))]) ∈ lw_all := lw_g (lw_at lw_m2 130 rfl) rfl
theorem q512 : (Jvm.Cond.classLink "HallPlan" (118 : Nat) "HallPlan$SyntaxError") ∈ lw_all := lw_g (lw_at lw_m2 131 rfl) rfl
theorem q513 : (Jvm.Cond.classLink "HallPlan" (109 : Nat) "HallPlan$Parser") ∈ lw_all := lw_g (lw_at lw_m2 132 rfl) rfl
theorem q515 : (Jvm.Cond.methodLinkNest "HallPlan" (111 : Nat) ({ cls := "HallPlan$Parser", name := "<init>", desc := "(LHallPlan;)V" } : Jvm.MethodName) "HallPlan") ∈ lw_tbl := lw_at lw_m2 134 rfl
theorem q558 : (Jvm.Cond.methodLink "HallPlan" (114 : Nat) ({ cls := "HallPlan$Parser", name := "parse", desc := "()LHallPlan$Setup;" } : Jvm.MethodName)) ∈ lw_all := lw_g (lw_at lw_m2 177 rfl) rfl
theorem q602 : (Jvm.Cond.static ({ cls := "HallPlan", name := "in", desc := "(III)Z" } : Jvm.MethodName)) ∈ lw_all := lw_g (lw_at lw_m2 221 rfl) rfl
theorem q603 : (Jvm.Cond.code ({ cls := "HallPlan", name := "in", desc := "(III)Z" } : Jvm.MethodName) prog_1_method_2_code (3 : Nat) (Option.some Jvm.ClassFile.FieldType.boolean)) ∈ lw_all := lw_g (lw_at lw_m2 222 rfl) rfl
theorem q929 : (Jvm.Cond.fieldLinkNest "HallPlan" (120 : Nat) "HallPlan$SyntaxError" "position" "I" "HallPlan") ∈ lw_tbl := lw_at lw_m4 68 rfl
theorem q1053 : (Jvm.Cond.selects "HallPlan" ({ cls := "java/lang/Object", name := "equals", desc := "(Ljava/lang/Object;)Z" } : Jvm.MethodName) ({ cls := "java/lang/Object", name := "equals", desc := "(Ljava/lang/Object;)Z" } : Jvm.MethodName)) ∈ lw_all := lw_g (lw_at lw_m4 192 rfl) rfl
theorem q1102 : (Jvm.Cond.selects "HallPlan" ({ cls := "java/lang/Object", name := "getClass", desc := "()Ljava/lang/Class;" } : Jvm.MethodName) ({ cls := "java/lang/Object", name := "getClass", desc := "()Ljava/lang/Class;" } : Jvm.MethodName)) ∈ lw_all := lw_g (lw_at lw_m5 1 rfl) rfl
theorem q1150 : (Jvm.Cond.fieldLinkNest "HallPlan" (492 : Nat) "HallPlan$Hall" "capacity" "I" "HallPlan") ∈ lw_tbl := lw_at lw_m5 49 rfl
theorem q1152 : (Jvm.Cond.fieldLinkNest "HallPlan" (473 : Nat) "HallPlan$Hall" "open" "I" "HallPlan") ∈ lw_tbl := lw_at lw_m5 51 rfl
theorem q1154 : (Jvm.Cond.fieldLinkNest "HallPlan" (470 : Nat) "HallPlan$Hall" "close" "I" "HallPlan") ∈ lw_tbl := lw_at lw_m5 53 rfl
theorem q1181 : (Jvm.Cond.fieldLinkNest "HallPlan" (244 : Nat) "HallPlan$Kind" "count" "I" "HallPlan") ∈ lw_tbl := lw_at lw_m5 80 rfl
theorem q1185 : (Jvm.Cond.fieldLinkNest "HallPlan" (221 : Nat) "HallPlan$Kind" "lead" "I" "HallPlan") ∈ lw_tbl := lw_at lw_m5 84 rfl
theorem q1219 : (Jvm.Cond.static ({ cls := "HallPlan", name := "closure", desc := "(III)LHallPlan$Closure;" } : Jvm.MethodName)) ∈ lw_all := lw_g (lw_at lw_m5 118 rfl) rfl
theorem q1220 : (Jvm.Cond.code ({ cls := "HallPlan", name := "closure", desc := "(III)LHallPlan$Closure;" } : Jvm.MethodName) prog_1_method_10_code (3 : Nat) (Option.some (Jvm.ClassFile.FieldType.object "HallPlan$Closure"))) ∈ lw_all := lw_g (lw_at lw_m5 119 rfl) rfl
theorem q1221 : (Jvm.Cond.static ({ cls := "HallPlan", name := "lambda$closure$0", desc := "(IIIIII)Z" } : Jvm.MethodName)) ∈ lw_all := lw_g (lw_at lw_m5 120 rfl) rfl
theorem q1222 : (Jvm.Cond.code ({ cls := "HallPlan", name := "lambda$closure$0", desc := "(IIIIII)Z" } : Jvm.MethodName) prog_1_method_96_code (6 : Nat) (Option.some Jvm.ClassFile.FieldType.boolean)) ∈ lw_all := lw_g (lw_at lw_m5 121 rfl) rfl
theorem q1252 : (Jvm.Cond.instanceMethod ({ cls := "HallPlan", name := "now", desc := "()I" } : Jvm.MethodName)) ∈ lw_all := lw_g (lw_at lw_m5 151 rfl) rfl
theorem q1253 : (Jvm.Cond.selects "HallPlan" ({ cls := "HallPlan", name := "now", desc := "()I" } : Jvm.MethodName) ({ cls := "HallPlan", name := "now", desc := "()I" } : Jvm.MethodName)) ∈ lw_all := lw_g (lw_at lw_m5 152 rfl) rfl
theorem q1254 : (Jvm.Cond.code ({ cls := "HallPlan", name := "now", desc := "()I" } : Jvm.MethodName) prog_1_method_64_code (1 : Nat) (Option.some Jvm.ClassFile.FieldType.int)) ∈ lw_all := lw_g (lw_at lw_m5 153 rfl) rfl
theorem q1256 : (Jvm.Cond.instanceMethod ({ cls := "HallPlan", name := "bookingCount", desc := "()I" } : Jvm.MethodName)) ∈ lw_all := lw_g (lw_at lw_m5 155 rfl) rfl
theorem q1257 : (Jvm.Cond.selects "HallPlan" ({ cls := "HallPlan", name := "bookingCount", desc := "()I" } : Jvm.MethodName) ({ cls := "HallPlan", name := "bookingCount", desc := "()I" } : Jvm.MethodName)) ∈ lw_all := lw_g (lw_at lw_m5 156 rfl) rfl
theorem q1258 : (Jvm.Cond.code ({ cls := "HallPlan", name := "bookingCount", desc := "()I" } : Jvm.MethodName) prog_1_method_65_code (1 : Nat) (Option.some Jvm.ClassFile.FieldType.int)) ∈ lw_all := lw_g (lw_at lw_m5 157 rfl) rfl
theorem q1260 : (Jvm.Cond.instanceMethod ({ cls := "HallPlan", name := "requestCount", desc := "()I" } : Jvm.MethodName)) ∈ lw_all := lw_g (lw_at lw_m5 159 rfl) rfl
theorem q1261 : (Jvm.Cond.selects "HallPlan" ({ cls := "HallPlan", name := "requestCount", desc := "()I" } : Jvm.MethodName) ({ cls := "HallPlan", name := "requestCount", desc := "()I" } : Jvm.MethodName)) ∈ lw_all := lw_g (lw_at lw_m5 160 rfl) rfl
theorem q1262 : (Jvm.Cond.code ({ cls := "HallPlan", name := "requestCount", desc := "()I" } : Jvm.MethodName) prog_1_method_68_code (1 : Nat) (Option.some Jvm.ClassFile.FieldType.int)) ∈ lw_all := lw_g (lw_at lw_m5 161 rfl) rfl
theorem q1264 : (Jvm.Cond.instanceMethod ({ cls := "HallPlan", name := "revenue", desc := "()I" } : Jvm.MethodName)) ∈ lw_all := lw_g (lw_at lw_m5 163 rfl) rfl
theorem q1265 : (Jvm.Cond.selects "HallPlan" ({ cls := "HallPlan", name := "revenue", desc := "()I" } : Jvm.MethodName) ({ cls := "HallPlan", name := "revenue", desc := "()I" } : Jvm.MethodName)) ∈ lw_all := lw_g (lw_at lw_m5 164 rfl) rfl
theorem q1266 : (Jvm.Cond.code ({ cls := "HallPlan", name := "revenue", desc := "()I" } : Jvm.MethodName) prog_1_method_70_code (3 : Nat) (Option.some Jvm.ClassFile.FieldType.int)) ∈ lw_all := lw_g (lw_at lw_m5 165 rfl) rfl
theorem q1268 : (Jvm.Cond.instanceMethod ({ cls := "HallPlan", name := "undoCount", desc := "()I" } : Jvm.MethodName)) ∈ lw_all := lw_g (lw_at lw_m5 167 rfl) rfl
theorem q1269 : (Jvm.Cond.selects "HallPlan" ({ cls := "HallPlan", name := "undoCount", desc := "()I" } : Jvm.MethodName) ({ cls := "HallPlan", name := "undoCount", desc := "()I" } : Jvm.MethodName)) ∈ lw_all := lw_g (lw_at lw_m5 168 rfl) rfl
theorem q1270 : (Jvm.Cond.code ({ cls := "HallPlan", name := "undoCount", desc := "()I" } : Jvm.MethodName) prog_1_method_87_code (1 : Nat) (Option.some Jvm.ClassFile.FieldType.int)) ∈ lw_all := lw_g (lw_at lw_m5 169 rfl) rfl
theorem q1271 : (Jvm.Cond.methodLink "HallPlan" (142 : Nat) ({ cls := "java/util/ArrayDeque", name := "size", desc := "()I" } : Jvm.MethodName)) ∈ lw_all := lw_g (lw_at lw_m5 170 rfl) rfl
theorem q1279 : (Jvm.Cond.instanceMethod ({ cls := "HallPlan", name := "save", desc := "()I" } : Jvm.MethodName)) ∈ lw_all := lw_g (lw_at lw_m5 178 rfl) rfl
theorem q1280 : (Jvm.Cond.selects "HallPlan" ({ cls := "HallPlan", name := "save", desc := "()I" } : Jvm.MethodName) ({ cls := "HallPlan", name := "save", desc := "()I" } : Jvm.MethodName)) ∈ lw_all := lw_g (lw_at lw_m5 179 rfl) rfl
theorem q1281 : (Jvm.Cond.code ({ cls := "HallPlan", name := "save", desc := "()I" } : Jvm.MethodName) prog_1_method_88_code (1 : Nat) (Option.some Jvm.ClassFile.FieldType.int)) ∈ lw_all := lw_g (lw_at lw_m5 180 rfl) rfl
theorem q1282 : (Jvm.Cond.methodLink "HallPlan" (147 : Nat) ({ cls := "HallPlan$State", name := "<init>", desc := "(LHallPlan$State;)V" } : Jvm.MethodName)) ∈ lw_all := lw_g (lw_at lw_m5 181 rfl) rfl
theorem q1301 : (Jvm.Cond.fieldLinkNest "HallPlan" (189 : Nat) "HallPlan$Booking" "event" "LHallPlan$Event;" "HallPlan") ∈ lw_tbl := lw_at lw_m5 200 rfl
theorem q1303 : (Jvm.Cond.fieldLinkNest "HallPlan" (212 : Nat) "HallPlan$Booking" "hall" "I" "HallPlan") ∈ lw_tbl := lw_at lw_m5 202 rfl
theorem q1305 : (Jvm.Cond.fieldLinkNest "HallPlan" (201 : Nat) "HallPlan$Booking" "start" "I" "HallPlan") ∈ lw_tbl := lw_at lw_m5 204 rfl
theorem q1307 : (Jvm.Cond.fieldLinkNest "HallPlan" (258 : Nat) "HallPlan$Booking" "price" "I" "HallPlan") ∈ lw_tbl := lw_at lw_m5 206 rfl
theorem q1309 : (Jvm.Cond.fieldLinkNest "HallPlan" (383 : Nat) "HallPlan$Booking" "fee" "I" "HallPlan") ∈ lw_tbl := lw_at lw_m5 208 rfl
theorem q1311 : (Jvm.Cond.fieldLinkNest "HallPlan" (292 : Nat) "HallPlan$Booking" "isActive" "Z" "HallPlan") ∈ lw_tbl := lw_at lw_m5 210 rfl
theorem q1313 : (Jvm.Cond.fieldLinkNest "HallPlan" (250 : Nat) "HallPlan$Booking" "isOut" "Z" "HallPlan") ∈ lw_tbl := lw_at lw_m5 212 rfl
theorem q1337 : (Jvm.Cond.instanceMethod ({ cls := "HallPlan", name := "append", desc := "(IIIII)I" } : Jvm.MethodName)) ∈ lw_all := lw_g (lw_at lw_m5 236 rfl) rfl
theorem q1338 : (Jvm.Cond.selects "HallPlan" ({ cls := "HallPlan", name := "append", desc := "(IIIII)I" } : Jvm.MethodName) ({ cls := "HallPlan", name := "append", desc := "(IIIII)I" } : Jvm.MethodName)) ∈ lw_all := lw_g (lw_at lw_m5 237 rfl) rfl
theorem q1339 : (Jvm.Cond.code ({ cls := "HallPlan", name := "append", desc := "(IIIII)I" } : Jvm.MethodName) prog_1_method_8_code (9 : Nat) (Option.some Jvm.ClassFile.FieldType.int)) ∈ lw_all := lw_g (lw_at lw_m5 238 rfl) rfl
theorem q1340 : (Jvm.Cond.methodLink "HallPlan" (86 : Nat) ({ cls := "HallPlan", name := "byteOf", desc := "([II)I" } : Jvm.MethodName)) ∈ lw_all := lw_g (lw_at lw_m5 239 rfl) rfl
theorem q1341 : (Jvm.Cond.static ({ cls := "HallPlan", name := "byteOf", desc := "([II)I" } : Jvm.MethodName)) ∈ lw_all := lw_g (lw_at lw_m6 0 rfl) rfl
theorem q1342 : (Jvm.Cond.code ({ cls := "HallPlan", name := "byteOf", desc := "([II)I" } : Jvm.MethodName) prog_1_method_7_code (2 : Nat) (Option.some Jvm.ClassFile.FieldType.int)) ∈ lw_all := lw_g (lw_at lw_m6 1 rfl) rfl
theorem q1343 : (Jvm.Cond.methodLink "HallPlan" (94 : Nat) ({ cls := "HallPlan", name := "needState", desc := "(Z)V" } : Jvm.MethodName)) ∈ lw_all := lw_g (lw_at lw_m6 2 rfl) rfl
theorem q1344 : (Jvm.Cond.static ({ cls := "HallPlan", name := "needState", desc := "(Z)V" } : Jvm.MethodName)) ∈ lw_all := lw_g (lw_at lw_m6 3 rfl) rfl
theorem q1345 : (Jvm.Cond.code ({ cls := "HallPlan", name := "needState", desc := "(Z)V" } : Jvm.MethodName) prog_1_method_3_code (1 : Nat) (Option.none : Option Jvm.ClassFile.FieldType)) ∈ lw_all := lw_g (lw_at lw_m6 4 rfl) rfl
theorem q1346 : (Jvm.Cond.classLink "HallPlan" (74 : Nat) "java/lang/IllegalStateException") ∈ lw_all := lw_g (lw_at lw_m6 5 rfl) rfl
theorem q1355 : (Jvm.Cond.methodLink "HallPlan" (76 : Nat) ({ cls := "java/lang/IllegalStateException", name := "<init>", desc := "()V" } : Jvm.MethodName)) ∈ lw_all := lw_g (lw_at lw_m6 14 rfl) rfl
theorem q1372 : (Jvm.Cond.instanceMethod ({ cls := "HallPlan", name := "truncate", desc := "(I)I" } : Jvm.MethodName)) ∈ lw_all := lw_g (lw_at lw_m6 31 rfl) rfl
theorem q1373 : (Jvm.Cond.selects "HallPlan" ({ cls := "HallPlan", name := "truncate", desc := "(I)I" } : Jvm.MethodName) ({ cls := "HallPlan", name := "truncate", desc := "(I)I" } : Jvm.MethodName)) ∈ lw_all := lw_g (lw_at lw_m6 32 rfl) rfl
theorem q1374 : (Jvm.Cond.code ({ cls := "HallPlan", name := "truncate", desc := "(I)I" } : Jvm.MethodName) prog_1_method_9_code (2 : Nat) (Option.some Jvm.ClassFile.FieldType.int)) ∈ lw_all := lw_g (lw_at lw_m6 33 rfl) rfl
theorem q1375 : (Jvm.Cond.methodLink "HallPlan" (98 : Nat) ({ cls := "HallPlan", name := "in", desc := "(III)Z" } : Jvm.MethodName)) ∈ lw_all := lw_g (lw_at lw_m6 34 rfl) rfl
theorem q1376 : (Jvm.Cond.methodLink "HallPlan" (102 : Nat) ({ cls := "HallPlan", name := "needValue", desc := "(Z)V" } : Jvm.MethodName)) ∈ lw_all := lw_g (lw_at lw_m6 35 rfl) rfl
theorem q1377 : (Jvm.Cond.static ({ cls := "HallPlan", name := "needValue", desc := "(Z)V" } : Jvm.MethodName)) ∈ lw_all := lw_g (lw_at lw_m6 36 rfl) rfl
theorem q1378 : (Jvm.Cond.code ({ cls := "HallPlan", name := "needValue", desc := "(Z)V" } : Jvm.MethodName) prog_1_method_4_code (1 : Nat) (Option.none : Option Jvm.ClassFile.FieldType)) ∈ lw_all := lw_g (lw_at lw_m6 37 rfl) rfl
theorem q1379 : (Jvm.Cond.classLink "HallPlan" (77 : Nat) "java/lang/IllegalArgumentException") ∈ lw_all := lw_g (lw_at lw_m6 38 rfl) rfl
theorem q1380 : (Jvm.Cond.methodLink "HallPlan" (79 : Nat) ({ cls := "java/lang/IllegalArgumentException", name := "<init>", desc := "()V" } : Jvm.MethodName)) ∈ lw_all := lw_g (lw_at lw_m6 39 rfl) rfl
theorem q1388 : (Jvm.Cond.instanceMethod ({ cls := "HallPlan", name := "load", desc := "()I" } : Jvm.MethodName)) ∈ lw_all := lw_g (lw_at lw_m6 47 rfl) rfl
theorem q1389 : (Jvm.Cond.selects "HallPlan" ({ cls := "HallPlan", name := "load", desc := "()I" } : Jvm.MethodName) ({ cls := "HallPlan", name := "load", desc := "()I" } : Jvm.MethodName)) ∈ lw_all := lw_g (lw_at lw_m6 48 rfl) rfl
theorem q1390 : (Jvm.Cond.codeWith ({ cls := "HallPlan", name := "load", desc := "()I" } : Jvm.MethodName) prog_1_method_12_code (2 : Nat) (Option.some Jvm.ClassFile.FieldType.int) [((0 : Nat), (15 : Nat), (18 : Nat), (118 : Nat))]) ∈ lw_all := lw_g (lw_at lw_m6 49 rfl) rfl
theorem q1391 : (Jvm.Cond.methodLink "HallPlan" (123 : Nat) ({ cls := "java/lang/IllegalArgumentException", name := "<init>", desc := "(Ljava/lang/String;Ljava/lang/Throwable;)V" } : Jvm.MethodName)) ∈ lw_all := lw_g (lw_at lw_m6 50 rfl) rfl
theorem q1403 : (Jvm.Cond.methodLink "HallPlan" (129 : Nat) ({ cls := "java/util/ArrayDeque", name := "clear", desc := "()V" } : Jvm.MethodName)) ∈ lw_all := lw_g (lw_at lw_m6 62 rfl) rfl
theorem q1433 : (Jvm.Cond.instanceMethod ({ cls := "HallPlan", name := "draft", desc := "(III)I" } : Jvm.MethodName)) ∈ lw_all := lw_g (lw_at lw_m6 92 rfl) rfl
theorem q1434 : (Jvm.Cond.selects "HallPlan" ({ cls := "HallPlan", name := "draft", desc := "(III)I" } : Jvm.MethodName) ({ cls := "HallPlan", name := "draft", desc := "(III)I" } : Jvm.MethodName)) ∈ lw_all := lw_g (lw_at lw_m6 93 rfl) rfl
theorem q1435 : (Jvm.Cond.code ({ cls := "HallPlan", name := "draft", desc := "(III)I" } : Jvm.MethodName) prog_1_method_41_code (5 : Nat) (Option.some Jvm.ClassFile.FieldType.int)) ∈ lw_all := lw_g (lw_at lw_m6 94 rfl) rfl
theorem q1436 : (Jvm.Cond.methodLink "HallPlan" (345 : Nat) ({ cls := "HallPlan", name := "isType", desc := "(I)Z" } : Jvm.MethodName)) ∈ lw_all := lw_g (lw_at lw_m6 95 rfl) rfl
theorem q1437 : (Jvm.Cond.privateMethod ({ cls := "HallPlan", name := "isType", desc := "(I)Z" } : Jvm.MethodName)) ∈ lw_tbl := lw_at lw_m6 96 rfl
theorem q1438 : (Jvm.Cond.instanceMethod ({ cls := "HallPlan", name := "isType", desc := "(I)Z" } : Jvm.MethodName)) ∈ lw_all := lw_g (lw_at lw_m6 97 rfl) rfl
theorem q1439 : (Jvm.Cond.code ({ cls := "HallPlan", name := "isType", desc := "(I)Z" } : Jvm.MethodName) prog_1_method_15_code (2 : Nat) (Option.some Jvm.ClassFile.FieldType.boolean)) ∈ lw_all := lw_g (lw_at lw_m6 98 rfl) rfl
theorem q1440 : (Jvm.Cond.methodLink "HallPlan" (289 : Nat) ({ cls := "HallPlan", name := "needIndex", desc := "(Z)V" } : Jvm.MethodName)) ∈ lw_all := lw_g (lw_at lw_m6 99 rfl) rfl
theorem q1441 : (Jvm.Cond.static ({ cls := "HallPlan", name := "needIndex", desc := "(Z)V" } : Jvm.MethodName)) ∈ lw_all := lw_g (lw_at lw_m6 100 rfl) rfl
theorem q1442 : (Jvm.Cond.code ({ cls := "HallPlan", name := "needIndex", desc := "(Z)V" } : Jvm.MethodName) prog_1_method_5_code (1 : Nat) (Option.none : Option Jvm.ClassFile.FieldType)) ∈ lw_all := lw_g (lw_at lw_m6 101 rfl) rfl
theorem q1443 : (Jvm.Cond.classLink "HallPlan" (80 : Nat) "java/lang/IndexOutOfBoundsException") ∈ lw_all := lw_g (lw_at lw_m6 102 rfl) rfl
theorem q1452 : (Jvm.Cond.methodLink "HallPlan" (82 : Nat) ({ cls := "java/lang/IndexOutOfBoundsException", name := "<init>", desc := "()V" } : Jvm.MethodName)) ∈ lw_all := lw_g (lw_at lw_m6 111 rfl) rfl
theorem q1458 : (Jvm.Cond.methodLink "HallPlan" (348 : Nat) ({ cls := "HallPlan$Event", name := "<init>", desc := "(III[I)V" } : Jvm.MethodName)) ∈ lw_all := lw_g (lw_at lw_m6 117 rfl) rfl
theorem q1463 : (Jvm.Cond.instanceMethod ({ cls := "HallPlan", name := "need", desc := "(II)I" } : Jvm.MethodName)) ∈ lw_all := lw_g (lw_at lw_m6 122 rfl) rfl
theorem q1464 : (Jvm.Cond.selects "HallPlan" ({ cls := "HallPlan", name := "need", desc := "(II)I" } : Jvm.MethodName) ({ cls := "HallPlan", name := "need", desc := "(II)I" } : Jvm.MethodName)) ∈ lw_all := lw_g (lw_at lw_m6 123 rfl) rfl
theorem q1465 : (Jvm.Cond.code ({ cls := "HallPlan", name := "need", desc := "(II)I" } : Jvm.MethodName) prog_1_method_42_code (4 : Nat) (Option.some Jvm.ClassFile.FieldType.int)) ∈ lw_all := lw_g (lw_at lw_m6 124 rfl) rfl
theorem q1466 : (Jvm.Cond.methodLink "HallPlan" (351 : Nat) ({ cls := "HallPlan", name := "isKind", desc := "(I)Z" } : Jvm.MethodName)) ∈ lw_all := lw_g (lw_at lw_m6 125 rfl) rfl
theorem q1467 : (Jvm.Cond.privateMethod ({ cls := "HallPlan", name := "isKind", desc := "(I)Z" } : Jvm.MethodName)) ∈ lw_tbl := lw_at lw_m6 126 rfl
theorem q1468 : (Jvm.Cond.instanceMethod ({ cls := "HallPlan", name := "isKind", desc := "(I)Z" } : Jvm.MethodName)) ∈ lw_all := lw_g (lw_at lw_m6 127 rfl) rfl
theorem q1469 : (Jvm.Cond.code ({ cls := "HallPlan", name := "isKind", desc := "(I)Z" } : Jvm.MethodName) prog_1_method_16_code (2 : Nat) (Option.some Jvm.ClassFile.FieldType.boolean)) ∈ lw_all := lw_g (lw_at lw_m6 128 rfl) rfl
theorem q1470 : (Jvm.Cond.methodLink "HallPlan" (354 : Nat) ({ cls := "HallPlan$Event", name := "with", desc := "(II)LHallPlan$Event;" } : Jvm.MethodName)) ∈ lw_all := lw_g (lw_at lw_m6 129 rfl) rfl
theorem q1479 : (Jvm.Cond.instanceMethod ({ cls := "HallPlan", name := "book", desc := "(II)I" } : Jvm.MethodName)) ∈ lw_all := lw_g (lw_at lw_m6 138 rfl) rfl
theorem q1480 : (Jvm.Cond.selects "HallPlan" ({ cls := "HallPlan", name := "book", desc := "(II)I" } : Jvm.MethodName) ({ cls := "HallPlan", name := "book", desc := "(II)I" } : Jvm.MethodName)) ∈ lw_all := lw_g (lw_at lw_m6 139 rfl) rfl
theorem q1481 : (Jvm.Cond.code ({ cls := "HallPlan", name := "book", desc := "(II)I" } : Jvm.MethodName) prog_1_method_45_code (3 : Nat) (Option.some Jvm.ClassFile.FieldType.int)) ∈ lw_all := lw_g (lw_at lw_m6 140 rfl) rfl
theorem q1482 : (Jvm.Cond.methodLink "HallPlan" (365 : Nat) ({ cls := "HallPlan", name := "needHallAndStart", desc := "(II)V" } : Jvm.MethodName)) ∈ lw_all := lw_g (lw_at lw_m6 141 rfl) rfl
theorem q1483 : (Jvm.Cond.privateMethod ({ cls := "HallPlan", name := "needHallAndStart", desc := "(II)V" } : Jvm.MethodName)) ∈ lw_tbl := lw_at lw_m6 142 rfl
theorem q1484 : (Jvm.Cond.instanceMethod ({ cls := "HallPlan", name := "needHallAndStart", desc := "(II)V" } : Jvm.MethodName)) ∈ lw_all := lw_g (lw_at lw_m6 143 rfl) rfl
theorem q1485 : (Jvm.Cond.code ({ cls := "HallPlan", name := "needHallAndStart", desc := "(II)V" } : Jvm.MethodName) prog_1_method_43_code (3 : Nat) (Option.none : Option Jvm.ClassFile.FieldType)) ∈ lw_all := lw_g (lw_at lw_m6 144 rfl) rfl
theorem q1486 : (Jvm.Cond.methodLink "HallPlan" (321 : Nat) ({ cls := "HallPlan", name := "isHall", desc := "(I)Z" } : Jvm.MethodName)) ∈ lw_all := lw_g (lw_at lw_m6 145 rfl) rfl
theorem q1487 : (Jvm.Cond.privateMethod ({ cls := "HallPlan", name := "isHall", desc := "(I)Z" } : Jvm.MethodName)) ∈ lw_tbl := lw_at lw_m6 146 rfl
theorem q1488 : (Jvm.Cond.instanceMethod ({ cls := "HallPlan", name := "isHall", desc := "(I)Z" } : Jvm.MethodName)) ∈ lw_all := lw_g (lw_at lw_m6 147 rfl) rfl
theorem q1489 : (Jvm.Cond.code ({ cls := "HallPlan", name := "isHall", desc := "(I)Z" } : Jvm.MethodName) prog_1_method_14_code (2 : Nat) (Option.some Jvm.ClassFile.FieldType.boolean)) ∈ lw_all := lw_g (lw_at lw_m6 148 rfl) rfl
theorem q1490 : (Jvm.Cond.methodLink "HallPlan" (324 : Nat) ({ cls := "HallPlan", name := "isStart", desc := "(I)Z" } : Jvm.MethodName)) ∈ lw_all := lw_g (lw_at lw_m6 149 rfl) rfl
theorem q1491 : (Jvm.Cond.static ({ cls := "HallPlan", name := "isStart", desc := "(I)Z" } : Jvm.MethodName)) ∈ lw_all := lw_g (lw_at lw_m6 150 rfl) rfl
theorem q1492 : (Jvm.Cond.code ({ cls := "HallPlan", name := "isStart", desc := "(I)Z" } : Jvm.MethodName) prog_1_method_18_code (1 : Nat) (Option.some Jvm.ClassFile.FieldType.boolean)) ∈ lw_all := lw_g (lw_at lw_m6 151 rfl) rfl
theorem q1493 : (Jvm.Cond.constant "HallPlan" (163 : Nat) (86385 : Int32)) ∈ lw_all := lw_g (lw_at lw_m6 152 rfl) rfl
theorem q1494 : (Jvm.Cond.methodLink "HallPlan" (260 : Nat) ({ cls := "HallPlan", name := "problemOf", desc := "(LHallPlan$Event;II)I" } : Jvm.MethodName)) ∈ lw_all := lw_g (lw_at lw_m6 153 rfl) rfl
theorem q1495 : (Jvm.Cond.privateMethod ({ cls := "HallPlan", name := "problemOf", desc := "(LHallPlan$Event;II)I" } : Jvm.MethodName)) ∈ lw_tbl := lw_at lw_m6 154 rfl
theorem q1496 : (Jvm.Cond.instanceMethod ({ cls := "HallPlan", name := "problemOf", desc := "(LHallPlan$Event;II)I" } : Jvm.MethodName)) ∈ lw_all := lw_g (lw_at lw_m6 155 rfl) rfl
theorem q1497 : (Jvm.Cond.code ({ cls := "HallPlan", name := "problemOf", desc := "(LHallPlan$Event;II)I" } : Jvm.MethodName) prog_1_method_26_code (5 : Nat) (Option.some Jvm.ClassFile.FieldType.int)) ∈ lw_all := lw_g (lw_at lw_m6 156 rfl) rfl
theorem q1498 : (Jvm.Cond.interfaceEntry "HallPlan" (247 : Nat)) ∈ lw_tbl := lw_at lw_m6 157 rfl
theorem q1499 : (Jvm.Cond.methodLink "HallPlan" (247 : Nat) ({ cls := "HallPlan$Check", name := "fails", desc := "(LHallPlan$Event;II)Z" } : Jvm.MethodName)) ∈ lw_all := lw_g (lw_at lw_m6 158 rfl) rfl
theorem q1502 : (Jvm.Cond.methodLink "HallPlan" (335 : Nat) ({ cls := "HallPlan", name := "record", desc := "()V" } : Jvm.MethodName)) ∈ lw_all := lw_g (lw_at lw_m6 161 rfl) rfl
theorem q1503 : (Jvm.Cond.privateMethod ({ cls := "HallPlan", name := "record", desc := "()V" } : Jvm.MethodName)) ∈ lw_tbl := lw_at lw_m6 162 rfl
theorem q1504 : (Jvm.Cond.instanceMethod ({ cls := "HallPlan", name := "record", desc := "()V" } : Jvm.MethodName)) ∈ lw_all := lw_g (lw_at lw_m6 163 rfl) rfl
theorem q1505 : (Jvm.Cond.code ({ cls := "HallPlan", name := "record", desc := "()V" } : Jvm.MethodName) prog_1_method_13_code (1 : Nat) (Option.none : Option Jvm.ClassFile.FieldType)) ∈ lw_all := lw_g (lw_at lw_m6 164 rfl) rfl
theorem q1506 : (Jvm.Cond.methodLink "HallPlan" (143 : Nat) ({ cls := "java/util/ArrayDeque", name := "removeFirst", desc := "()Ljava/lang/Object;" } : Jvm.MethodName)) ∈ lw_all := lw_g (lw_at lw_m6 165 rfl) rfl
theorem q1535 : (Jvm.Cond.methodLink "HallPlan" (150 : Nat) ({ cls := "java/util/ArrayDeque", name := "addLast", desc := "(Ljava/lang/Object;)V" } : Jvm.MethodName)) ∈ lw_all := lw_g (lw_at lw_m6 194 rfl) rfl
theorem q1557 : (Jvm.Cond.methodLink "HallPlan" (369 : Nat) ({ cls := "HallPlan", name := "add", desc := "(LHallPlan$Event;II)I" } : Jvm.MethodName)) ∈ lw_all := lw_g (lw_at lw_m6 216 rfl) rfl
theorem q1558 : (Jvm.Cond.privateMethod ({ cls := "HallPlan", name := "add", desc := "(LHallPlan$Event;II)I" } : Jvm.MethodName)) ∈ lw_tbl := lw_at lw_m6 217 rfl
theorem q1559 : (Jvm.Cond.instanceMethod ({ cls := "HallPlan", name := "add", desc := "(LHallPlan$Event;II)I" } : Jvm.MethodName)) ∈ lw_all := lw_g (lw_at lw_m6 218 rfl) rfl
theorem q1560 : (Jvm.Cond.code ({ cls := "HallPlan", name := "add", desc := "(LHallPlan$Event;II)I" } : Jvm.MethodName) prog_1_method_44_code (4 : Nat) (Option.some Jvm.ClassFile.FieldType.int)) ∈ lw_all := lw_g (lw_at lw_m6 219 rfl) rfl
theorem q1561 : (Jvm.Cond.methodLink "HallPlan" (254 : Nat) ({ cls := "HallPlan$Setup", name := "price", desc := "(LHallPlan$Event;II)I" } : Jvm.MethodName)) ∈ lw_all := lw_g (lw_at lw_m6 220 rfl) rfl
theorem q1571 : (Jvm.Cond.methodLink "HallPlan" (358 : Nat) ({ cls := "HallPlan$Booking", name := "<init>", desc := "(LHallPlan$Event;III)V" } : Jvm.MethodName)) ∈ lw_all := lw_g (lw_at lw_m6 230 rfl) rfl
theorem q1572 : (Jvm.Cond.interfaceEntry "HallPlan" (361 : Nat)) ∈ lw_tbl := lw_at lw_m6 231 rfl
theorem q1573 : (Jvm.Cond.methodLink "HallPlan" (361 : Nat) ({ cls := "java/util/List", name := "add", desc := "(Ljava/lang/Object;)Z" } : Jvm.MethodName)) ∈ lw_all := lw_g (lw_at lw_m6 232 rfl) rfl
theorem q1578 : (Jvm.Cond.instanceMethod ({ cls := "HallPlan", name := "cancel", desc := "(I)I" } : Jvm.MethodName)) ∈ lw_all := lw_g (lw_at lw_m6 237 rfl) rfl
theorem q1579 : (Jvm.Cond.selects "HallPlan" ({ cls := "HallPlan", name := "cancel", desc := "(I)I" } : Jvm.MethodName) ({ cls := "HallPlan", name := "cancel", desc := "(I)I" } : Jvm.MethodName)) ∈ lw_all := lw_g (lw_at lw_m6 238 rfl) rfl
theorem q1580 : (Jvm.Cond.code ({ cls := "HallPlan", name := "cancel", desc := "(I)I" } : Jvm.MethodName) prog_1_method_49_code (3 : Nat) (Option.some Jvm.ClassFile.FieldType.int)) ∈ lw_all := lw_g (lw_at lw_m6 239 rfl) rfl
theorem q1581 : (Jvm.Cond.methodLink "HallPlan" (375 : Nat) ({ cls := "HallPlan", name := "needOpenBooking", desc := "(I)V" } : Jvm.MethodName)) ∈ lw_all := lw_g (lw_at lw_m7 0 rfl) rfl
theorem q1582 : (Jvm.Cond.privateMethod ({ cls := "HallPlan", name := "needOpenBooking", desc := "(I)V" } : Jvm.MethodName)) ∈ lw_tbl := lw_at lw_m7 1 rfl
theorem q1583 : (Jvm.Cond.instanceMethod ({ cls := "HallPlan", name := "needOpenBooking", desc := "(I)V" } : Jvm.MethodName)) ∈ lw_all := lw_g (lw_at lw_m7 2 rfl) rfl
theorem q1584 : (Jvm.Cond.code ({ cls := "HallPlan", name := "needOpenBooking", desc := "(I)V" } : Jvm.MethodName) prog_1_method_47_code (2 : Nat) (Option.none : Option Jvm.ClassFile.FieldType)) ∈ lw_all := lw_g (lw_at lw_m7 3 rfl) rfl
theorem q1585 : (Jvm.Cond.methodLink "HallPlan" (285 : Nat) ({ cls := "HallPlan", name := "isBooking", desc := "(I)Z" } : Jvm.MethodName)) ∈ lw_all := lw_g (lw_at lw_m7 4 rfl) rfl
theorem q1586 : (Jvm.Cond.privateMethod ({ cls := "HallPlan", name := "isBooking", desc := "(I)Z" } : Jvm.MethodName)) ∈ lw_tbl := lw_at lw_m7 5 rfl
theorem q1587 : (Jvm.Cond.instanceMethod ({ cls := "HallPlan", name := "isBooking", desc := "(I)Z" } : Jvm.MethodName)) ∈ lw_all := lw_g (lw_at lw_m7 6 rfl) rfl
theorem q1588 : (Jvm.Cond.code ({ cls := "HallPlan", name := "isBooking", desc := "(I)Z" } : Jvm.MethodName) prog_1_method_17_code (2 : Nat) (Option.some Jvm.ClassFile.FieldType.boolean)) ∈ lw_all := lw_g (lw_at lw_m7 7 rfl) rfl
theorem q1589 : (Jvm.Cond.methodLink "HallPlan" (313 : Nat) ({ cls := "HallPlan", name := "isLink", desc := "(LHallPlan$Booking;)Z" } : Jvm.MethodName)) ∈ lw_all := lw_g (lw_at lw_m7 8 rfl) rfl
theorem q1590 : (Jvm.Cond.privateMethod ({ cls := "HallPlan", name := "isLink", desc := "(LHallPlan$Booking;)Z" } : Jvm.MethodName)) ∈ lw_tbl := lw_at lw_m7 9 rfl
theorem q1591 : (Jvm.Cond.instanceMethod ({ cls := "HallPlan", name := "isLink", desc := "(LHallPlan$Booking;)Z" } : Jvm.MethodName)) ∈ lw_all := lw_g (lw_at lw_m7 10 rfl) rfl
theorem q1592 : (Jvm.Cond.code ({ cls := "HallPlan", name := "isLink", desc := "(LHallPlan$Booking;)Z" } : Jvm.MethodName) prog_1_method_36_code (2 : Nat) (Option.some Jvm.ClassFile.FieldType.boolean)) ∈ lw_all := lw_g (lw_at lw_m7 11 rfl) rfl
theorem q1593 : (Jvm.Cond.methodLink "HallPlan" (379 : Nat) ({ cls := "HallPlan", name := "feeOf", desc := "(LHallPlan$Booking;)I" } : Jvm.MethodName)) ∈ lw_all := lw_g (lw_at lw_m7 12 rfl) rfl
theorem q1594 : (Jvm.Cond.privateMethod ({ cls := "HallPlan", name := "feeOf", desc := "(LHallPlan$Booking;)I" } : Jvm.MethodName)) ∈ lw_tbl := lw_at lw_m7 13 rfl
theorem q1595 : (Jvm.Cond.instanceMethod ({ cls := "HallPlan", name := "feeOf", desc := "(LHallPlan$Booking;)I" } : Jvm.MethodName)) ∈ lw_all := lw_g (lw_at lw_m7 14 rfl) rfl
theorem q1596 : (Jvm.Cond.code ({ cls := "HallPlan", name := "feeOf", desc := "(LHallPlan$Booking;)I" } : Jvm.MethodName) prog_1_method_46_code (2 : Nat) (Option.some Jvm.ClassFile.FieldType.int)) ∈ lw_all := lw_g (lw_at lw_m7 15 rfl) rfl
theorem q1597 : (Jvm.Cond.methodLink "HallPlan" (371 : Nat) ({ cls := "HallPlan$Setup", name := "feePercent", desc := "(I)I" } : Jvm.MethodName)) ∈ lw_all := lw_g (lw_at lw_m7 16 rfl) rfl
theorem q1605 : (Jvm.Cond.methodLink "HallPlan" (386 : Nat) ({ cls := "HallPlan", name := "serveRequests", desc := "()V" } : Jvm.MethodName)) ∈ lw_all := lw_g (lw_at lw_m7 24 rfl) rfl
theorem q1606 : (Jvm.Cond.privateMethod ({ cls := "HallPlan", name := "serveRequests", desc := "()V" } : Jvm.MethodName)) ∈ lw_tbl := lw_at lw_m7 25 rfl
theorem q1607 : (Jvm.Cond.instanceMethod ({ cls := "HallPlan", name := "serveRequests", desc := "()V" } : Jvm.MethodName)) ∈ lw_all := lw_g (lw_at lw_m7 26 rfl) rfl
theorem q1608 : (Jvm.Cond.code ({ cls := "HallPlan", name := "serveRequests", desc := "()V" } : Jvm.MethodName) prog_1_method_50_code (3 : Nat) (Option.none : Option Jvm.ClassFile.FieldType)) ∈ lw_all := lw_g (lw_at lw_m7 27 rfl) rfl
theorem q1609 : (Jvm.Cond.interfaceEntry "HallPlan" (392 : Nat)) ∈ lw_tbl := lw_at lw_m7 28 rfl
theorem q1610 : (Jvm.Cond.methodLink "HallPlan" (392 : Nat) ({ cls := "java/util/List", name := "iterator", desc := "()Ljava/util/Iterator;" } : Jvm.MethodName)) ∈ lw_all := lw_g (lw_at lw_m7 29 rfl) rfl
theorem q1637 : (Jvm.Cond.interfaceEntry "HallPlan" (396 : Nat)) ∈ lw_tbl := lw_at lw_m7 56 rfl
theorem q1638 : (Jvm.Cond.methodLink "HallPlan" (396 : Nat) ({ cls := "java/util/Iterator", name := "hasNext", desc := "()Z" } : Jvm.MethodName)) ∈ lw_all := lw_g (lw_at lw_m7 57 rfl) rfl
theorem q1647 : (Jvm.Cond.interfaceEntry "HallPlan" (401 : Nat)) ∈ lw_tbl := lw_at lw_m7 66 rfl
theorem q1648 : (Jvm.Cond.methodLink "HallPlan" (401 : Nat) ({ cls := "java/util/Iterator", name := "next", desc := "()Ljava/lang/Object;" } : Jvm.MethodName)) ∈ lw_all := lw_g (lw_at lw_m7 67 rfl) rfl
theorem q1662 : (Jvm.Cond.classLink "HallPlan" (404 : Nat) "HallPlan$Request") ∈ lw_all := lw_g (lw_at lw_m7 81 rfl) rfl
theorem q1663 : (Jvm.Cond.interfaceEntry "HallPlan" (409 : Nat)) ∈ lw_tbl := lw_at lw_m7 82 rfl
theorem q1664 : (Jvm.Cond.methodLink "HallPlan" (409 : Nat) ({ cls := "java/util/Iterator", name := "remove", desc := "()V" } : Jvm.MethodName)) ∈ lw_all := lw_g (lw_at lw_m7 83 rfl) rfl
theorem q1702 : (Jvm.Cond.instanceMethod ({ cls := "HallPlan", name := "move", desc := "(III)I" } : Jvm.MethodName)) ∈ lw_all := lw_g (lw_at lw_m7 121 rfl) rfl
theorem q1703 : (Jvm.Cond.selects "HallPlan" ({ cls := "HallPlan", name := "move", desc := "(III)I" } : Jvm.MethodName) ({ cls := "HallPlan", name := "move", desc := "(III)I" } : Jvm.MethodName)) ∈ lw_all := lw_g (lw_at lw_m7 122 rfl) rfl
theorem q1704 : (Jvm.Cond.code ({ cls := "HallPlan", name := "move", desc := "(III)I" } : Jvm.MethodName) prog_1_method_52_code (5 : Nat) (Option.some Jvm.ClassFile.FieldType.int)) ∈ lw_all := lw_g (lw_at lw_m7 123 rfl) rfl
theorem q1705 : (Jvm.Cond.methodLink "HallPlan" (327 : Nat) ({ cls := "HallPlan", name := "needSlot", desc := "(III)V" } : Jvm.MethodName)) ∈ lw_all := lw_g (lw_at lw_m7 124 rfl) rfl
theorem q1706 : (Jvm.Cond.privateMethod ({ cls := "HallPlan", name := "needSlot", desc := "(III)V" } : Jvm.MethodName)) ∈ lw_tbl := lw_at lw_m7 125 rfl
theorem q1707 : (Jvm.Cond.instanceMethod ({ cls := "HallPlan", name := "needSlot", desc := "(III)V" } : Jvm.MethodName)) ∈ lw_all := lw_g (lw_at lw_m7 126 rfl) rfl
theorem q1708 : (Jvm.Cond.code ({ cls := "HallPlan", name := "needSlot", desc := "(III)V" } : Jvm.MethodName) prog_1_method_38_code (4 : Nat) (Option.none : Option Jvm.ClassFile.FieldType)) ∈ lw_all := lw_g (lw_at lw_m7 127 rfl) rfl
theorem q1709 : (Jvm.Cond.methodLink "HallPlan" (412 : Nat) ({ cls := "HallPlan", name := "moveProblemOf", desc := "(LHallPlan$Booking;II)I" } : Jvm.MethodName)) ∈ lw_all := lw_g (lw_at lw_m7 128 rfl) rfl
theorem q1710 : (Jvm.Cond.privateMethod ({ cls := "HallPlan", name := "moveProblemOf", desc := "(LHallPlan$Booking;II)I" } : Jvm.MethodName)) ∈ lw_tbl := lw_at lw_m7 129 rfl
theorem q1711 : (Jvm.Cond.instanceMethod ({ cls := "HallPlan", name := "moveProblemOf", desc := "(LHallPlan$Booking;II)I" } : Jvm.MethodName)) ∈ lw_all := lw_g (lw_at lw_m7 130 rfl) rfl
theorem q1712 : (Jvm.Cond.code ({ cls := "HallPlan", name := "moveProblemOf", desc := "(LHallPlan$Booking;II)I" } : Jvm.MethodName) prog_1_method_51_code (5 : Nat) (Option.some Jvm.ClassFile.FieldType.int)) ∈ lw_all := lw_g (lw_at lw_m7 131 rfl) rfl
theorem q1713 : (Jvm.Cond.methodLink "HallPlan" (268 : Nat) ({ cls := "HallPlan", name := "settle", desc := "(LHallPlan$Booking;II)V" } : Jvm.MethodName)) ∈ lw_all := lw_g (lw_at lw_m7 132 rfl) rfl
theorem q1714 : (Jvm.Cond.privateMethod ({ cls := "HallPlan", name := "settle", desc := "(LHallPlan$Booking;II)V" } : Jvm.MethodName)) ∈ lw_tbl := lw_at lw_m7 133 rfl
theorem q1715 : (Jvm.Cond.instanceMethod ({ cls := "HallPlan", name := "settle", desc := "(LHallPlan$Booking;II)V" } : Jvm.MethodName)) ∈ lw_all := lw_g (lw_at lw_m7 134 rfl) rfl
theorem q1716 : (Jvm.Cond.code ({ cls := "HallPlan", name := "settle", desc := "(LHallPlan$Booking;II)V" } : Jvm.MethodName) prog_1_method_27_code (4 : Nat) (Option.none : Option Jvm.ClassFile.FieldType)) ∈ lw_all := lw_g (lw_at lw_m7 135 rfl) rfl
theorem q1717 : (Jvm.Cond.methodLink "HallPlan" (303 : Nat) ({ cls := "HallPlan", name := "reprice", desc := "(LHallPlan$Booking;)V" } : Jvm.MethodName)) ∈ lw_all := lw_g (lw_at lw_m7 136 rfl) rfl
theorem q1718 : (Jvm.Cond.privateMethod ({ cls := "HallPlan", name := "reprice", desc := "(LHallPlan$Booking;)V" } : Jvm.MethodName)) ∈ lw_tbl := lw_at lw_m7 137 rfl
theorem q1719 : (Jvm.Cond.instanceMethod ({ cls := "HallPlan", name := "reprice", desc := "(LHallPlan$Booking;)V" } : Jvm.MethodName)) ∈ lw_all := lw_g (lw_at lw_m7 138 rfl) rfl
theorem q1720 : (Jvm.Cond.code ({ cls := "HallPlan", name := "reprice", desc := "(LHallPlan$Booking;)V" } : Jvm.MethodName) prog_1_method_28_code (2 : Nat) (Option.none : Option Jvm.ClassFile.FieldType)) ∈ lw_all := lw_g (lw_at lw_m7 139 rfl) rfl
theorem q1725 : (Jvm.Cond.instanceMethod ({ cls := "HallPlan", name := "moveByChain", desc := "(III)I" } : Jvm.MethodName)) ∈ lw_all := lw_g (lw_at lw_m7 144 rfl) rfl
theorem q1726 : (Jvm.Cond.selects "HallPlan" ({ cls := "HallPlan", name := "moveByChain", desc := "(III)I" } : Jvm.MethodName) ({ cls := "HallPlan", name := "moveByChain", desc := "(III)I" } : Jvm.MethodName)) ∈ lw_all := lw_g (lw_at lw_m7 145 rfl) rfl
theorem q1727 : (Jvm.Cond.code ({ cls := "HallPlan", name := "moveByChain", desc := "(III)I" } : Jvm.MethodName) prog_1_method_39_code (6 : Nat) (Option.some Jvm.ClassFile.FieldType.int)) ∈ lw_all := lw_g (lw_at lw_m7 146 rfl) rfl
theorem q1728 : (Jvm.Cond.methodLink "HallPlan" (331 : Nat) ({ cls := "HallPlan", name := "findChain", desc := "(LHallPlan$Booking;II)I" } : Jvm.MethodName)) ∈ lw_all := lw_g (lw_at lw_m7 147 rfl) rfl
theorem q1729 : (Jvm.Cond.privateMethod ({ cls := "HallPlan", name := "findChain", desc := "(LHallPlan$Booking;II)I" } : Jvm.MethodName)) ∈ lw_tbl := lw_at lw_m7 148 rfl
theorem q1730 : (Jvm.Cond.instanceMethod ({ cls := "HallPlan", name := "findChain", desc := "(LHallPlan$Booking;II)I" } : Jvm.MethodName)) ∈ lw_all := lw_g (lw_at lw_m7 149 rfl) rfl
theorem q1731 : (Jvm.Cond.code ({ cls := "HallPlan", name := "findChain", desc := "(LHallPlan$Booking;II)I" } : Jvm.MethodName) prog_1_method_37_code (6 : Nat) (Option.some Jvm.ClassFile.FieldType.int)) ∈ lw_all := lw_g (lw_at lw_m7 150 rfl) rfl
theorem q1732 : (Jvm.Cond.methodLink "HallPlan" (317 : Nat) ({ cls := "HallPlan", name := "turns", desc := "(IIIZ)Z" } : Jvm.MethodName)) ∈ lw_all := lw_g (lw_at lw_m7 151 rfl) rfl
theorem q1733 : (Jvm.Cond.privateMethod ({ cls := "HallPlan", name := "turns", desc := "(IIIZ)Z" } : Jvm.MethodName)) ∈ lw_tbl := lw_at lw_m7 152 rfl
theorem q1734 : (Jvm.Cond.instanceMethod ({ cls := "HallPlan", name := "turns", desc := "(IIIZ)Z" } : Jvm.MethodName)) ∈ lw_all := lw_g (lw_at lw_m7 153 rfl) rfl
theorem q1735 : (Jvm.Cond.code ({ cls := "HallPlan", name := "turns", desc := "(IIIZ)Z" } : Jvm.MethodName) prog_1_method_35_code (10 : Nat) (Option.some Jvm.ClassFile.FieldType.boolean)) ∈ lw_all := lw_g (lw_at lw_m7 154 rfl) rfl
theorem q1740 : (Jvm.Cond.instanceMethod ({ cls := "HallPlan", name := "swap", desc := "(II)I" } : Jvm.MethodName)) ∈ lw_all := lw_g (lw_at lw_m7 159 rfl) rfl
theorem q1741 : (Jvm.Cond.selects "HallPlan" ({ cls := "HallPlan", name := "swap", desc := "(II)I" } : Jvm.MethodName) ({ cls := "HallPlan", name := "swap", desc := "(II)I" } : Jvm.MethodName)) ∈ lw_all := lw_g (lw_at lw_m7 160 rfl) rfl
theorem q1742 : (Jvm.Cond.codeWith ({ cls := "HallPlan", name := "swap", desc := "(II)I" } : Jvm.MethodName) prog_1_method_32_code (5 : Nat) (Option.some Jvm.ClassFile.FieldType.int) [((79 : Nat), (93 : Nat), (96 : Nat), (263 : Nat)), ((79 : Nat), (93 : Nat), (96 : Nat), (275 : Nat))]) ∈ lw_all := lw_g (lw_at lw_m7 161 rfl) rfl
theorem q1743 : (Jvm.Cond.classLink "HallPlan" (263 : Nat) "HallPlan$Refused") ∈ lw_all := lw_g (lw_at lw_m7 162 rfl) rfl
theorem q1744 : (Jvm.Cond.classLink "HallPlan" (275 : Nat) "HallPlan$Late") ∈ lw_all := lw_g (lw_at lw_m7 163 rfl) rfl
theorem q1745 : (Jvm.Cond.methodLink "HallPlan" (295 : Nat) ({ cls := "HallPlan", name := "trySwap", desc := "(LHallPlan$Booking;LHallPlan$Booking;)V" } : Jvm.MethodName)) ∈ lw_all := lw_g (lw_at lw_m7 164 rfl) rfl
theorem q1746 : (Jvm.Cond.privateMethod ({ cls := "HallPlan", name := "trySwap", desc := "(LHallPlan$Booking;LHallPlan$Booking;)V" } : Jvm.MethodName)) ∈ lw_tbl := lw_at lw_m7 165 rfl
theorem q1747 : (Jvm.Cond.instanceMethod ({ cls := "HallPlan", name := "trySwap", desc := "(LHallPlan$Booking;LHallPlan$Booking;)V" } : Jvm.MethodName)) ∈ lw_all := lw_g (lw_at lw_m7 166 rfl) rfl
theorem q1748 : (Jvm.Cond.codeWith ({ cls := "HallPlan", name := "trySwap", desc := "(LHallPlan$Booking;LHallPlan$Booking;)V" } : Jvm.MethodName) prog_1_method_31_code (9 : Nat) (Option.none : Option Jvm.ClassFile.FieldType) [((46 : Nat), (66 : Nat), (69 : Nat), (263 : Nat))]) ∈ lw_all := lw_g (lw_at lw_m7 167 rfl) rfl
theorem q1749 : (Jvm.Cond.methodLink "HallPlan" (278 : Nat) ({ cls := "HallPlan", name := "needNotLate", desc := "(LHallPlan$Booking;)V" } : Jvm.MethodName)) ∈ lw_all := lw_g (lw_at lw_m7 168 rfl) rfl
theorem q1750 : (Jvm.Cond.privateMethod ({ cls := "HallPlan", name := "needNotLate", desc := "(LHallPlan$Booking;)V" } : Jvm.MethodName)) ∈ lw_tbl := lw_at lw_m7 169 rfl
theorem q1751 : (Jvm.Cond.instanceMethod ({ cls := "HallPlan", name := "needNotLate", desc := "(LHallPlan$Booking;)V" } : Jvm.MethodName)) ∈ lw_all := lw_g (lw_at lw_m7 170 rfl) rfl
theorem q1752 : (Jvm.Cond.code ({ cls := "HallPlan", name := "needNotLate", desc := "(LHallPlan$Booking;)V" } : Jvm.MethodName) prog_1_method_30_code (2 : Nat) (Option.none : Option Jvm.ClassFile.FieldType)) ∈ lw_all := lw_g (lw_at lw_m7 171 rfl) rfl
theorem q1761 : (Jvm.Cond.methodLink "HallPlan" (277 : Nat) ({ cls := "HallPlan$Late", name := "<init>", desc := "()V" } : Jvm.MethodName)) ∈ lw_all := lw_g (lw_at lw_m7 180 rfl) rfl
theorem q1767 : (Jvm.Cond.methodLink "HallPlan" (282 : Nat) ({ cls := "HallPlan", name := "takeSlot", desc := "(LHallPlan$Booking;II)V" } : Jvm.MethodName)) ∈ lw_all := lw_g (lw_at lw_m7 186 rfl) rfl
theorem q1768 : (Jvm.Cond.privateMethod ({ cls := "HallPlan", name := "takeSlot", desc := "(LHallPlan$Booking;II)V" } : Jvm.MethodName)) ∈ lw_tbl := lw_at lw_m7 187 rfl
theorem q1769 : (Jvm.Cond.instanceMethod ({ cls := "HallPlan", name := "takeSlot", desc := "(LHallPlan$Booking;II)V" } : Jvm.MethodName)) ∈ lw_all := lw_g (lw_at lw_m7 188 rfl) rfl
theorem q1770 : (Jvm.Cond.code ({ cls := "HallPlan", name := "takeSlot", desc := "(LHallPlan$Booking;II)V" } : Jvm.MethodName) prog_1_method_29_code (5 : Nat) (Option.none : Option Jvm.ClassFile.FieldType)) ∈ lw_all := lw_g (lw_at lw_m7 189 rfl) rfl
theorem q1779 : (Jvm.Cond.methodLink "HallPlan" (265 : Nat) ({ cls := "HallPlan$Refused", name := "<init>", desc := "(ILjava/lang/Exception;)V" } : Jvm.MethodName)) ∈ lw_all := lw_g (lw_at lw_m7 198 rfl) rfl
theorem q1784 : (Jvm.Cond.fieldLinkNest "HallPlan" (310 : Nat) "HallPlan$Refused" "code" "I" "HallPlan") ∈ lw_tbl := lw_at lw_m7 203 rfl
theorem q1789 : (Jvm.Cond.methodLink "HallPlan" (299 : Nat) ({ cls := "java/lang/IllegalStateException", name := "<init>", desc := "(Ljava/lang/String;Ljava/lang/Throwable;)V" } : Jvm.MethodName)) ∈ lw_all := lw_g (lw_at lw_m7 208 rfl) rfl
theorem q1793 : (Jvm.Cond.methodLink "HallPlan" (300 : Nat) ({ cls := "HallPlan", name := "keep", desc := "(LHallPlan$State;)V" } : Jvm.MethodName)) ∈ lw_all := lw_g (lw_at lw_m7 212 rfl) rfl
theorem q1794 : (Jvm.Cond.privateMethod ({ cls := "HallPlan", name := "keep", desc := "(LHallPlan$State;)V" } : Jvm.MethodName)) ∈ lw_tbl := lw_at lw_m7 213 rfl
theorem q1795 : (Jvm.Cond.instanceMethod ({ cls := "HallPlan", name := "keep", desc := "(LHallPlan$State;)V" } : Jvm.MethodName)) ∈ lw_all := lw_g (lw_at lw_m7 214 rfl) rfl
theorem q1796 : (Jvm.Cond.code ({ cls := "HallPlan", name := "keep", desc := "(LHallPlan$State;)V" } : Jvm.MethodName) prog_1_method_33_code (2 : Nat) (Option.none : Option Jvm.ClassFile.FieldType)) ∈ lw_all := lw_g (lw_at lw_m7 215 rfl) rfl
theorem q1801 : (Jvm.Cond.instanceMethod ({ cls := "HallPlan", name := "enqueue", desc := "(II)I" } : Jvm.MethodName)) ∈ lw_all := lw_g (lw_at lw_m7 220 rfl) rfl
theorem q1802 : (Jvm.Cond.selects "HallPlan" ({ cls := "HallPlan", name := "enqueue", desc := "(II)I" } : Jvm.MethodName) ({ cls := "HallPlan", name := "enqueue", desc := "(II)I" } : Jvm.MethodName)) ∈ lw_all := lw_g (lw_at lw_m7 221 rfl) rfl
theorem q1803 : (Jvm.Cond.code ({ cls := "HallPlan", name := "enqueue", desc := "(II)I" } : Jvm.MethodName) prog_1_method_54_code (3 : Nat) (Option.some Jvm.ClassFile.FieldType.int)) ∈ lw_all := lw_g (lw_at lw_m7 222 rfl) rfl
theorem q1805 : (Jvm.Cond.methodLink "HallPlan" (415 : Nat) ({ cls := "HallPlan$Request", name := "<init>", desc := "(LHallPlan$Event;II)V" } : Jvm.MethodName)) ∈ lw_all := lw_g (lw_at lw_m7 224 rfl) rfl
theorem q1810 : (Jvm.Cond.fieldLinkNest "HallPlan" (406 : Nat) "HallPlan$Request" "event" "LHallPlan$Event;" "HallPlan") ∈ lw_tbl := lw_at lw_m7 229 rfl
theorem q1812 : (Jvm.Cond.fieldLinkNest "HallPlan" (407 : Nat) "HallPlan$Request" "hall" "I" "HallPlan") ∈ lw_tbl := lw_at lw_m7 231 rfl
theorem q1814 : (Jvm.Cond.fieldLinkNest "HallPlan" (408 : Nat) "HallPlan$Request" "start" "I" "HallPlan") ∈ lw_tbl := lw_at lw_m7 233 rfl
theorem q1826 : (Jvm.Cond.instanceMethod ({ cls := "HallPlan", name := "dequeue", desc := "(I)I" } : Jvm.MethodName)) ∈ lw_all := lw_g (lw_at lw_m8 5 rfl) rfl
theorem q1827 : (Jvm.Cond.selects "HallPlan" ({ cls := "HallPlan", name := "dequeue", desc := "(I)I" } : Jvm.MethodName) ({ cls := "HallPlan", name := "dequeue", desc := "(I)I" } : Jvm.MethodName)) ∈ lw_all := lw_g (lw_at lw_m8 6 rfl) rfl
theorem q1828 : (Jvm.Cond.code ({ cls := "HallPlan", name := "dequeue", desc := "(I)I" } : Jvm.MethodName) prog_1_method_55_code (2 : Nat) (Option.some Jvm.ClassFile.FieldType.int)) ∈ lw_all := lw_g (lw_at lw_m8 7 rfl) rfl
theorem q1829 : (Jvm.Cond.interfaceEntry "HallPlan" (418 : Nat)) ∈ lw_tbl := lw_at lw_m8 8 rfl
theorem q1830 : (Jvm.Cond.methodLink "HallPlan" (418 : Nat) ({ cls := "java/util/List", name := "remove", desc := "(I)Ljava/lang/Object;" } : Jvm.MethodName)) ∈ lw_all := lw_g (lw_at lw_m8 9 rfl) rfl
theorem q1840 : (Jvm.Cond.instanceMethod ({ cls := "HallPlan", name := "close", desc := "(III)I" } : Jvm.MethodName)) ∈ lw_all := lw_g (lw_at lw_m8 19 rfl) rfl
theorem q1841 : (Jvm.Cond.selects "HallPlan" ({ cls := "HallPlan", name := "close", desc := "(III)I" } : Jvm.MethodName) ({ cls := "HallPlan", name := "close", desc := "(III)I" } : Jvm.MethodName)) ∈ lw_all := lw_g (lw_at lw_m8 20 rfl) rfl
theorem q1842 : (Jvm.Cond.code ({ cls := "HallPlan", name := "close", desc := "(III)I" } : Jvm.MethodName) prog_1_method_57_code (4 : Nat) (Option.some Jvm.ClassFile.FieldType.int)) ∈ lw_all := lw_g (lw_at lw_m8 21 rfl) rfl
theorem q1843 : (Jvm.Cond.constant "HallPlan" (420 : Nat) (86400 : Int32)) ∈ lw_all := lw_g (lw_at lw_m8 22 rfl) rfl
theorem q1844 : (Jvm.Cond.methodLink "HallPlan" (421 : Nat) ({ cls := "HallPlan", name := "isBookedIn", desc := "(III)Z" } : Jvm.MethodName)) ∈ lw_all := lw_g (lw_at lw_m8 23 rfl) rfl
theorem q1845 : (Jvm.Cond.privateMethod ({ cls := "HallPlan", name := "isBookedIn", desc := "(III)Z" } : Jvm.MethodName)) ∈ lw_tbl := lw_at lw_m8 24 rfl
theorem q1846 : (Jvm.Cond.instanceMethod ({ cls := "HallPlan", name := "isBookedIn", desc := "(III)Z" } : Jvm.MethodName)) ∈ lw_all := lw_g (lw_at lw_m8 25 rfl) rfl
theorem q1847 : (Jvm.Cond.code ({ cls := "HallPlan", name := "isBookedIn", desc := "(III)Z" } : Jvm.MethodName) prog_1_method_56_code (7 : Nat) (Option.some Jvm.ClassFile.FieldType.boolean)) ∈ lw_all := lw_g (lw_at lw_m8 26 rfl) rfl
theorem q1848 : (Jvm.Cond.methodLink "HallPlan" (424 : Nat) ({ cls := "HallPlan", name := "closure", desc := "(III)LHallPlan$Closure;" } : Jvm.MethodName)) ∈ lw_all := lw_g (lw_at lw_m8 27 rfl) rfl
theorem q1853 : (Jvm.Cond.instanceMethod ({ cls := "HallPlan", name := "advance", desc := "(I)I" } : Jvm.MethodName)) ∈ lw_all := lw_g (lw_at lw_m8 32 rfl) rfl
theorem q1854 : (Jvm.Cond.selects "HallPlan" ({ cls := "HallPlan", name := "advance", desc := "(I)I" } : Jvm.MethodName) ({ cls := "HallPlan", name := "advance", desc := "(I)I" } : Jvm.MethodName)) ∈ lw_all := lw_g (lw_at lw_m8 33 rfl) rfl
theorem q1855 : (Jvm.Cond.code ({ cls := "HallPlan", name := "advance", desc := "(I)I" } : Jvm.MethodName) prog_1_method_58_code (2 : Nat) (Option.some Jvm.ClassFile.FieldType.int)) ∈ lw_all := lw_g (lw_at lw_m8 34 rfl) rfl
theorem q1860 : (Jvm.Cond.instanceMethod ({ cls := "HallPlan", name := "setup", desc := "(I)I" } : Jvm.MethodName)) ∈ lw_all := lw_g (lw_at lw_m8 39 rfl) rfl
theorem q1861 : (Jvm.Cond.selects "HallPlan" ({ cls := "HallPlan", name := "setup", desc := "(I)I" } : Jvm.MethodName) ({ cls := "HallPlan", name := "setup", desc := "(I)I" } : Jvm.MethodName)) ∈ lw_all := lw_g (lw_at lw_m8 40 rfl) rfl
theorem q1862 : (Jvm.Cond.code ({ cls := "HallPlan", name := "setup", desc := "(I)I" } : Jvm.MethodName) prog_1_method_59_code (2 : Nat) (Option.some Jvm.ClassFile.FieldType.int)) ∈ lw_all := lw_g (lw_at lw_m8 41 rfl) rfl
theorem q1867 : (Jvm.Cond.instanceMethod ({ cls := "HallPlan", name := "setupTime", desc := "(II)I" } : Jvm.MethodName)) ∈ lw_all := lw_g (lw_at lw_m8 46 rfl) rfl
theorem q1868 : (Jvm.Cond.selects "HallPlan" ({ cls := "HallPlan", name := "setupTime", desc := "(II)I" } : Jvm.MethodName) ({ cls := "HallPlan", name := "setupTime", desc := "(II)I" } : Jvm.MethodName)) ∈ lw_all := lw_g (lw_at lw_m8 47 rfl) rfl
theorem q1869 : (Jvm.Cond.code ({ cls := "HallPlan", name := "setupTime", desc := "(II)I" } : Jvm.MethodName) prog_1_method_60_code (3 : Nat) (Option.some Jvm.ClassFile.FieldType.int)) ∈ lw_all := lw_g (lw_at lw_m8 48 rfl) rfl
theorem q1874 : (Jvm.Cond.instanceMethod ({ cls := "HallPlan", name := "isClosed", desc := "(II)Z" } : Jvm.MethodName)) ∈ lw_all := lw_g (lw_at lw_m8 53 rfl) rfl
theorem q1875 : (Jvm.Cond.selects "HallPlan" ({ cls := "HallPlan", name := "isClosed", desc := "(II)Z" } : Jvm.MethodName) ({ cls := "HallPlan", name := "isClosed", desc := "(II)Z" } : Jvm.MethodName)) ∈ lw_all := lw_g (lw_at lw_m8 54 rfl) rfl
theorem q1876 : (Jvm.Cond.code ({ cls := "HallPlan", name := "isClosed", desc := "(II)Z" } : Jvm.MethodName) prog_1_method_62_code (3 : Nat) (Option.some Jvm.ClassFile.FieldType.boolean)) ∈ lw_all := lw_g (lw_at lw_m8 55 rfl) rfl
theorem q1877 : (Jvm.Cond.methodLink "HallPlan" (434 : Nat) ({ cls := "HallPlan", name := "isMinute", desc := "(I)Z" } : Jvm.MethodName)) ∈ lw_all := lw_g (lw_at lw_m8 56 rfl) rfl
theorem q1878 : (Jvm.Cond.static ({ cls := "HallPlan", name := "isMinute", desc := "(I)Z" } : Jvm.MethodName)) ∈ lw_all := lw_g (lw_at lw_m8 57 rfl) rfl
theorem q1879 : (Jvm.Cond.code ({ cls := "HallPlan", name := "isMinute", desc := "(I)Z" } : Jvm.MethodName) prog_1_method_61_code (1 : Nat) (Option.some Jvm.ClassFile.FieldType.boolean)) ∈ lw_all := lw_g (lw_at lw_m8 58 rfl) rfl
theorem q1880 : (Jvm.Cond.constant "HallPlan" (433 : Nat) (86399 : Int32)) ∈ lw_all := lw_g (lw_at lw_m8 59 rfl) rfl
theorem q1885 : (Jvm.Cond.instanceMethod ({ cls := "HallPlan", name := "feePercent", desc := "(I)I" } : Jvm.MethodName)) ∈ lw_all := lw_g (lw_at lw_m8 64 rfl) rfl
theorem q1886 : (Jvm.Cond.selects "HallPlan" ({ cls := "HallPlan", name := "feePercent", desc := "(I)I" } : Jvm.MethodName) ({ cls := "HallPlan", name := "feePercent", desc := "(I)I" } : Jvm.MethodName)) ∈ lw_all := lw_g (lw_at lw_m8 65 rfl) rfl
theorem q1887 : (Jvm.Cond.code ({ cls := "HallPlan", name := "feePercent", desc := "(I)I" } : Jvm.MethodName) prog_1_method_63_code (2 : Nat) (Option.some Jvm.ClassFile.FieldType.int)) ∈ lw_all := lw_g (lw_at lw_m8 66 rfl) rfl
theorem q1892 : (Jvm.Cond.instanceMethod ({ cls := "HallPlan", name := "booking", desc := "(II)I" } : Jvm.MethodName)) ∈ lw_all := lw_g (lw_at lw_m8 71 rfl) rfl
theorem q1893 : (Jvm.Cond.selects "HallPlan" ({ cls := "HallPlan", name := "booking", desc := "(II)I" } : Jvm.MethodName) ({ cls := "HallPlan", name := "booking", desc := "(II)I" } : Jvm.MethodName)) ∈ lw_all := lw_g (lw_at lw_m8 72 rfl) rfl
theorem q1894 : (Jvm.Cond.code ({ cls := "HallPlan", name := "booking", desc := "(II)I" } : Jvm.MethodName) prog_1_method_66_code (3 : Nat) (Option.some Jvm.ClassFile.FieldType.int)) ∈ lw_all := lw_g (lw_at lw_m8 73 rfl) rfl
theorem q1895 : (Jvm.Cond.methodLink "HallPlan" (440 : Nat) ({ cls := "HallPlan$Booking", name := "part", desc := "(I)I" } : Jvm.MethodName)) ∈ lw_all := lw_g (lw_at lw_m8 74 rfl) rfl
theorem q1904 : (Jvm.Cond.instanceMethod ({ cls := "HallPlan", name := "bookedNeed", desc := "(II)I" } : Jvm.MethodName)) ∈ lw_all := lw_g (lw_at lw_m8 83 rfl) rfl
theorem q1905 : (Jvm.Cond.selects "HallPlan" ({ cls := "HallPlan", name := "bookedNeed", desc := "(II)I" } : Jvm.MethodName) ({ cls := "HallPlan", name := "bookedNeed", desc := "(II)I" } : Jvm.MethodName)) ∈ lw_all := lw_g (lw_at lw_m8 84 rfl) rfl
theorem q1906 : (Jvm.Cond.code ({ cls := "HallPlan", name := "bookedNeed", desc := "(II)I" } : Jvm.MethodName) prog_1_method_67_code (3 : Nat) (Option.some Jvm.ClassFile.FieldType.int)) ∈ lw_all := lw_g (lw_at lw_m8 85 rfl) rfl
theorem q1911 : (Jvm.Cond.instanceMethod ({ cls := "HallPlan", name := "request", desc := "(II)I" } : Jvm.MethodName)) ∈ lw_all := lw_g (lw_at lw_m8 90 rfl) rfl
theorem q1912 : (Jvm.Cond.selects "HallPlan" ({ cls := "HallPlan", name := "request", desc := "(II)I" } : Jvm.MethodName) ({ cls := "HallPlan", name := "request", desc := "(II)I" } : Jvm.MethodName)) ∈ lw_all := lw_g (lw_at lw_m8 91 rfl) rfl
theorem q1913 : (Jvm.Cond.code ({ cls := "HallPlan", name := "request", desc := "(II)I" } : Jvm.MethodName) prog_1_method_69_code (4 : Nat) (Option.some Jvm.ClassFile.FieldType.int)) ∈ lw_all := lw_g (lw_at lw_m8 92 rfl) rfl
theorem q1918 : (Jvm.Cond.instanceMethod ({ cls := "HallPlan", name := "problem", desc := "(II)I" } : Jvm.MethodName)) ∈ lw_all := lw_g (lw_at lw_m8 97 rfl) rfl
theorem q1919 : (Jvm.Cond.selects "HallPlan" ({ cls := "HallPlan", name := "problem", desc := "(II)I" } : Jvm.MethodName) ({ cls := "HallPlan", name := "problem", desc := "(II)I" } : Jvm.MethodName)) ∈ lw_all := lw_g (lw_at lw_m8 98 rfl) rfl
theorem q1920 : (Jvm.Cond.code ({ cls := "HallPlan", name := "problem", desc := "(II)I" } : Jvm.MethodName) prog_1_method_71_code (3 : Nat) (Option.some Jvm.ClassFile.FieldType.int)) ∈ lw_all := lw_g (lw_at lw_m8 99 rfl) rfl
theorem q1925 : (Jvm.Cond.instanceMethod ({ cls := "HallPlan", name := "price", desc := "(II)I" } : Jvm.MethodName)) ∈ lw_all := lw_g (lw_at lw_m8 104 rfl) rfl
theorem q1926 : (Jvm.Cond.selects "HallPlan" ({ cls := "HallPlan", name := "price", desc := "(II)I" } : Jvm.MethodName) ({ cls := "HallPlan", name := "price", desc := "(II)I" } : Jvm.MethodName)) ∈ lw_all := lw_g (lw_at lw_m8 105 rfl) rfl
theorem q1927 : (Jvm.Cond.code ({ cls := "HallPlan", name := "price", desc := "(II)I" } : Jvm.MethodName) prog_1_method_72_code (3 : Nat) (Option.some Jvm.ClassFile.FieldType.int)) ∈ lw_all := lw_g (lw_at lw_m8 106 rfl) rfl
theorem q1933 : (Jvm.Cond.instanceMethod ({ cls := "HallPlan", name := "earliest", desc := "(II)I" } : Jvm.MethodName)) ∈ lw_all := lw_g (lw_at lw_m8 112 rfl) rfl
theorem q1934 : (Jvm.Cond.selects "HallPlan" ({ cls := "HallPlan", name := "earliest", desc := "(II)I" } : Jvm.MethodName) ({ cls := "HallPlan", name := "earliest", desc := "(II)I" } : Jvm.MethodName)) ∈ lw_all := lw_g (lw_at lw_m8 113 rfl) rfl
theorem q1935 : (Jvm.Cond.code ({ cls := "HallPlan", name := "earliest", desc := "(II)I" } : Jvm.MethodName) prog_1_method_74_code (4 : Nat) (Option.some Jvm.ClassFile.FieldType.int)) ∈ lw_all := lw_g (lw_at lw_m8 114 rfl) rfl
theorem q1936 : (Jvm.Cond.methodLink "HallPlan" (446 : Nat) ({ cls := "HallPlan", name := "earliestOf", desc := "(II)I" } : Jvm.MethodName)) ∈ lw_all := lw_g (lw_at lw_m8 115 rfl) rfl
theorem q1937 : (Jvm.Cond.privateMethod ({ cls := "HallPlan", name := "earliestOf", desc := "(II)I" } : Jvm.MethodName)) ∈ lw_tbl := lw_at lw_m8 116 rfl
theorem q1938 : (Jvm.Cond.instanceMethod ({ cls := "HallPlan", name := "earliestOf", desc := "(II)I" } : Jvm.MethodName)) ∈ lw_all := lw_g (lw_at lw_m8 117 rfl) rfl
theorem q1939 : (Jvm.Cond.code ({ cls := "HallPlan", name := "earliestOf", desc := "(II)I" } : Jvm.MethodName) prog_1_method_73_code (4 : Nat) (Option.some Jvm.ClassFile.FieldType.int)) ∈ lw_all := lw_g (lw_at lw_m8 118 rfl) rfl
theorem q1940 : (Jvm.Cond.methodLink "HallPlan" (338 : Nat) ({ cls := "HallPlan", name := "needElement", desc := "(Z)V" } : Jvm.MethodName)) ∈ lw_all := lw_g (lw_at lw_m8 119 rfl) rfl
theorem q1941 : (Jvm.Cond.static ({ cls := "HallPlan", name := "needElement", desc := "(Z)V" } : Jvm.MethodName)) ∈ lw_all := lw_g (lw_at lw_m8 120 rfl) rfl
theorem q1942 : (Jvm.Cond.code ({ cls := "HallPlan", name := "needElement", desc := "(Z)V" } : Jvm.MethodName) prog_1_method_6_code (1 : Nat) (Option.none : Option Jvm.ClassFile.FieldType)) ∈ lw_all := lw_g (lw_at lw_m8 121 rfl) rfl
theorem q1943 : (Jvm.Cond.classLink "HallPlan" (83 : Nat) "java/util/NoSuchElementException") ∈ lw_all := lw_g (lw_at lw_m8 122 rfl) rfl
theorem q1944 : (Jvm.Cond.methodLink "HallPlan" (85 : Nat) ({ cls := "java/util/NoSuchElementException", name := "<init>", desc := "()V" } : Jvm.MethodName)) ∈ lw_all := lw_g (lw_at lw_m8 123 rfl) rfl
theorem q1949 : (Jvm.Cond.instanceMethod ({ cls := "HallPlan", name := "earliestHall", desc := "(I)I" } : Jvm.MethodName)) ∈ lw_all := lw_g (lw_at lw_m8 128 rfl) rfl
theorem q1950 : (Jvm.Cond.selects "HallPlan" ({ cls := "HallPlan", name := "earliestHall", desc := "(I)I" } : Jvm.MethodName) ({ cls := "HallPlan", name := "earliestHall", desc := "(I)I" } : Jvm.MethodName)) ∈ lw_all := lw_g (lw_at lw_m8 129 rfl) rfl
theorem q1951 : (Jvm.Cond.code ({ cls := "HallPlan", name := "earliestHall", desc := "(I)I" } : Jvm.MethodName) prog_1_method_75_code (6 : Nat) (Option.some Jvm.ClassFile.FieldType.int)) ∈ lw_all := lw_g (lw_at lw_m8 130 rfl) rfl
theorem q1956 : (Jvm.Cond.instanceMethod ({ cls := "HallPlan", name := "conflicts", desc := "(II)J" } : Jvm.MethodName)) ∈ lw_all := lw_g (lw_at lw_m8 135 rfl) rfl
theorem q1957 : (Jvm.Cond.selects "HallPlan" ({ cls := "HallPlan", name := "conflicts", desc := "(II)J" } : Jvm.MethodName) ({ cls := "HallPlan", name := "conflicts", desc := "(II)J" } : Jvm.MethodName)) ∈ lw_all := lw_g (lw_at lw_m8 136 rfl) rfl
theorem q1958 : (Jvm.Cond.code ({ cls := "HallPlan", name := "conflicts", desc := "(II)J" } : Jvm.MethodName) prog_1_method_76_code (7 : Nat) (Option.some Jvm.ClassFile.FieldType.long)) ∈ lw_all := lw_g (lw_at lw_m8 137 rfl) rfl
theorem q1963 : (Jvm.Cond.instanceMethod ({ cls := "HallPlan", name := "moveProblem", desc := "(III)I" } : Jvm.MethodName)) ∈ lw_all := lw_g (lw_at lw_m8 142 rfl) rfl
theorem q1964 : (Jvm.Cond.selects "HallPlan" ({ cls := "HallPlan", name := "moveProblem", desc := "(III)I" } : Jvm.MethodName) ({ cls := "HallPlan", name := "moveProblem", desc := "(III)I" } : Jvm.MethodName)) ∈ lw_all := lw_g (lw_at lw_m8 143 rfl) rfl
theorem q1965 : (Jvm.Cond.code ({ cls := "HallPlan", name := "moveProblem", desc := "(III)I" } : Jvm.MethodName) prog_1_method_53_code (4 : Nat) (Option.some Jvm.ClassFile.FieldType.int)) ∈ lw_all := lw_g (lw_at lw_m8 144 rfl) rfl
theorem q1970 : (Jvm.Cond.instanceMethod ({ cls := "HallPlan", name := "chain", desc := "(IIII)I" } : Jvm.MethodName)) ∈ lw_all := lw_g (lw_at lw_m8 149 rfl) rfl
theorem q1971 : (Jvm.Cond.selects "HallPlan" ({ cls := "HallPlan", name := "chain", desc := "(IIII)I" } : Jvm.MethodName) ({ cls := "HallPlan", name := "chain", desc := "(IIII)I" } : Jvm.MethodName)) ∈ lw_all := lw_g (lw_at lw_m8 150 rfl) rfl
theorem q1972 : (Jvm.Cond.code ({ cls := "HallPlan", name := "chain", desc := "(IIII)I" } : Jvm.MethodName) prog_1_method_40_code (6 : Nat) (Option.some Jvm.ClassFile.FieldType.int)) ∈ lw_all := lw_g (lw_at lw_m8 151 rfl) rfl
theorem q1973 : (Jvm.Cond.interfaceEntry "HallPlan" (341 : Nat)) ∈ lw_tbl := lw_at lw_m8 152 rfl
theorem q1974 : (Jvm.Cond.methodLink "HallPlan" (341 : Nat) ({ cls := "java/util/List", name := "indexOf", desc := "(Ljava/lang/Object;)I" } : Jvm.MethodName)) ∈ lw_all := lw_g (lw_at lw_m8 153 rfl) rfl
theorem q1979 : (Jvm.Cond.instanceMethod ({ cls := "HallPlan", name := "swapProblem", desc := "(II)I" } : Jvm.MethodName)) ∈ lw_all := lw_g (lw_at lw_m8 158 rfl) rfl
theorem q1980 : (Jvm.Cond.selects "HallPlan" ({ cls := "HallPlan", name := "swapProblem", desc := "(II)I" } : Jvm.MethodName) ({ cls := "HallPlan", name := "swapProblem", desc := "(II)I" } : Jvm.MethodName)) ∈ lw_all := lw_g (lw_at lw_m8 159 rfl) rfl
theorem q1981 : (Jvm.Cond.codeWith ({ cls := "HallPlan", name := "swapProblem", desc := "(II)I" } : Jvm.MethodName) prog_1_method_34_code (11 : Nat) (Option.some Jvm.ClassFile.FieldType.int) [((99 : Nat), (106 : Nat), (109 : Nat), (275 : Nat)), ((99 : Nat), (106 : Nat), (113 : Nat), (263 : Nat))]) ∈ lw_all := lw_g (lw_at lw_m8 160 rfl) rfl
theorem q1982 : (Jvm.Cond.methodLink "HallPlan" (306 : Nat) ({ cls := "HallPlan$Refused", name := "getCause", desc := "()Ljava/lang/Throwable;" } : Jvm.MethodName)) ∈ lw_all := lw_g (lw_at lw_m8 161 rfl) rfl
theorem q1992 : (Jvm.Cond.instanceMethod ({ cls := "HallPlan", name := "feeNow", desc := "(I)I" } : Jvm.MethodName)) ∈ lw_all := lw_g (lw_at lw_m8 171 rfl) rfl
theorem q1993 : (Jvm.Cond.selects "HallPlan" ({ cls := "HallPlan", name := "feeNow", desc := "(I)I" } : Jvm.MethodName) ({ cls := "HallPlan", name := "feeNow", desc := "(I)I" } : Jvm.MethodName)) ∈ lw_all := lw_g (lw_at lw_m8 172 rfl) rfl
theorem q1994 : (Jvm.Cond.code ({ cls := "HallPlan", name := "feeNow", desc := "(I)I" } : Jvm.MethodName) prog_1_method_48_code (2 : Nat) (Option.some Jvm.ClassFile.FieldType.int)) ∈ lw_all := lw_g (lw_at lw_m8 173 rfl) rfl
theorem q1999 : (Jvm.Cond.instanceMethod ({ cls := "HallPlan", name := "inUse", desc := "(II)I" } : Jvm.MethodName)) ∈ lw_all := lw_g (lw_at lw_m8 178 rfl) rfl
theorem q2000 : (Jvm.Cond.selects "HallPlan" ({ cls := "HallPlan", name := "inUse", desc := "(II)I" } : Jvm.MethodName) ({ cls := "HallPlan", name := "inUse", desc := "(II)I" } : Jvm.MethodName)) ∈ lw_all := lw_g (lw_at lw_m8 179 rfl) rfl
theorem q2001 : (Jvm.Cond.code ({ cls := "HallPlan", name := "inUse", desc := "(II)I" } : Jvm.MethodName) prog_1_method_77_code (3 : Nat) (Option.some Jvm.ClassFile.FieldType.int)) ∈ lw_all := lw_g (lw_at lw_m8 180 rfl) rfl
theorem q2002 : (Jvm.Cond.methodLink "HallPlan" (449 : Nat) ({ cls := "HallPlan", name := "heldIn", desc := "(II)I" } : Jvm.MethodName)) ∈ lw_all := lw_g (lw_at lw_m8 181 rfl) rfl
theorem q2003 : (Jvm.Cond.privateMethod ({ cls := "HallPlan", name := "heldIn", desc := "(II)I" } : Jvm.MethodName)) ∈ lw_tbl := lw_at lw_m8 182 rfl
theorem q2004 : (Jvm.Cond.instanceMethod ({ cls := "HallPlan", name := "heldIn", desc := "(II)I" } : Jvm.MethodName)) ∈ lw_all := lw_g (lw_at lw_m8 183 rfl) rfl
theorem q2005 : (Jvm.Cond.code ({ cls := "HallPlan", name := "heldIn", desc := "(II)I" } : Jvm.MethodName) prog_1_method_23_code (7 : Nat) (Option.some Jvm.ClassFile.FieldType.int)) ∈ lw_all := lw_g (lw_at lw_m8 184 rfl) rfl
theorem q2006 : (Jvm.Cond.methodLink "HallPlan" (224 : Nat) ({ cls := "HallPlan$Booking", name := "holds", desc := "(II)Z" } : Jvm.MethodName)) ∈ lw_all := lw_g (lw_at lw_m8 185 rfl) rfl
theorem q2015 : (Jvm.Cond.instanceMethod ({ cls := "HallPlan", name := "peak", desc := "(II)I" } : Jvm.MethodName)) ∈ lw_all := lw_g (lw_at lw_m8 194 rfl) rfl
theorem q2016 : (Jvm.Cond.selects "HallPlan" ({ cls := "HallPlan", name := "peak", desc := "(II)I" } : Jvm.MethodName) ({ cls := "HallPlan", name := "peak", desc := "(II)I" } : Jvm.MethodName)) ∈ lw_all := lw_g (lw_at lw_m8 195 rfl) rfl
theorem q2017 : (Jvm.Cond.code ({ cls := "HallPlan", name := "peak", desc := "(II)I" } : Jvm.MethodName) prog_1_method_79_code (3 : Nat) (Option.some Jvm.ClassFile.FieldType.int)) ∈ lw_all := lw_g (lw_at lw_m8 196 rfl) rfl
theorem q2018 : (Jvm.Cond.methodLink "HallPlan" (452 : Nat) ({ cls := "HallPlan", name := "isDay", desc := "(I)Z" } : Jvm.MethodName)) ∈ lw_all := lw_g (lw_at lw_m8 197 rfl) rfl
theorem q2019 : (Jvm.Cond.static ({ cls := "HallPlan", name := "isDay", desc := "(I)Z" } : Jvm.MethodName)) ∈ lw_all := lw_g (lw_at lw_m8 198 rfl) rfl
theorem q2020 : (Jvm.Cond.code ({ cls := "HallPlan", name := "isDay", desc := "(I)Z" } : Jvm.MethodName) prog_1_method_78_code (1 : Nat) (Option.some Jvm.ClassFile.FieldType.boolean)) ∈ lw_all := lw_g (lw_at lw_m8 199 rfl) rfl
theorem q2025 : (Jvm.Cond.instanceMethod ({ cls := "HallPlan", name := "occupancy", desc := "(II)I" } : Jvm.MethodName)) ∈ lw_all := lw_g (lw_at lw_m8 204 rfl) rfl
theorem q2026 : (Jvm.Cond.selects "HallPlan" ({ cls := "HallPlan", name := "occupancy", desc := "(II)I" } : Jvm.MethodName) ({ cls := "HallPlan", name := "occupancy", desc := "(II)I" } : Jvm.MethodName)) ∈ lw_all := lw_g (lw_at lw_m8 205 rfl) rfl
theorem q2027 : (Jvm.Cond.code ({ cls := "HallPlan", name := "occupancy", desc := "(II)I" } : Jvm.MethodName) prog_1_method_82_code (6 : Nat) (Option.some Jvm.ClassFile.FieldType.int)) ∈ lw_all := lw_g (lw_at lw_m8 206 rfl) rfl
theorem q2028 : (Jvm.Cond.methodLink "HallPlan" (461 : Nat) ({ cls := "HallPlan", name := "needHallAndDay", desc := "(II)V" } : Jvm.MethodName)) ∈ lw_all := lw_g (lw_at lw_m8 207 rfl) rfl
theorem q2029 : (Jvm.Cond.privateMethod ({ cls := "HallPlan", name := "needHallAndDay", desc := "(II)V" } : Jvm.MethodName)) ∈ lw_tbl := lw_at lw_m8 208 rfl
theorem q2030 : (Jvm.Cond.instanceMethod ({ cls := "HallPlan", name := "needHallAndDay", desc := "(II)V" } : Jvm.MethodName)) ∈ lw_all := lw_g (lw_at lw_m8 209 rfl) rfl
theorem q2031 : (Jvm.Cond.code ({ cls := "HallPlan", name := "needHallAndDay", desc := "(II)V" } : Jvm.MethodName) prog_1_method_81_code (3 : Nat) (Option.none : Option Jvm.ClassFile.FieldType)) ∈ lw_all := lw_g (lw_at lw_m8 210 rfl) rfl
theorem q2032 : (Jvm.Cond.methodLink "HallPlan" (464 : Nat) ({ cls := "HallPlan", name := "ofDay", desc := "(II)Ljava/util/List;" } : Jvm.MethodName)) ∈ lw_all := lw_g (lw_at lw_m8 211 rfl) rfl
theorem q2033 : (Jvm.Cond.privateMethod ({ cls := "HallPlan", name := "ofDay", desc := "(II)Ljava/util/List;" } : Jvm.MethodName)) ∈ lw_tbl := lw_at lw_m8 212 rfl
theorem q2034 : (Jvm.Cond.instanceMethod ({ cls := "HallPlan", name := "ofDay", desc := "(II)Ljava/util/List;" } : Jvm.MethodName)) ∈ lw_all := lw_g (lw_at lw_m8 213 rfl) rfl
theorem q2035 : (Jvm.Cond.code ({ cls := "HallPlan", name := "ofDay", desc := "(II)Ljava/util/List;" } : Jvm.MethodName) prog_1_method_80_code (7 : Nat) (Option.some (Jvm.ClassFile.FieldType.object "java/util/List"))) ∈ lw_all := lw_g (lw_at lw_m8 214 rfl) rfl
theorem q2036 : (Jvm.Cond.classLink "HallPlan" (455 : Nat) "java/util/ArrayList") ∈ lw_all := lw_g (lw_at lw_m8 215 rfl) rfl
theorem q2037 : (Jvm.Cond.methodLink "HallPlan" (457 : Nat) ({ cls := "java/util/ArrayList", name := "<init>", desc := "()V" } : Jvm.MethodName)) ∈ lw_all := lw_g (lw_at lw_m8 216 rfl) rfl
theorem q2038 : (Jvm.Cond.interfaceEntry "HallPlan" (458 : Nat)) ∈ lw_tbl := lw_at lw_m8 217 rfl
theorem q2039 : (Jvm.Cond.methodLink "HallPlan" (458 : Nat) ({ cls := "java/util/List", name := "add", desc := "(ILjava/lang/Object;)V" } : Jvm.MethodName)) ∈ lw_all := lw_g (lw_at lw_m8 218 rfl) rfl
theorem q2068 : (Jvm.Cond.instanceMethod ({ cls := "HallPlan", name := "setupSum", desc := "(II)I" } : Jvm.MethodName)) ∈ lw_all := lw_g (lw_at lw_m9 7 rfl) rfl
theorem q2069 : (Jvm.Cond.selects "HallPlan" ({ cls := "HallPlan", name := "setupSum", desc := "(II)I" } : Jvm.MethodName) ({ cls := "HallPlan", name := "setupSum", desc := "(II)I" } : Jvm.MethodName)) ∈ lw_all := lw_g (lw_at lw_m9 8 rfl) rfl
theorem q2070 : (Jvm.Cond.code ({ cls := "HallPlan", name := "setupSum", desc := "(II)I" } : Jvm.MethodName) prog_1_method_83_code (6 : Nat) (Option.some Jvm.ClassFile.FieldType.int)) ∈ lw_all := lw_g (lw_at lw_m9 9 rfl) rfl
theorem q2075 : (Jvm.Cond.instanceMethod ({ cls := "HallPlan", name := "leastSetup", desc := "(II)I" } : Jvm.MethodName)) ∈ lw_all := lw_g (lw_at lw_m9 14 rfl) rfl
theorem q2076 : (Jvm.Cond.selects "HallPlan" ({ cls := "HallPlan", name := "leastSetup", desc := "(II)I" } : Jvm.MethodName) ({ cls := "HallPlan", name := "leastSetup", desc := "(II)I" } : Jvm.MethodName)) ∈ lw_all := lw_g (lw_at lw_m9 15 rfl) rfl
theorem q2077 : (Jvm.Cond.code ({ cls := "HallPlan", name := "leastSetup", desc := "(II)I" } : Jvm.MethodName) prog_1_method_84_code (11 : Nat) (Option.some Jvm.ClassFile.FieldType.int)) ∈ lw_all := lw_g (lw_at lw_m9 16 rfl) rfl
theorem q2078 : (Jvm.Cond.constant "HallPlan" (478 : Nat) (2147483647 : Int32)) ∈ lw_all := lw_g (lw_at lw_m9 17 rfl) rfl
theorem q2083 : (Jvm.Cond.instanceMethod ({ cls := "HallPlan", name := "nextBooking", desc := "(II)I" } : Jvm.MethodName)) ∈ lw_all := lw_g (lw_at lw_m9 22 rfl) rfl
theorem q2084 : (Jvm.Cond.selects "HallPlan" ({ cls := "HallPlan", name := "nextBooking", desc := "(II)I" } : Jvm.MethodName) ({ cls := "HallPlan", name := "nextBooking", desc := "(II)I" } : Jvm.MethodName)) ∈ lw_all := lw_g (lw_at lw_m9 23 rfl) rfl
theorem q2085 : (Jvm.Cond.code ({ cls := "HallPlan", name := "nextBooking", desc := "(II)I" } : Jvm.MethodName) prog_1_method_85_code (6 : Nat) (Option.some Jvm.ClassFile.FieldType.int)) ∈ lw_all := lw_g (lw_at lw_m9 24 rfl) rfl
theorem q2090 : (Jvm.Cond.instanceMethod ({ cls := "HallPlan", name := "undo", desc := "()I" } : Jvm.MethodName)) ∈ lw_all := lw_g (lw_at lw_m9 29 rfl) rfl
theorem q2091 : (Jvm.Cond.selects "HallPlan" ({ cls := "HallPlan", name := "undo", desc := "()I" } : Jvm.MethodName) ({ cls := "HallPlan", name := "undo", desc := "()I" } : Jvm.MethodName)) ∈ lw_all := lw_g (lw_at lw_m9 30 rfl) rfl
theorem q2092 : (Jvm.Cond.code ({ cls := "HallPlan", name := "undo", desc := "()I" } : Jvm.MethodName) prog_1_method_86_code (1 : Nat) (Option.some Jvm.ClassFile.FieldType.int)) ∈ lw_all := lw_g (lw_at lw_m9 31 rfl) rfl
theorem q2093 : (Jvm.Cond.methodLink "HallPlan" (479 : Nat) ({ cls := "java/util/ArrayDeque", name := "isEmpty", desc := "()Z" } : Jvm.MethodName)) ∈ lw_all := lw_g (lw_at lw_m9 32 rfl) rfl
theorem q2097 : (Jvm.Cond.methodLink "HallPlan" (482 : Nat) ({ cls := "java/util/ArrayDeque", name := "removeLast", desc := "()Ljava/lang/Object;" } : Jvm.MethodName)) ∈ lw_all := lw_g (lw_at lw_m9 36 rfl) rfl
theorem q2112 : (Jvm.Cond.instanceMethod ({ cls := "HallPlan", name := "restore", desc := "()I" } : Jvm.MethodName)) ∈ lw_all := lw_g (lw_at lw_m9 51 rfl) rfl
theorem q2113 : (Jvm.Cond.selects "HallPlan" ({ cls := "HallPlan", name := "restore", desc := "()I" } : Jvm.MethodName) ({ cls := "HallPlan", name := "restore", desc := "()I" } : Jvm.MethodName)) ∈ lw_all := lw_g (lw_at lw_m9 52 rfl) rfl
theorem q2114 : (Jvm.Cond.code ({ cls := "HallPlan", name := "restore", desc := "()I" } : Jvm.MethodName) prog_1_method_89_code (1 : Nat) (Option.some Jvm.ClassFile.FieldType.int)) ∈ lw_all := lw_g (lw_at lw_m9 53 rfl) rfl
theorem q2763 : (Jvm.Cond.castable "HallPlan" "java/lang/Object") ∈ lw_tbl := lw_at lw_m11 222 rfl
theorem in_X1 : ∀ w ∈ wsX10, w ∈ lw_all := lw_in wsX10 [483, 485, 487, 489, 491, 493, 495, 497, 499, 501, 503, 505] (by decide +kernel) (by decide +kernel)

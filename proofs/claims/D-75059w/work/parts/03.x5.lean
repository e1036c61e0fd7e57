/-! HallPlanModel -/
set_option maxRecDepth 100000
def RX5 : String := "HallPlanModel"
def TX5 : u_T := fun k => match k with
  | 0 => ("HallPlanModel", "thrown", "I", false)
  | 1 => ("HallPlanModel", "fixed", "[I", true)
  | 2 => ("HallPlanModel", "read", "[I", true)
  | 3 => ("HallPlanModel", "letters", "[B", true)
  | 4 => ("HallPlanModel", "sort", "[I", true)
  | 5 => ("HallPlanModel", "which", "[I", true)
  | 6 => ("HallPlanModel", "draft", "[I", true)
  | 7 => ("HallPlanModel", "asked", "[I", true)
  | 8 => ("HallPlanModel", "now", "[I", true)
  | 9 => ("HallPlanModel", "kept", "[I", true)
  | 10 => ("HallPlanModel", "past", "[I", true)
  | 11 => ("HallPlanModel", "changes", "I", false)
  | 12 => ("HallPlanModel", "isKept", "Z", false)
  | 13 => ("HallPlanModel", "buffer", "[B", true)
  | 14 => ("HallPlanModel", "length", "I", false)
  | 15 => ("HallPlanModel", "at", "I", false)
  | 16 => ("HallPlanModel", "token", "I", false)
  | 17 => ("HallPlanModel", "error", "I", false)
  | 18 => ("HallPlanModel", "hasWeekend", "Z", false)
  | 19 => ("HallPlanModel", "isOut", "[Z", true)
  | 20 => ("HallPlanModel", "steps", "[I", true)
  | 21 => ("HallPlanModel", "link", "[I", true)
  | 22 => ("HallPlanModel", "links", "I", false)
  | 23 => ("HallPlanModel", "placeWas", "[I", true)
  | 24 => ("HallPlanModel", "startWas", "[I", true)
  | 25 => ("HallPlanModel", "dayType", "[I", true)
  | _ => ("HallPlanModel", "least", "[I", true)
def tyX5 : Nat → FieldType := fun k => match k with
  | 0 => .int
  | 1 => .array .int
  | 2 => .array .int
  | 3 => .array .byte
  | 4 => .array .int
  | 5 => .array .int
  | 6 => .array .int
  | 7 => .array .int
  | 8 => .array .int
  | 9 => .array .int
  | 10 => .array .int
  | 11 => .int
  | 12 => .boolean
  | 13 => .array .byte
  | 14 => .int
  | 15 => .int
  | 16 => .int
  | 17 => .int
  | 18 => .boolean
  | 19 => .array .boolean
  | 20 => .array .int
  | 21 => .array .int
  | 22 => .int
  | 23 => .array .int
  | 24 => .array .int
  | 25 => .array .int
  | _ => .array .int
abbrev wsX50 : List Cond := u_ws RX5 TX5 27
set_option maxRecDepth 100000 in
theorem nmX5 : ∀ a, a < 27 → ∀ b, b < 27 → a ≠ b → (TX5 a).2.1 ≠ (TX5 b).2.1 := by decide +kernel
set_option maxRecDepth 100000 in
theorem tyX5_ok : ∀ k, k < 27 → parseFieldDescriptor (TX5 k).2.2.1 = some (tyX5 k) := by decide +kernel
abbrev cX5_thrown : ByteArray := prog_17_method_1_code
def yX5_thrown : MethodName := ⟨RX5, "thrown", "()I"⟩
theorem dX5_thrown_0 : decode cX5_thrown 0 = .ok (.aload_n 0, 1) := by decide +kernel
theorem dX5_thrown_1 : decode cX5_thrown 1 = .ok (.getfield 3, 3) := by decide +kernel
theorem dX5_thrown_4 : decode cX5_thrown 4 = .ok (.ireturn, 1) := by decide +kernel
abbrev cX5_init : ByteArray := prog_17_method_4_code
def yX5_init : MethodName := ⟨RX5, "<init>", "()V"⟩
def dkwX5_init_6 : List UInt8 := [181, 0, 64, 42, 17, 8, 0, 188, 10, 181, 0, 67, 42, 182, 0, 70, 177]
abbrev dktX5_init_6 : List UInt8 := dkwX5_init_6 ++ []
def dkwX5_init_5 : List UInt8 := [181, 0, 55, 42, 6, 188, 10, 181, 0, 58, 42, 6, 188, 10, 181, 0, 61, 42, 16, 8, 188, 10]
abbrev dktX5_init_5 : List UInt8 := dkwX5_init_5 ++ dktX5_init_6
def dkwX5_init_4 : List UInt8 := [181, 0, 45, 42, 16, 60, 188, 4, 181, 0, 48, 42, 17, 0, 129, 188, 10, 181, 0, 52, 42, 6, 188, 10]
abbrev dktX5_init_4 : List UInt8 := dkwX5_init_4 ++ dktX5_init_5
def dkwX5_init_3 : List UInt8 := [42, 17, 4, 28, 188, 10, 181, 0, 39, 42, 17, 32, 224, 188, 10, 181, 0, 42, 42, 17, 3, 32, 188, 8]
abbrev dktX5_init_3 : List UInt8 := dkwX5_init_3 ++ dktX5_init_4
def dkwX5_init_2 : List UInt8 := [16, 9, 188, 10, 181, 0, 30, 42, 16, 9, 188, 10, 181, 0, 33, 42, 17, 4, 28, 188, 10, 181, 0, 36]
abbrev dktX5_init_2 : List UInt8 := dkwX5_init_2 ++ dktX5_init_3
def dkwX5_init_1 : List UInt8 := [16, 108, 188, 8, 181, 0, 20, 42, 16, 18, 188, 10, 181, 0, 24, 42, 16, 18, 188, 10, 181, 0, 27, 42]
abbrev dktX5_init_1 : List UInt8 := dkwX5_init_1 ++ dktX5_init_2
def dkwX5_init_0 : List UInt8 := [42, 183, 0, 7, 42, 17, 0, 166, 188, 10, 181, 0, 13, 42, 17, 0, 166, 188, 10, 181, 0, 17, 42]
abbrev dktX5_init_0 : List UInt8 := dkwX5_init_0 ++ dktX5_init_1
theorem dksX5_init_0 : cX5_init.data.toList.drop 0 = dktX5_init_0 := by decide +kernel
theorem dksX5_init_1 : cX5_init.data.toList.drop 23 = dktX5_init_1 := dk_seg dksX5_init_0 23 rfl rfl
theorem dksX5_init_2 : cX5_init.data.toList.drop 47 = dktX5_init_2 := dk_seg dksX5_init_1 24 rfl rfl
theorem dksX5_init_3 : cX5_init.data.toList.drop 71 = dktX5_init_3 := dk_seg dksX5_init_2 24 rfl rfl
theorem dksX5_init_4 : cX5_init.data.toList.drop 95 = dktX5_init_4 := dk_seg dksX5_init_3 24 rfl rfl
theorem dksX5_init_5 : cX5_init.data.toList.drop 119 = dktX5_init_5 := dk_seg dksX5_init_4 24 rfl rfl
theorem dksX5_init_6 : cX5_init.data.toList.drop 141 = dktX5_init_6 := dk_seg dksX5_init_5 22 rfl rfl
theorem dX5_init_0 : decode cX5_init 0 = .ok (.aload_n 0, 1) := dk_42 (dk_at dksX5_init_0 0 rfl rfl)
theorem dX5_init_1 : decode cX5_init 1 = .ok (.invokespecial 7, 3) := dk_183 0 7 (dk_at dksX5_init_0 1 rfl rfl)
theorem dX5_init_4 : decode cX5_init 4 = .ok (.aload_n 0, 1) := dk_42 (dk_at dksX5_init_0 4 rfl rfl)
theorem dX5_init_5 : decode cX5_init 5 = .ok (.sipush 166, 3) := dk_17 0 166 (dk_at dksX5_init_0 5 rfl rfl)
theorem dX5_init_8 : decode cX5_init 8 = .ok (.newarray .int, 2) := dk_188_10 (dk_at dksX5_init_0 8 rfl rfl)
theorem dX5_init_10 : decode cX5_init 10 = .ok (.putfield 13, 3) := dk_181 0 13 (dk_at dksX5_init_0 10 rfl rfl)
theorem dX5_init_13 : decode cX5_init 13 = .ok (.aload_n 0, 1) := dk_42 (dk_at dksX5_init_0 13 rfl rfl)
theorem dX5_init_14 : decode cX5_init 14 = .ok (.sipush 166, 3) := dk_17 0 166 (dk_at dksX5_init_0 14 rfl rfl)
theorem dX5_init_17 : decode cX5_init 17 = .ok (.newarray .int, 2) := dk_188_10 (dk_at dksX5_init_0 17 rfl rfl)
theorem dX5_init_19 : decode cX5_init 19 = .ok (.putfield 17, 3) := dk_181 0 17 (dk_at dksX5_init_0 19 rfl rfl)
theorem dX5_init_22 : decode cX5_init 22 = .ok (.aload_n 0, 1) := dk_42 (dk_at dksX5_init_0 22 rfl rfl)
theorem dX5_init_23 : decode cX5_init 23 = .ok (.bipush 108, 2) := dk_16 108 (dk_at dksX5_init_1 0 rfl rfl)
theorem dX5_init_25 : decode cX5_init 25 = .ok (.newarray .byte, 2) := dk_188_8 (dk_at dksX5_init_1 2 rfl rfl)
theorem dX5_init_27 : decode cX5_init 27 = .ok (.putfield 20, 3) := dk_181 0 20 (dk_at dksX5_init_1 4 rfl rfl)
theorem dX5_init_30 : decode cX5_init 30 = .ok (.aload_n 0, 1) := dk_42 (dk_at dksX5_init_1 7 rfl rfl)
theorem dX5_init_31 : decode cX5_init 31 = .ok (.bipush 18, 2) := dk_16 18 (dk_at dksX5_init_1 8 rfl rfl)
theorem dX5_init_33 : decode cX5_init 33 = .ok (.newarray .int, 2) := dk_188_10 (dk_at dksX5_init_1 10 rfl rfl)
theorem dX5_init_35 : decode cX5_init 35 = .ok (.putfield 24, 3) := dk_181 0 24 (dk_at dksX5_init_1 12 rfl rfl)
theorem dX5_init_38 : decode cX5_init 38 = .ok (.aload_n 0, 1) := dk_42 (dk_at dksX5_init_1 15 rfl rfl)
theorem dX5_init_39 : decode cX5_init 39 = .ok (.bipush 18, 2) := dk_16 18 (dk_at dksX5_init_1 16 rfl rfl)
theorem dX5_init_41 : decode cX5_init 41 = .ok (.newarray .int, 2) := dk_188_10 (dk_at dksX5_init_1 18 rfl rfl)
theorem dX5_init_43 : decode cX5_init 43 = .ok (.putfield 27, 3) := dk_181 0 27 (dk_at dksX5_init_1 20 rfl rfl)
theorem dX5_init_46 : decode cX5_init 46 = .ok (.aload_n 0, 1) := dk_42 (dk_at dksX5_init_1 23 rfl rfl)
theorem dX5_init_47 : decode cX5_init 47 = .ok (.bipush 9, 2) := dk_16 9 (dk_at dksX5_init_2 0 rfl rfl)
theorem dX5_init_49 : decode cX5_init 49 = .ok (.newarray .int, 2) := dk_188_10 (dk_at dksX5_init_2 2 rfl rfl)
theorem dX5_init_51 : decode cX5_init 51 = .ok (.putfield 30, 3) := dk_181 0 30 (dk_at dksX5_init_2 4 rfl rfl)
theorem dX5_init_54 : decode cX5_init 54 = .ok (.aload_n 0, 1) := dk_42 (dk_at dksX5_init_2 7 rfl rfl)
theorem dX5_init_55 : decode cX5_init 55 = .ok (.bipush 9, 2) := dk_16 9 (dk_at dksX5_init_2 8 rfl rfl)
theorem dX5_init_57 : decode cX5_init 57 = .ok (.newarray .int, 2) := dk_188_10 (dk_at dksX5_init_2 10 rfl rfl)
theorem dX5_init_59 : decode cX5_init 59 = .ok (.putfield 33, 3) := dk_181 0 33 (dk_at dksX5_init_2 12 rfl rfl)
theorem dX5_init_62 : decode cX5_init 62 = .ok (.aload_n 0, 1) := dk_42 (dk_at dksX5_init_2 15 rfl rfl)
theorem dX5_init_63 : decode cX5_init 63 = .ok (.sipush 1052, 3) := dk_17 4 28 (dk_at dksX5_init_2 16 rfl rfl)
theorem dX5_init_66 : decode cX5_init 66 = .ok (.newarray .int, 2) := dk_188_10 (dk_at dksX5_init_2 19 rfl rfl)
theorem dX5_init_68 : decode cX5_init 68 = .ok (.putfield 36, 3) := dk_181 0 36 (dk_at dksX5_init_2 21 rfl rfl)
theorem dX5_init_71 : decode cX5_init 71 = .ok (.aload_n 0, 1) := dk_42 (dk_at dksX5_init_3 0 rfl rfl)
theorem dX5_init_72 : decode cX5_init 72 = .ok (.sipush 1052, 3) := dk_17 4 28 (dk_at dksX5_init_3 1 rfl rfl)
theorem dX5_init_75 : decode cX5_init 75 = .ok (.newarray .int, 2) := dk_188_10 (dk_at dksX5_init_3 4 rfl rfl)
theorem dX5_init_77 : decode cX5_init 77 = .ok (.putfield 39, 3) := dk_181 0 39 (dk_at dksX5_init_3 6 rfl rfl)
theorem dX5_init_80 : decode cX5_init 80 = .ok (.aload_n 0, 1) := dk_42 (dk_at dksX5_init_3 9 rfl rfl)
theorem dX5_init_81 : decode cX5_init 81 = .ok (.sipush 8416, 3) := dk_17 32 224 (dk_at dksX5_init_3 10 rfl rfl)
theorem dX5_init_84 : decode cX5_init 84 = .ok (.newarray .int, 2) := dk_188_10 (dk_at dksX5_init_3 13 rfl rfl)
theorem dX5_init_86 : decode cX5_init 86 = .ok (.putfield 42, 3) := dk_181 0 42 (dk_at dksX5_init_3 15 rfl rfl)
theorem dX5_init_89 : decode cX5_init 89 = .ok (.aload_n 0, 1) := dk_42 (dk_at dksX5_init_3 18 rfl rfl)
theorem dX5_init_90 : decode cX5_init 90 = .ok (.sipush 800, 3) := dk_17 3 32 (dk_at dksX5_init_3 19 rfl rfl)
theorem dX5_init_93 : decode cX5_init 93 = .ok (.newarray .byte, 2) := dk_188_8 (dk_at dksX5_init_3 22 rfl rfl)
theorem dX5_init_95 : decode cX5_init 95 = .ok (.putfield 45, 3) := dk_181 0 45 (dk_at dksX5_init_4 0 rfl rfl)
theorem dX5_init_98 : decode cX5_init 98 = .ok (.aload_n 0, 1) := dk_42 (dk_at dksX5_init_4 3 rfl rfl)
theorem dX5_init_99 : decode cX5_init 99 = .ok (.bipush 60, 2) := dk_16 60 (dk_at dksX5_init_4 4 rfl rfl)
theorem dX5_init_101 : decode cX5_init 101 = .ok (.newarray .boolean, 2) := dk_188_4 (dk_at dksX5_init_4 6 rfl rfl)
theorem dX5_init_103 : decode cX5_init 103 = .ok (.putfield 48, 3) := dk_181 0 48 (dk_at dksX5_init_4 8 rfl rfl)
theorem dX5_init_106 : decode cX5_init 106 = .ok (.aload_n 0, 1) := dk_42 (dk_at dksX5_init_4 11 rfl rfl)
theorem dX5_init_107 : decode cX5_init 107 = .ok (.sipush 129, 3) := dk_17 0 129 (dk_at dksX5_init_4 12 rfl rfl)
theorem dX5_init_110 : decode cX5_init 110 = .ok (.newarray .int, 2) := dk_188_10 (dk_at dksX5_init_4 15 rfl rfl)
theorem dX5_init_112 : decode cX5_init 112 = .ok (.putfield 52, 3) := dk_181 0 52 (dk_at dksX5_init_4 17 rfl rfl)
theorem dX5_init_115 : decode cX5_init 115 = .ok (.aload_n 0, 1) := dk_42 (dk_at dksX5_init_4 20 rfl rfl)
theorem dX5_init_116 : decode cX5_init 116 = .ok (.iconst 3, 1) := dk_6 (dk_at dksX5_init_4 21 rfl rfl)
theorem dX5_init_117 : decode cX5_init 117 = .ok (.newarray .int, 2) := dk_188_10 (dk_at dksX5_init_4 22 rfl rfl)
theorem dX5_init_119 : decode cX5_init 119 = .ok (.putfield 55, 3) := dk_181 0 55 (dk_at dksX5_init_5 0 rfl rfl)
theorem dX5_init_122 : decode cX5_init 122 = .ok (.aload_n 0, 1) := dk_42 (dk_at dksX5_init_5 3 rfl rfl)
theorem dX5_init_123 : decode cX5_init 123 = .ok (.iconst 3, 1) := dk_6 (dk_at dksX5_init_5 4 rfl rfl)
theorem dX5_init_124 : decode cX5_init 124 = .ok (.newarray .int, 2) := dk_188_10 (dk_at dksX5_init_5 5 rfl rfl)
theorem dX5_init_126 : decode cX5_init 126 = .ok (.putfield 58, 3) := dk_181 0 58 (dk_at dksX5_init_5 7 rfl rfl)
theorem dX5_init_129 : decode cX5_init 129 = .ok (.aload_n 0, 1) := dk_42 (dk_at dksX5_init_5 10 rfl rfl)
theorem dX5_init_130 : decode cX5_init 130 = .ok (.iconst 3, 1) := dk_6 (dk_at dksX5_init_5 11 rfl rfl)
theorem dX5_init_131 : decode cX5_init 131 = .ok (.newarray .int, 2) := dk_188_10 (dk_at dksX5_init_5 12 rfl rfl)
theorem dX5_init_133 : decode cX5_init 133 = .ok (.putfield 61, 3) := dk_181 0 61 (dk_at dksX5_init_5 14 rfl rfl)
theorem dX5_init_136 : decode cX5_init 136 = .ok (.aload_n 0, 1) := dk_42 (dk_at dksX5_init_5 17 rfl rfl)
theorem dX5_init_137 : decode cX5_init 137 = .ok (.bipush 8, 2) := dk_16 8 (dk_at dksX5_init_5 18 rfl rfl)
theorem dX5_init_139 : decode cX5_init 139 = .ok (.newarray .int, 2) := dk_188_10 (dk_at dksX5_init_5 20 rfl rfl)
theorem dX5_init_141 : decode cX5_init 141 = .ok (.putfield 64, 3) := dk_181 0 64 (dk_at dksX5_init_6 0 rfl rfl)
theorem dX5_init_144 : decode cX5_init 144 = .ok (.aload_n 0, 1) := dk_42 (dk_at dksX5_init_6 3 rfl rfl)
theorem dX5_init_145 : decode cX5_init 145 = .ok (.sipush 2048, 3) := dk_17 8 0 (dk_at dksX5_init_6 4 rfl rfl)
theorem dX5_init_148 : decode cX5_init 148 = .ok (.newarray .int, 2) := dk_188_10 (dk_at dksX5_init_6 7 rfl rfl)
theorem dX5_init_150 : decode cX5_init 150 = .ok (.putfield 67, 3) := dk_181 0 67 (dk_at dksX5_init_6 9 rfl rfl)
theorem dX5_init_153 : decode cX5_init 153 = .ok (.aload_n 0, 1) := dk_42 (dk_at dksX5_init_6 12 rfl rfl)
theorem dX5_init_154 : decode cX5_init 154 = .ok (.invokevirtual 70, 3) := dk_182 0 70 (dk_at dksX5_init_6 13 rfl rfl)
theorem dX5_init_157 : decode cX5_init 157 = .ok (.return_, 1) := dk_177 (dk_at dksX5_init_6 16 rfl rfl)
abbrev cX5_starts : ByteArray := prog_17_method_5_code
def yX5_starts : MethodName := ⟨RX5, "starts", "()V"⟩
def dkwX5_starts_4 : List UInt8 := [79, 42, 180, 0, 30, 5, 16, 60, 79, 177]
abbrev dktX5_starts_4 : List UInt8 := dkwX5_starts_4 ++ []
def dkwX5_starts_3 : List UInt8 := [16, 9, 162, 0, 16, 42, 180, 0, 30, 27, 3, 79, 132, 1, 1, 167, 255, 240, 42, 180, 0, 30, 4, 4]
abbrev dktX5_starts_3 : List UInt8 := dkwX5_starts_3 ++ dktX5_starts_4
def dkwX5_starts_2 : List UInt8 := [17, 3, 236, 27, 96, 42, 180, 0, 13, 16, 118, 27, 96, 46, 79, 132, 1, 1, 167, 255, 228, 3, 60, 27]
abbrev dktX5_starts_2 : List UInt8 := dkwX5_starts_2 ++ dktX5_starts_3
def dkwX5_starts_1 : List UInt8 := [180, 0, 36, 6, 42, 180, 0, 13, 16, 6, 46, 79, 3, 60, 27, 16, 48, 162, 0, 28, 42, 180, 0, 36]
abbrev dktX5_starts_1 : List UInt8 := dkwX5_starts_1 ++ dktX5_starts_2
def dkwX5_starts_0 : List UInt8 := [3, 60, 27, 17, 4, 28, 162, 0, 16, 42, 180, 0, 36, 27, 3, 79, 132, 1, 1, 167, 255, 239, 42]
abbrev dktX5_starts_0 : List UInt8 := dkwX5_starts_0 ++ dktX5_starts_1
theorem dksX5_starts_0 : cX5_starts.data.toList.drop 0 = dktX5_starts_0 := by decide +kernel
theorem dksX5_starts_1 : cX5_starts.data.toList.drop 23 = dktX5_starts_1 := dk_seg dksX5_starts_0 23 rfl rfl
theorem dksX5_starts_2 : cX5_starts.data.toList.drop 47 = dktX5_starts_2 := dk_seg dksX5_starts_1 24 rfl rfl
theorem dksX5_starts_3 : cX5_starts.data.toList.drop 71 = dktX5_starts_3 := dk_seg dksX5_starts_2 24 rfl rfl
theorem dksX5_starts_4 : cX5_starts.data.toList.drop 95 = dktX5_starts_4 := dk_seg dksX5_starts_3 24 rfl rfl
theorem dX5_starts_0 : decode cX5_starts 0 = .ok (.iconst 0, 1) := dk_3 (dk_at dksX5_starts_0 0 rfl rfl)
theorem dX5_starts_1 : decode cX5_starts 1 = .ok (.istore_n 1, 1) := dk_60 (dk_at dksX5_starts_0 1 rfl rfl)
theorem dX5_starts_2 : decode cX5_starts 2 = .ok (.iload_n 1, 1) := dk_27 (dk_at dksX5_starts_0 2 rfl rfl)
theorem dX5_starts_3 : decode cX5_starts 3 = .ok (.sipush 1052, 3) := dk_17 4 28 (dk_at dksX5_starts_0 3 rfl rfl)
theorem dX5_starts_6 : decode cX5_starts 6 = .ok (.if_icmp .ge 16, 3) := dk_162 0 16 (dk_at dksX5_starts_0 6 rfl rfl)
theorem dX5_starts_9 : decode cX5_starts 9 = .ok (.aload_n 0, 1) := dk_42 (dk_at dksX5_starts_0 9 rfl rfl)
theorem dX5_starts_10 : decode cX5_starts 10 = .ok (.getfield 36, 3) := dk_180 0 36 (dk_at dksX5_starts_0 10 rfl rfl)
theorem dX5_starts_13 : decode cX5_starts 13 = .ok (.iload_n 1, 1) := dk_27 (dk_at dksX5_starts_0 13 rfl rfl)
theorem dX5_starts_14 : decode cX5_starts 14 = .ok (.iconst 0, 1) := dk_3 (dk_at dksX5_starts_0 14 rfl rfl)
theorem dX5_starts_15 : decode cX5_starts 15 = .ok (.iastore, 1) := dk_79 (dk_at dksX5_starts_0 15 rfl rfl)
theorem dX5_starts_16 : decode cX5_starts 16 = .ok (.iinc 1 1, 3) := dk_132 1 1 (dk_at dksX5_starts_0 16 rfl rfl)
theorem dX5_starts_19 : decode cX5_starts 19 = .ok (.goto (-17), 3) := dk_167 255 239 (dk_at dksX5_starts_0 19 rfl rfl)
theorem dX5_starts_22 : decode cX5_starts 22 = .ok (.aload_n 0, 1) := dk_42 (dk_at dksX5_starts_0 22 rfl rfl)
theorem dX5_starts_23 : decode cX5_starts 23 = .ok (.getfield 36, 3) := dk_180 0 36 (dk_at dksX5_starts_1 0 rfl rfl)
theorem dX5_starts_26 : decode cX5_starts 26 = .ok (.iconst 3, 1) := dk_6 (dk_at dksX5_starts_1 3 rfl rfl)
theorem dX5_starts_27 : decode cX5_starts 27 = .ok (.aload_n 0, 1) := dk_42 (dk_at dksX5_starts_1 4 rfl rfl)
theorem dX5_starts_28 : decode cX5_starts 28 = .ok (.getfield 13, 3) := dk_180 0 13 (dk_at dksX5_starts_1 5 rfl rfl)
theorem dX5_starts_31 : decode cX5_starts 31 = .ok (.bipush 6, 2) := dk_16 6 (dk_at dksX5_starts_1 8 rfl rfl)
theorem dX5_starts_33 : decode cX5_starts 33 = .ok (.iaload, 1) := dk_46 (dk_at dksX5_starts_1 10 rfl rfl)
theorem dX5_starts_34 : decode cX5_starts 34 = .ok (.iastore, 1) := dk_79 (dk_at dksX5_starts_1 11 rfl rfl)
theorem dX5_starts_35 : decode cX5_starts 35 = .ok (.iconst 0, 1) := dk_3 (dk_at dksX5_starts_1 12 rfl rfl)
theorem dX5_starts_36 : decode cX5_starts 36 = .ok (.istore_n 1, 1) := dk_60 (dk_at dksX5_starts_1 13 rfl rfl)
theorem dX5_starts_37 : decode cX5_starts 37 = .ok (.iload_n 1, 1) := dk_27 (dk_at dksX5_starts_1 14 rfl rfl)
theorem dX5_starts_38 : decode cX5_starts 38 = .ok (.bipush 48, 2) := dk_16 48 (dk_at dksX5_starts_1 15 rfl rfl)
theorem dX5_starts_40 : decode cX5_starts 40 = .ok (.if_icmp .ge 28, 3) := dk_162 0 28 (dk_at dksX5_starts_1 17 rfl rfl)
theorem dX5_starts_43 : decode cX5_starts 43 = .ok (.aload_n 0, 1) := dk_42 (dk_at dksX5_starts_1 20 rfl rfl)
theorem dX5_starts_44 : decode cX5_starts 44 = .ok (.getfield 36, 3) := dk_180 0 36 (dk_at dksX5_starts_1 21 rfl rfl)
theorem dX5_starts_47 : decode cX5_starts 47 = .ok (.sipush 1004, 3) := dk_17 3 236 (dk_at dksX5_starts_2 0 rfl rfl)
theorem dX5_starts_50 : decode cX5_starts 50 = .ok (.iload_n 1, 1) := dk_27 (dk_at dksX5_starts_2 3 rfl rfl)
theorem dX5_starts_51 : decode cX5_starts 51 = .ok (.iadd, 1) := dk_96 (dk_at dksX5_starts_2 4 rfl rfl)
theorem dX5_starts_52 : decode cX5_starts 52 = .ok (.aload_n 0, 1) := dk_42 (dk_at dksX5_starts_2 5 rfl rfl)
theorem dX5_starts_53 : decode cX5_starts 53 = .ok (.getfield 13, 3) := dk_180 0 13 (dk_at dksX5_starts_2 6 rfl rfl)
theorem dX5_starts_56 : decode cX5_starts 56 = .ok (.bipush 118, 2) := dk_16 118 (dk_at dksX5_starts_2 9 rfl rfl)
theorem dX5_starts_58 : decode cX5_starts 58 = .ok (.iload_n 1, 1) := dk_27 (dk_at dksX5_starts_2 11 rfl rfl)
theorem dX5_starts_59 : decode cX5_starts 59 = .ok (.iadd, 1) := dk_96 (dk_at dksX5_starts_2 12 rfl rfl)
theorem dX5_starts_60 : decode cX5_starts 60 = .ok (.iaload, 1) := dk_46 (dk_at dksX5_starts_2 13 rfl rfl)
theorem dX5_starts_61 : decode cX5_starts 61 = .ok (.iastore, 1) := dk_79 (dk_at dksX5_starts_2 14 rfl rfl)
theorem dX5_starts_62 : decode cX5_starts 62 = .ok (.iinc 1 1, 3) := dk_132 1 1 (dk_at dksX5_starts_2 15 rfl rfl)
theorem dX5_starts_65 : decode cX5_starts 65 = .ok (.goto (-28), 3) := dk_167 255 228 (dk_at dksX5_starts_2 18 rfl rfl)
theorem dX5_starts_68 : decode cX5_starts 68 = .ok (.iconst 0, 1) := dk_3 (dk_at dksX5_starts_2 21 rfl rfl)
theorem dX5_starts_69 : decode cX5_starts 69 = .ok (.istore_n 1, 1) := dk_60 (dk_at dksX5_starts_2 22 rfl rfl)
theorem dX5_starts_70 : decode cX5_starts 70 = .ok (.iload_n 1, 1) := dk_27 (dk_at dksX5_starts_2 23 rfl rfl)
theorem dX5_starts_71 : decode cX5_starts 71 = .ok (.bipush 9, 2) := dk_16 9 (dk_at dksX5_starts_3 0 rfl rfl)
theorem dX5_starts_73 : decode cX5_starts 73 = .ok (.if_icmp .ge 16, 3) := dk_162 0 16 (dk_at dksX5_starts_3 2 rfl rfl)
theorem dX5_starts_76 : decode cX5_starts 76 = .ok (.aload_n 0, 1) := dk_42 (dk_at dksX5_starts_3 5 rfl rfl)
theorem dX5_starts_77 : decode cX5_starts 77 = .ok (.getfield 30, 3) := dk_180 0 30 (dk_at dksX5_starts_3 6 rfl rfl)
theorem dX5_starts_80 : decode cX5_starts 80 = .ok (.iload_n 1, 1) := dk_27 (dk_at dksX5_starts_3 9 rfl rfl)
theorem dX5_starts_81 : decode cX5_starts 81 = .ok (.iconst 0, 1) := dk_3 (dk_at dksX5_starts_3 10 rfl rfl)
theorem dX5_starts_82 : decode cX5_starts 82 = .ok (.iastore, 1) := dk_79 (dk_at dksX5_starts_3 11 rfl rfl)
theorem dX5_starts_83 : decode cX5_starts 83 = .ok (.iinc 1 1, 3) := dk_132 1 1 (dk_at dksX5_starts_3 12 rfl rfl)
theorem dX5_starts_86 : decode cX5_starts 86 = .ok (.goto (-16), 3) := dk_167 255 240 (dk_at dksX5_starts_3 15 rfl rfl)
theorem dX5_starts_89 : decode cX5_starts 89 = .ok (.aload_n 0, 1) := dk_42 (dk_at dksX5_starts_3 18 rfl rfl)
theorem dX5_starts_90 : decode cX5_starts 90 = .ok (.getfield 30, 3) := dk_180 0 30 (dk_at dksX5_starts_3 19 rfl rfl)
theorem dX5_starts_93 : decode cX5_starts 93 = .ok (.iconst 1, 1) := dk_4 (dk_at dksX5_starts_3 22 rfl rfl)
theorem dX5_starts_94 : decode cX5_starts 94 = .ok (.iconst 1, 1) := dk_4 (dk_at dksX5_starts_3 23 rfl rfl)
theorem dX5_starts_95 : decode cX5_starts 95 = .ok (.iastore, 1) := dk_79 (dk_at dksX5_starts_4 0 rfl rfl)
theorem dX5_starts_96 : decode cX5_starts 96 = .ok (.aload_n 0, 1) := dk_42 (dk_at dksX5_starts_4 1 rfl rfl)
theorem dX5_starts_97 : decode cX5_starts 97 = .ok (.getfield 30, 3) := dk_180 0 30 (dk_at dksX5_starts_4 2 rfl rfl)
theorem dX5_starts_100 : decode cX5_starts 100 = .ok (.iconst 2, 1) := dk_5 (dk_at dksX5_starts_4 5 rfl rfl)
theorem dX5_starts_101 : decode cX5_starts 101 = .ok (.bipush 60, 2) := dk_16 60 (dk_at dksX5_starts_4 6 rfl rfl)
theorem dX5_starts_103 : decode cX5_starts 103 = .ok (.iastore, 1) := dk_79 (dk_at dksX5_starts_4 8 rfl rfl)
theorem dX5_starts_104 : decode cX5_starts 104 = .ok (.return_, 1) := dk_177 (dk_at dksX5_starts_4 9 rfl rfl)
abbrev cX5_append : ByteArray := prog_17_method_9_code
def yX5_append : MethodName := ⟨RX5, "append", "(IIIII)I"⟩
def dkwX5_append_3 : List UInt8 := [182, 0, 86, 42, 180, 0, 76, 172]
abbrev dktX5_append_3 : List UInt8 := dkwX5_append_3 ++ []
def dkwX5_append_2 : List UInt8 := [42, 27, 182, 0, 86, 42, 28, 182, 0, 86, 42, 29, 182, 0, 86, 42, 21, 4, 182, 0, 86, 42, 21, 5]
abbrev dktX5_append_2 : List UInt8 := dkwX5_append_2 ++ dktX5_append_3
def dkwX5_append_1 : List UInt8 := [21, 4, 184, 0, 79, 96, 21, 5, 184, 0, 79, 96, 17, 3, 32, 164, 0, 9, 42, 4, 182, 0, 83, 172]
abbrev dktX5_append_1 : List UInt8 := dkwX5_append_1 ++ dktX5_append_2
def dkwX5_append_0 : List UInt8 := [42, 3, 181, 0, 3, 42, 180, 0, 76, 27, 184, 0, 79, 96, 28, 184, 0, 79, 96, 29, 184, 0, 79, 96]
abbrev dktX5_append_0 : List UInt8 := dkwX5_append_0 ++ dktX5_append_1
theorem dksX5_append_0 : cX5_append.data.toList.drop 0 = dktX5_append_0 := by decide +kernel
theorem dksX5_append_1 : cX5_append.data.toList.drop 24 = dktX5_append_1 := dk_seg dksX5_append_0 24 rfl rfl
theorem dksX5_append_2 : cX5_append.data.toList.drop 48 = dktX5_append_2 := dk_seg dksX5_append_1 24 rfl rfl
theorem dksX5_append_3 : cX5_append.data.toList.drop 72 = dktX5_append_3 := dk_seg dksX5_append_2 24 rfl rfl
theorem dX5_append_0 : decode cX5_append 0 = .ok (.aload_n 0, 1) := dk_42 (dk_at dksX5_append_0 0 rfl rfl)
theorem dX5_append_1 : decode cX5_append 1 = .ok (.iconst 0, 1) := dk_3 (dk_at dksX5_append_0 1 rfl rfl)
theorem dX5_append_2 : decode cX5_append 2 = .ok (.putfield 3, 3) := dk_181 0 3 (dk_at dksX5_append_0 2 rfl rfl)
theorem dX5_append_5 : decode cX5_append 5 = .ok (.aload_n 0, 1) := dk_42 (dk_at dksX5_append_0 5 rfl rfl)
theorem dX5_append_6 : decode cX5_append 6 = .ok (.getfield 76, 3) := dk_180 0 76 (dk_at dksX5_append_0 6 rfl rfl)
theorem dX5_append_9 : decode cX5_append 9 = .ok (.iload_n 1, 1) := dk_27 (dk_at dksX5_append_0 9 rfl rfl)
theorem dX5_append_10 : decode cX5_append 10 = .ok (.invokestatic 79, 3) := dk_184 0 79 (dk_at dksX5_append_0 10 rfl rfl)
theorem dX5_append_13 : decode cX5_append 13 = .ok (.iadd, 1) := dk_96 (dk_at dksX5_append_0 13 rfl rfl)
theorem dX5_append_14 : decode cX5_append 14 = .ok (.iload_n 2, 1) := dk_28 (dk_at dksX5_append_0 14 rfl rfl)
theorem dX5_append_15 : decode cX5_append 15 = .ok (.invokestatic 79, 3) := dk_184 0 79 (dk_at dksX5_append_0 15 rfl rfl)
theorem dX5_append_18 : decode cX5_append 18 = .ok (.iadd, 1) := dk_96 (dk_at dksX5_append_0 18 rfl rfl)
theorem dX5_append_19 : decode cX5_append 19 = .ok (.iload_n 3, 1) := dk_29 (dk_at dksX5_append_0 19 rfl rfl)
theorem dX5_append_20 : decode cX5_append 20 = .ok (.invokestatic 79, 3) := dk_184 0 79 (dk_at dksX5_append_0 20 rfl rfl)
theorem dX5_append_23 : decode cX5_append 23 = .ok (.iadd, 1) := dk_96 (dk_at dksX5_append_0 23 rfl rfl)
theorem dX5_append_24 : decode cX5_append 24 = .ok (.iload 4, 2) := dk_21 4 (dk_at dksX5_append_1 0 rfl rfl)
theorem dX5_append_26 : decode cX5_append 26 = .ok (.invokestatic 79, 3) := dk_184 0 79 (dk_at dksX5_append_1 2 rfl rfl)
theorem dX5_append_29 : decode cX5_append 29 = .ok (.iadd, 1) := dk_96 (dk_at dksX5_append_1 5 rfl rfl)
theorem dX5_append_30 : decode cX5_append 30 = .ok (.iload 5, 2) := dk_21 5 (dk_at dksX5_append_1 6 rfl rfl)
theorem dX5_append_32 : decode cX5_append 32 = .ok (.invokestatic 79, 3) := dk_184 0 79 (dk_at dksX5_append_1 8 rfl rfl)
theorem dX5_append_35 : decode cX5_append 35 = .ok (.iadd, 1) := dk_96 (dk_at dksX5_append_1 11 rfl rfl)
theorem dX5_append_36 : decode cX5_append 36 = .ok (.sipush 800, 3) := dk_17 3 32 (dk_at dksX5_append_1 12 rfl rfl)
theorem dX5_append_39 : decode cX5_append 39 = .ok (.if_icmp .le 9, 3) := dk_164 0 9 (dk_at dksX5_append_1 15 rfl rfl)
theorem dX5_append_42 : decode cX5_append 42 = .ok (.aload_n 0, 1) := dk_42 (dk_at dksX5_append_1 18 rfl rfl)
theorem dX5_append_43 : decode cX5_append 43 = .ok (.iconst 1, 1) := dk_4 (dk_at dksX5_append_1 19 rfl rfl)
theorem dX5_append_44 : decode cX5_append 44 = .ok (.invokevirtual 83, 3) := dk_182 0 83 (dk_at dksX5_append_1 20 rfl rfl)
theorem dX5_append_47 : decode cX5_append 47 = .ok (.ireturn, 1) := dk_172 (dk_at dksX5_append_1 23 rfl rfl)
theorem dX5_append_48 : decode cX5_append 48 = .ok (.aload_n 0, 1) := dk_42 (dk_at dksX5_append_2 0 rfl rfl)
theorem dX5_append_49 : decode cX5_append 49 = .ok (.iload_n 1, 1) := dk_27 (dk_at dksX5_append_2 1 rfl rfl)
theorem dX5_append_50 : decode cX5_append 50 = .ok (.invokevirtual 86, 3) := dk_182 0 86 (dk_at dksX5_append_2 2 rfl rfl)
theorem dX5_append_53 : decode cX5_append 53 = .ok (.aload_n 0, 1) := dk_42 (dk_at dksX5_append_2 5 rfl rfl)
theorem dX5_append_54 : decode cX5_append 54 = .ok (.iload_n 2, 1) := dk_28 (dk_at dksX5_append_2 6 rfl rfl)
theorem dX5_append_55 : decode cX5_append 55 = .ok (.invokevirtual 86, 3) := dk_182 0 86 (dk_at dksX5_append_2 7 rfl rfl)
theorem dX5_append_58 : decode cX5_append 58 = .ok (.aload_n 0, 1) := dk_42 (dk_at dksX5_append_2 10 rfl rfl)
theorem dX5_append_59 : decode cX5_append 59 = .ok (.iload_n 3, 1) := dk_29 (dk_at dksX5_append_2 11 rfl rfl)
theorem dX5_append_60 : decode cX5_append 60 = .ok (.invokevirtual 86, 3) := dk_182 0 86 (dk_at dksX5_append_2 12 rfl rfl)
theorem dX5_append_63 : decode cX5_append 63 = .ok (.aload_n 0, 1) := dk_42 (dk_at dksX5_append_2 15 rfl rfl)
theorem dX5_append_64 : decode cX5_append 64 = .ok (.iload 4, 2) := dk_21 4 (dk_at dksX5_append_2 16 rfl rfl)
theorem dX5_append_66 : decode cX5_append 66 = .ok (.invokevirtual 86, 3) := dk_182 0 86 (dk_at dksX5_append_2 18 rfl rfl)
theorem dX5_append_69 : decode cX5_append 69 = .ok (.aload_n 0, 1) := dk_42 (dk_at dksX5_append_2 21 rfl rfl)
theorem dX5_append_70 : decode cX5_append 70 = .ok (.iload 5, 2) := dk_21 5 (dk_at dksX5_append_2 22 rfl rfl)
theorem dX5_append_72 : decode cX5_append 72 = .ok (.invokevirtual 86, 3) := dk_182 0 86 (dk_at dksX5_append_3 0 rfl rfl)
theorem dX5_append_75 : decode cX5_append 75 = .ok (.aload_n 0, 1) := dk_42 (dk_at dksX5_append_3 3 rfl rfl)
theorem dX5_append_76 : decode cX5_append 76 = .ok (.getfield 76, 3) := dk_180 0 76 (dk_at dksX5_append_3 4 rfl rfl)
theorem dX5_append_79 : decode cX5_append 79 = .ok (.ireturn, 1) := dk_172 (dk_at dksX5_append_3 7 rfl rfl)
abbrev cX5_bytesOf : ByteArray := prog_17_method_7_code
def yX5_bytesOf : MethodName := ⟨RX5, "bytesOf", "(I)I"⟩
def dkwX5_bytesOf_1 : List UInt8 := [167, 0, 4, 4, 96, 60, 132, 2, 1, 167, 255, 227, 27, 172]
abbrev dktX5_bytesOf_1 : List UInt8 := dkwX5_bytesOf_1 ++ []
def dkwX5_bytesOf_0 : List UInt8 := [3, 60, 3, 61, 28, 7, 162, 0, 30, 27, 26, 16, 8, 28, 104, 122, 17, 0, 255, 126, 154, 0, 7, 3]
abbrev dktX5_bytesOf_0 : List UInt8 := dkwX5_bytesOf_0 ++ dktX5_bytesOf_1
theorem dksX5_bytesOf_0 : cX5_bytesOf.data.toList.drop 0 = dktX5_bytesOf_0 := by decide +kernel
theorem dksX5_bytesOf_1 : cX5_bytesOf.data.toList.drop 24 = dktX5_bytesOf_1 := dk_seg dksX5_bytesOf_0 24 rfl rfl
theorem dX5_bytesOf_0 : decode cX5_bytesOf 0 = .ok (.iconst 0, 1) := dk_3 (dk_at dksX5_bytesOf_0 0 rfl rfl)
theorem dX5_bytesOf_1 : decode cX5_bytesOf 1 = .ok (.istore_n 1, 1) := dk_60 (dk_at dksX5_bytesOf_0 1 rfl rfl)
theorem dX5_bytesOf_2 : decode cX5_bytesOf 2 = .ok (.iconst 0, 1) := dk_3 (dk_at dksX5_bytesOf_0 2 rfl rfl)
theorem dX5_bytesOf_3 : decode cX5_bytesOf 3 = .ok (.istore_n 2, 1) := dk_61 (dk_at dksX5_bytesOf_0 3 rfl rfl)
theorem dX5_bytesOf_4 : decode cX5_bytesOf 4 = .ok (.iload_n 2, 1) := dk_28 (dk_at dksX5_bytesOf_0 4 rfl rfl)
theorem dX5_bytesOf_5 : decode cX5_bytesOf 5 = .ok (.iconst 4, 1) := dk_7 (dk_at dksX5_bytesOf_0 5 rfl rfl)
theorem dX5_bytesOf_6 : decode cX5_bytesOf 6 = .ok (.if_icmp .ge 30, 3) := dk_162 0 30 (dk_at dksX5_bytesOf_0 6 rfl rfl)
theorem dX5_bytesOf_9 : decode cX5_bytesOf 9 = .ok (.iload_n 1, 1) := dk_27 (dk_at dksX5_bytesOf_0 9 rfl rfl)
theorem dX5_bytesOf_10 : decode cX5_bytesOf 10 = .ok (.iload_n 0, 1) := dk_26 (dk_at dksX5_bytesOf_0 10 rfl rfl)
theorem dX5_bytesOf_11 : decode cX5_bytesOf 11 = .ok (.bipush 8, 2) := dk_16 8 (dk_at dksX5_bytesOf_0 11 rfl rfl)
theorem dX5_bytesOf_13 : decode cX5_bytesOf 13 = .ok (.iload_n 2, 1) := dk_28 (dk_at dksX5_bytesOf_0 13 rfl rfl)
theorem dX5_bytesOf_14 : decode cX5_bytesOf 14 = .ok (.imul, 1) := dk_104 (dk_at dksX5_bytesOf_0 14 rfl rfl)
theorem dX5_bytesOf_15 : decode cX5_bytesOf 15 = .ok (.ishr, 1) := dk_122 (dk_at dksX5_bytesOf_0 15 rfl rfl)
theorem dX5_bytesOf_16 : decode cX5_bytesOf 16 = .ok (.sipush 255, 3) := dk_17 0 255 (dk_at dksX5_bytesOf_0 16 rfl rfl)
theorem dX5_bytesOf_19 : decode cX5_bytesOf 19 = .ok (.iand, 1) := dk_126 (dk_at dksX5_bytesOf_0 19 rfl rfl)
theorem dX5_bytesOf_20 : decode cX5_bytesOf 20 = .ok (.ifCond .ne 7, 3) := dk_154 0 7 (dk_at dksX5_bytesOf_0 20 rfl rfl)
theorem dX5_bytesOf_23 : decode cX5_bytesOf 23 = .ok (.iconst 0, 1) := dk_3 (dk_at dksX5_bytesOf_0 23 rfl rfl)
theorem dX5_bytesOf_24 : decode cX5_bytesOf 24 = .ok (.goto 4, 3) := dk_167 0 4 (dk_at dksX5_bytesOf_1 0 rfl rfl)
theorem dX5_bytesOf_27 : decode cX5_bytesOf 27 = .ok (.iconst 1, 1) := dk_4 (dk_at dksX5_bytesOf_1 3 rfl rfl)
theorem dX5_bytesOf_28 : decode cX5_bytesOf 28 = .ok (.iadd, 1) := dk_96 (dk_at dksX5_bytesOf_1 4 rfl rfl)
theorem dX5_bytesOf_29 : decode cX5_bytesOf 29 = .ok (.istore_n 1, 1) := dk_60 (dk_at dksX5_bytesOf_1 5 rfl rfl)
theorem dX5_bytesOf_30 : decode cX5_bytesOf 30 = .ok (.iinc 2 1, 3) := dk_132 2 1 (dk_at dksX5_bytesOf_1 6 rfl rfl)
theorem dX5_bytesOf_33 : decode cX5_bytesOf 33 = .ok (.goto (-29), 3) := dk_167 255 227 (dk_at dksX5_bytesOf_1 9 rfl rfl)
theorem dX5_bytesOf_36 : decode cX5_bytesOf 36 = .ok (.iload_n 1, 1) := dk_27 (dk_at dksX5_bytesOf_1 12 rfl rfl)
theorem dX5_bytesOf_37 : decode cX5_bytesOf 37 = .ok (.ireturn, 1) := dk_172 (dk_at dksX5_bytesOf_1 13 rfl rfl)
abbrev cX5_fails : ByteArray := prog_17_method_3_code
def yX5_fails : MethodName := ⟨RX5, "fails", "(I)I"⟩
def dkwX5_fails_0 : List UInt8 := [42, 27, 181, 0, 3, 3, 172]
abbrev dktX5_fails_0 : List UInt8 := dkwX5_fails_0 ++ []
theorem dksX5_fails_0 : cX5_fails.data.toList.drop 0 = dktX5_fails_0 := by decide +kernel
theorem dX5_fails_0 : decode cX5_fails 0 = .ok (.aload_n 0, 1) := dk_42 (dk_at dksX5_fails_0 0 rfl rfl)
theorem dX5_fails_1 : decode cX5_fails 1 = .ok (.iload_n 1, 1) := dk_27 (dk_at dksX5_fails_0 1 rfl rfl)
theorem dX5_fails_2 : decode cX5_fails 2 = .ok (.putfield 3, 3) := dk_181 0 3 (dk_at dksX5_fails_0 2 rfl rfl)
theorem dX5_fails_5 : decode cX5_fails 5 = .ok (.iconst 0, 1) := dk_3 (dk_at dksX5_fails_0 5 rfl rfl)
theorem dX5_fails_6 : decode cX5_fails 6 = .ok (.ireturn, 1) := dk_172 (dk_at dksX5_fails_0 6 rfl rfl)
abbrev cX5_brings : ByteArray := prog_17_method_8_code
def yX5_brings : MethodName := ⟨RX5, "brings", "(I)V"⟩
def dkwX5_brings_1 : List UInt8 := [180, 0, 76, 29, 145, 84, 42, 89, 180, 0, 76, 4, 96, 181, 0, 76, 132, 2, 248, 167, 255, 216, 177]
abbrev dktX5_brings_1 : List UInt8 := dkwX5_brings_1 ++ []
def dkwX5_brings_0 : List UInt8 := [16, 24, 61, 28, 155, 0, 42, 27, 28, 122, 17, 0, 255, 126, 62, 29, 153, 0, 24, 42, 180, 0, 45, 42]
abbrev dktX5_brings_0 : List UInt8 := dkwX5_brings_0 ++ dktX5_brings_1
theorem dksX5_brings_0 : cX5_brings.data.toList.drop 0 = dktX5_brings_0 := by decide +kernel
theorem dksX5_brings_1 : cX5_brings.data.toList.drop 24 = dktX5_brings_1 := dk_seg dksX5_brings_0 24 rfl rfl
theorem dX5_brings_0 : decode cX5_brings 0 = .ok (.bipush 24, 2) := dk_16 24 (dk_at dksX5_brings_0 0 rfl rfl)
theorem dX5_brings_2 : decode cX5_brings 2 = .ok (.istore_n 2, 1) := dk_61 (dk_at dksX5_brings_0 2 rfl rfl)
theorem dX5_brings_3 : decode cX5_brings 3 = .ok (.iload_n 2, 1) := dk_28 (dk_at dksX5_brings_0 3 rfl rfl)
theorem dX5_brings_4 : decode cX5_brings 4 = .ok (.ifCond .lt 42, 3) := dk_155 0 42 (dk_at dksX5_brings_0 4 rfl rfl)
theorem dX5_brings_7 : decode cX5_brings 7 = .ok (.iload_n 1, 1) := dk_27 (dk_at dksX5_brings_0 7 rfl rfl)
theorem dX5_brings_8 : decode cX5_brings 8 = .ok (.iload_n 2, 1) := dk_28 (dk_at dksX5_brings_0 8 rfl rfl)
theorem dX5_brings_9 : decode cX5_brings 9 = .ok (.ishr, 1) := dk_122 (dk_at dksX5_brings_0 9 rfl rfl)
theorem dX5_brings_10 : decode cX5_brings 10 = .ok (.sipush 255, 3) := dk_17 0 255 (dk_at dksX5_brings_0 10 rfl rfl)
theorem dX5_brings_13 : decode cX5_brings 13 = .ok (.iand, 1) := dk_126 (dk_at dksX5_brings_0 13 rfl rfl)
theorem dX5_brings_14 : decode cX5_brings 14 = .ok (.istore_n 3, 1) := dk_62 (dk_at dksX5_brings_0 14 rfl rfl)
theorem dX5_brings_15 : decode cX5_brings 15 = .ok (.iload_n 3, 1) := dk_29 (dk_at dksX5_brings_0 15 rfl rfl)
theorem dX5_brings_16 : decode cX5_brings 16 = .ok (.ifCond .eq 24, 3) := dk_153 0 24 (dk_at dksX5_brings_0 16 rfl rfl)
theorem dX5_brings_19 : decode cX5_brings 19 = .ok (.aload_n 0, 1) := dk_42 (dk_at dksX5_brings_0 19 rfl rfl)
theorem dX5_brings_20 : decode cX5_brings 20 = .ok (.getfield 45, 3) := dk_180 0 45 (dk_at dksX5_brings_0 20 rfl rfl)
theorem dX5_brings_23 : decode cX5_brings 23 = .ok (.aload_n 0, 1) := dk_42 (dk_at dksX5_brings_0 23 rfl rfl)
theorem dX5_brings_24 : decode cX5_brings 24 = .ok (.getfield 76, 3) := dk_180 0 76 (dk_at dksX5_brings_1 0 rfl rfl)
theorem dX5_brings_27 : decode cX5_brings 27 = .ok (.iload_n 3, 1) := dk_29 (dk_at dksX5_brings_1 3 rfl rfl)
theorem dX5_brings_28 : decode cX5_brings 28 = .ok (.i2b, 1) := dk_145 (dk_at dksX5_brings_1 4 rfl rfl)
theorem dX5_brings_29 : decode cX5_brings 29 = .ok (.bastore, 1) := dk_84 (dk_at dksX5_brings_1 5 rfl rfl)
theorem dX5_brings_30 : decode cX5_brings 30 = .ok (.aload_n 0, 1) := dk_42 (dk_at dksX5_brings_1 6 rfl rfl)
theorem dX5_brings_31 : decode cX5_brings 31 = .ok (.dup, 1) := dk_89 (dk_at dksX5_brings_1 7 rfl rfl)
theorem dX5_brings_32 : decode cX5_brings 32 = .ok (.getfield 76, 3) := dk_180 0 76 (dk_at dksX5_brings_1 8 rfl rfl)
theorem dX5_brings_35 : decode cX5_brings 35 = .ok (.iconst 1, 1) := dk_4 (dk_at dksX5_brings_1 11 rfl rfl)
theorem dX5_brings_36 : decode cX5_brings 36 = .ok (.iadd, 1) := dk_96 (dk_at dksX5_brings_1 12 rfl rfl)
theorem dX5_brings_37 : decode cX5_brings 37 = .ok (.putfield 76, 3) := dk_181 0 76 (dk_at dksX5_brings_1 13 rfl rfl)
theorem dX5_brings_40 : decode cX5_brings 40 = .ok (.iinc 2 (-8), 3) := dk_132 2 248 (dk_at dksX5_brings_1 16 rfl rfl)
theorem dX5_brings_43 : decode cX5_brings 43 = .ok (.goto (-40), 3) := dk_167 255 216 (dk_at dksX5_brings_1 19 rfl rfl)
theorem dX5_brings_46 : decode cX5_brings 46 = .ok (.return_, 1) := dk_177 (dk_at dksX5_brings_1 22 rfl rfl)
abbrev cX5_truncate : ByteArray := prog_17_method_10_code
def yX5_truncate : MethodName := ⟨RX5, "truncate", "(I)I"⟩
def dkwX5_truncate_1 : List UInt8 := [172, 42, 27, 181, 0, 76, 27, 172]
abbrev dktX5_truncate_1 : List UInt8 := dkwX5_truncate_1 ++ []
def dkwX5_truncate_0 : List UInt8 := [42, 3, 181, 0, 3, 27, 133, 9, 42, 180, 0, 76, 133, 184, 0, 90, 154, 0, 9, 42, 4, 182, 0, 83]
abbrev dktX5_truncate_0 : List UInt8 := dkwX5_truncate_0 ++ dktX5_truncate_1
theorem dksX5_truncate_0 : cX5_truncate.data.toList.drop 0 = dktX5_truncate_0 := by decide +kernel
theorem dksX5_truncate_1 : cX5_truncate.data.toList.drop 24 = dktX5_truncate_1 := dk_seg dksX5_truncate_0 24 rfl rfl
theorem dX5_truncate_0 : decode cX5_truncate 0 = .ok (.aload_n 0, 1) := dk_42 (dk_at dksX5_truncate_0 0 rfl rfl)
theorem dX5_truncate_1 : decode cX5_truncate 1 = .ok (.iconst 0, 1) := dk_3 (dk_at dksX5_truncate_0 1 rfl rfl)
theorem dX5_truncate_2 : decode cX5_truncate 2 = .ok (.putfield 3, 3) := dk_181 0 3 (dk_at dksX5_truncate_0 2 rfl rfl)
theorem dX5_truncate_5 : decode cX5_truncate 5 = .ok (.iload_n 1, 1) := dk_27 (dk_at dksX5_truncate_0 5 rfl rfl)
theorem dX5_truncate_6 : decode cX5_truncate 6 = .ok (.i2l, 1) := dk_133 (dk_at dksX5_truncate_0 6 rfl rfl)
theorem dX5_truncate_7 : decode cX5_truncate 7 = .ok (.lconst 0, 1) := dk_9 (dk_at dksX5_truncate_0 7 rfl rfl)
theorem dX5_truncate_8 : decode cX5_truncate 8 = .ok (.aload_n 0, 1) := dk_42 (dk_at dksX5_truncate_0 8 rfl rfl)
theorem dX5_truncate_9 : decode cX5_truncate 9 = .ok (.getfield 76, 3) := dk_180 0 76 (dk_at dksX5_truncate_0 9 rfl rfl)
theorem dX5_truncate_12 : decode cX5_truncate 12 = .ok (.i2l, 1) := dk_133 (dk_at dksX5_truncate_0 12 rfl rfl)
theorem dX5_truncate_13 : decode cX5_truncate 13 = .ok (.invokestatic 90, 3) := dk_184 0 90 (dk_at dksX5_truncate_0 13 rfl rfl)
theorem dX5_truncate_16 : decode cX5_truncate 16 = .ok (.ifCond .ne 9, 3) := dk_154 0 9 (dk_at dksX5_truncate_0 16 rfl rfl)
theorem dX5_truncate_19 : decode cX5_truncate 19 = .ok (.aload_n 0, 1) := dk_42 (dk_at dksX5_truncate_0 19 rfl rfl)
theorem dX5_truncate_20 : decode cX5_truncate 20 = .ok (.iconst 1, 1) := dk_4 (dk_at dksX5_truncate_0 20 rfl rfl)
theorem dX5_truncate_21 : decode cX5_truncate 21 = .ok (.invokevirtual 83, 3) := dk_182 0 83 (dk_at dksX5_truncate_0 21 rfl rfl)
theorem dX5_truncate_24 : decode cX5_truncate 24 = .ok (.ireturn, 1) := dk_172 (dk_at dksX5_truncate_1 0 rfl rfl)
theorem dX5_truncate_25 : decode cX5_truncate 25 = .ok (.aload_n 0, 1) := dk_42 (dk_at dksX5_truncate_1 1 rfl rfl)
theorem dX5_truncate_26 : decode cX5_truncate 26 = .ok (.iload_n 1, 1) := dk_27 (dk_at dksX5_truncate_1 2 rfl rfl)
theorem dX5_truncate_27 : decode cX5_truncate 27 = .ok (.putfield 76, 3) := dk_181 0 76 (dk_at dksX5_truncate_1 3 rfl rfl)
theorem dX5_truncate_30 : decode cX5_truncate 30 = .ok (.iload_n 1, 1) := dk_27 (dk_at dksX5_truncate_1 6 rfl rfl)
theorem dX5_truncate_31 : decode cX5_truncate 31 = .ok (.ireturn, 1) := dk_172 (dk_at dksX5_truncate_1 7 rfl rfl)
abbrev cX5_isIn : ByteArray := prog_17_method_2_code
def yX5_isIn : MethodName := ⟨RX5, "isIn", "(JJJ)Z"⟩
def dkwX5_isIn_0 : List UInt8 := [30, 32, 148, 155, 0, 14, 30, 22, 4, 148, 157, 0, 7, 4, 167, 0, 4, 3, 172]
abbrev dktX5_isIn_0 : List UInt8 := dkwX5_isIn_0 ++ []
theorem dksX5_isIn_0 : cX5_isIn.data.toList.drop 0 = dktX5_isIn_0 := by decide +kernel
theorem dX5_isIn_0 : decode cX5_isIn 0 = .ok (.lload_n 0, 1) := dk_30 (dk_at dksX5_isIn_0 0 rfl rfl)
theorem dX5_isIn_1 : decode cX5_isIn 1 = .ok (.lload_n 2, 1) := dk_32 (dk_at dksX5_isIn_0 1 rfl rfl)
theorem dX5_isIn_2 : decode cX5_isIn 2 = .ok (.lcmp, 1) := dk_148 (dk_at dksX5_isIn_0 2 rfl rfl)
theorem dX5_isIn_3 : decode cX5_isIn 3 = .ok (.ifCond .lt 14, 3) := dk_155 0 14 (dk_at dksX5_isIn_0 3 rfl rfl)
theorem dX5_isIn_6 : decode cX5_isIn 6 = .ok (.lload_n 0, 1) := dk_30 (dk_at dksX5_isIn_0 6 rfl rfl)
theorem dX5_isIn_7 : decode cX5_isIn 7 = .ok (.lload 4, 2) := dk_22 4 (dk_at dksX5_isIn_0 7 rfl rfl)
theorem dX5_isIn_9 : decode cX5_isIn 9 = .ok (.lcmp, 1) := dk_148 (dk_at dksX5_isIn_0 9 rfl rfl)
theorem dX5_isIn_10 : decode cX5_isIn 10 = .ok (.ifCond .gt 7, 3) := dk_157 0 7 (dk_at dksX5_isIn_0 10 rfl rfl)
theorem dX5_isIn_13 : decode cX5_isIn 13 = .ok (.iconst 1, 1) := dk_4 (dk_at dksX5_isIn_0 13 rfl rfl)
theorem dX5_isIn_14 : decode cX5_isIn 14 = .ok (.goto 4, 3) := dk_167 0 4 (dk_at dksX5_isIn_0 14 rfl rfl)
theorem dX5_isIn_17 : decode cX5_isIn 17 = .ok (.iconst 0, 1) := dk_3 (dk_at dksX5_isIn_0 17 rfl rfl)
theorem dX5_isIn_18 : decode cX5_isIn 18 = .ok (.ireturn, 1) := dk_172 (dk_at dksX5_isIn_0 18 rfl rfl)
abbrev cX5_errorPosition : ByteArray := prog_17_method_37_code
def yX5_errorPosition : MethodName := ⟨RX5, "errorPosition", "()I"⟩
def dkwX5_errorPosition_0 : List UInt8 := [42, 3, 181, 0, 3, 42, 182, 0, 217, 172]
abbrev dktX5_errorPosition_0 : List UInt8 := dkwX5_errorPosition_0 ++ []
theorem dksX5_errorPosition_0 : cX5_errorPosition.data.toList.drop 0 = dktX5_errorPosition_0 := by decide +kernel
theorem dX5_errorPosition_0 : decode cX5_errorPosition 0 = .ok (.aload_n 0, 1) := dk_42 (dk_at dksX5_errorPosition_0 0 rfl rfl)
theorem dX5_errorPosition_1 : decode cX5_errorPosition 1 = .ok (.iconst 0, 1) := dk_3 (dk_at dksX5_errorPosition_0 1 rfl rfl)
theorem dX5_errorPosition_2 : decode cX5_errorPosition 2 = .ok (.putfield 3, 3) := dk_181 0 3 (dk_at dksX5_errorPosition_0 2 rfl rfl)
theorem dX5_errorPosition_5 : decode cX5_errorPosition 5 = .ok (.aload_n 0, 1) := dk_42 (dk_at dksX5_errorPosition_0 5 rfl rfl)
theorem dX5_errorPosition_6 : decode cX5_errorPosition 6 = .ok (.invokevirtual 217, 3) := dk_182 0 217 (dk_at dksX5_errorPosition_0 6 rfl rfl)
theorem dX5_errorPosition_9 : decode cX5_errorPosition 9 = .ok (.ireturn, 1) := dk_172 (dk_at dksX5_errorPosition_0 9 rfl rfl)
abbrev cX5_readsText : ByteArray := prog_17_method_36_code
def yX5_readsText : MethodName := ⟨RX5, "readsText", "()I"⟩
def dkwX5_readsText_4 : List UInt8 := [182, 0, 152, 42, 180, 0, 104, 156, 0, 7, 2, 167, 0, 7, 42, 180, 0, 104, 172]
abbrev dktX5_readsText_4 : List UInt8 := dkwX5_readsText_4 ++ []
def dkwX5_readsText_3 : List UInt8 := [167, 255, 226, 42, 182, 0, 114, 153, 0, 18, 42, 182, 0, 107, 155, 0, 11, 42, 42, 180, 0, 101]
abbrev dktX5_readsText_3 : List UInt8 := dkwX5_readsText_3 ++ dktX5_readsText_4
def dkwX5_readsText_2 : List UInt8 := [42, 182, 0, 107, 16, 59, 160, 0, 20, 42, 89, 180, 0, 94, 4, 96, 181, 0, 94, 42, 182, 0, 214]
abbrev dktX5_readsText_2 : List UInt8 := dkwX5_readsText_2 ++ dktX5_readsText_3
def dkwX5_readsText_1 : List UInt8 := [42, 180, 0, 17, 27, 3, 79, 132, 1, 1, 167, 255, 239, 42, 182, 0, 214, 42, 182, 0, 114, 153, 0, 29]
abbrev dktX5_readsText_1 : List UInt8 := dkwX5_readsText_1 ++ dktX5_readsText_2
def dkwX5_readsText_0 : List UInt8 := [42, 3, 181, 0, 94, 42, 2, 181, 0, 104, 42, 3, 181, 0, 183, 3, 60, 27, 17, 0, 166, 162, 0, 16]
abbrev dktX5_readsText_0 : List UInt8 := dkwX5_readsText_0 ++ dktX5_readsText_1
theorem dksX5_readsText_0 : cX5_readsText.data.toList.drop 0 = dktX5_readsText_0 := by decide +kernel
theorem dksX5_readsText_1 : cX5_readsText.data.toList.drop 24 = dktX5_readsText_1 := dk_seg dksX5_readsText_0 24 rfl rfl
theorem dksX5_readsText_2 : cX5_readsText.data.toList.drop 48 = dktX5_readsText_2 := dk_seg dksX5_readsText_1 24 rfl rfl
theorem dksX5_readsText_3 : cX5_readsText.data.toList.drop 71 = dktX5_readsText_3 := dk_seg dksX5_readsText_2 23 rfl rfl
theorem dksX5_readsText_4 : cX5_readsText.data.toList.drop 93 = dktX5_readsText_4 := dk_seg dksX5_readsText_3 22 rfl rfl
theorem dX5_readsText_0 : decode cX5_readsText 0 = .ok (.aload_n 0, 1) := dk_42 (dk_at dksX5_readsText_0 0 rfl rfl)
theorem dX5_readsText_1 : decode cX5_readsText 1 = .ok (.iconst 0, 1) := dk_3 (dk_at dksX5_readsText_0 1 rfl rfl)
theorem dX5_readsText_2 : decode cX5_readsText 2 = .ok (.putfield 94, 3) := dk_181 0 94 (dk_at dksX5_readsText_0 2 rfl rfl)
theorem dX5_readsText_5 : decode cX5_readsText 5 = .ok (.aload_n 0, 1) := dk_42 (dk_at dksX5_readsText_0 5 rfl rfl)
theorem dX5_readsText_6 : decode cX5_readsText 6 = .ok (.iconst (-1), 1) := dk_2 (dk_at dksX5_readsText_0 6 rfl rfl)
theorem dX5_readsText_7 : decode cX5_readsText 7 = .ok (.putfield 104, 3) := dk_181 0 104 (dk_at dksX5_readsText_0 7 rfl rfl)
theorem dX5_readsText_10 : decode cX5_readsText 10 = .ok (.aload_n 0, 1) := dk_42 (dk_at dksX5_readsText_0 10 rfl rfl)
theorem dX5_readsText_11 : decode cX5_readsText 11 = .ok (.iconst 0, 1) := dk_3 (dk_at dksX5_readsText_0 11 rfl rfl)
theorem dX5_readsText_12 : decode cX5_readsText 12 = .ok (.putfield 183, 3) := dk_181 0 183 (dk_at dksX5_readsText_0 12 rfl rfl)
theorem dX5_readsText_15 : decode cX5_readsText 15 = .ok (.iconst 0, 1) := dk_3 (dk_at dksX5_readsText_0 15 rfl rfl)
theorem dX5_readsText_16 : decode cX5_readsText 16 = .ok (.istore_n 1, 1) := dk_60 (dk_at dksX5_readsText_0 16 rfl rfl)
theorem dX5_readsText_17 : decode cX5_readsText 17 = .ok (.iload_n 1, 1) := dk_27 (dk_at dksX5_readsText_0 17 rfl rfl)
theorem dX5_readsText_18 : decode cX5_readsText 18 = .ok (.sipush 166, 3) := dk_17 0 166 (dk_at dksX5_readsText_0 18 rfl rfl)
theorem dX5_readsText_21 : decode cX5_readsText 21 = .ok (.if_icmp .ge 16, 3) := dk_162 0 16 (dk_at dksX5_readsText_0 21 rfl rfl)
theorem dX5_readsText_24 : decode cX5_readsText 24 = .ok (.aload_n 0, 1) := dk_42 (dk_at dksX5_readsText_1 0 rfl rfl)
theorem dX5_readsText_25 : decode cX5_readsText 25 = .ok (.getfield 17, 3) := dk_180 0 17 (dk_at dksX5_readsText_1 1 rfl rfl)
theorem dX5_readsText_28 : decode cX5_readsText 28 = .ok (.iload_n 1, 1) := dk_27 (dk_at dksX5_readsText_1 4 rfl rfl)
theorem dX5_readsText_29 : decode cX5_readsText 29 = .ok (.iconst 0, 1) := dk_3 (dk_at dksX5_readsText_1 5 rfl rfl)
theorem dX5_readsText_30 : decode cX5_readsText 30 = .ok (.iastore, 1) := dk_79 (dk_at dksX5_readsText_1 6 rfl rfl)
theorem dX5_readsText_31 : decode cX5_readsText 31 = .ok (.iinc 1 1, 3) := dk_132 1 1 (dk_at dksX5_readsText_1 7 rfl rfl)
theorem dX5_readsText_34 : decode cX5_readsText 34 = .ok (.goto (-17), 3) := dk_167 255 239 (dk_at dksX5_readsText_1 10 rfl rfl)
theorem dX5_readsText_37 : decode cX5_readsText 37 = .ok (.aload_n 0, 1) := dk_42 (dk_at dksX5_readsText_1 13 rfl rfl)
theorem dX5_readsText_38 : decode cX5_readsText 38 = .ok (.invokevirtual 214, 3) := dk_182 0 214 (dk_at dksX5_readsText_1 14 rfl rfl)
theorem dX5_readsText_41 : decode cX5_readsText 41 = .ok (.aload_n 0, 1) := dk_42 (dk_at dksX5_readsText_1 17 rfl rfl)
theorem dX5_readsText_42 : decode cX5_readsText 42 = .ok (.invokevirtual 114, 3) := dk_182 0 114 (dk_at dksX5_readsText_1 18 rfl rfl)
theorem dX5_readsText_45 : decode cX5_readsText 45 = .ok (.ifCond .eq 29, 3) := dk_153 0 29 (dk_at dksX5_readsText_1 21 rfl rfl)
theorem dX5_readsText_48 : decode cX5_readsText 48 = .ok (.aload_n 0, 1) := dk_42 (dk_at dksX5_readsText_2 0 rfl rfl)
theorem dX5_readsText_49 : decode cX5_readsText 49 = .ok (.invokevirtual 107, 3) := dk_182 0 107 (dk_at dksX5_readsText_2 1 rfl rfl)
theorem dX5_readsText_52 : decode cX5_readsText 52 = .ok (.bipush 59, 2) := dk_16 59 (dk_at dksX5_readsText_2 4 rfl rfl)
theorem dX5_readsText_54 : decode cX5_readsText 54 = .ok (.if_icmp .ne 20, 3) := dk_160 0 20 (dk_at dksX5_readsText_2 6 rfl rfl)
theorem dX5_readsText_57 : decode cX5_readsText 57 = .ok (.aload_n 0, 1) := dk_42 (dk_at dksX5_readsText_2 9 rfl rfl)
theorem dX5_readsText_58 : decode cX5_readsText 58 = .ok (.dup, 1) := dk_89 (dk_at dksX5_readsText_2 10 rfl rfl)
theorem dX5_readsText_59 : decode cX5_readsText 59 = .ok (.getfield 94, 3) := dk_180 0 94 (dk_at dksX5_readsText_2 11 rfl rfl)
theorem dX5_readsText_62 : decode cX5_readsText 62 = .ok (.iconst 1, 1) := dk_4 (dk_at dksX5_readsText_2 14 rfl rfl)
theorem dX5_readsText_63 : decode cX5_readsText 63 = .ok (.iadd, 1) := dk_96 (dk_at dksX5_readsText_2 15 rfl rfl)
theorem dX5_readsText_64 : decode cX5_readsText 64 = .ok (.putfield 94, 3) := dk_181 0 94 (dk_at dksX5_readsText_2 16 rfl rfl)
theorem dX5_readsText_67 : decode cX5_readsText 67 = .ok (.aload_n 0, 1) := dk_42 (dk_at dksX5_readsText_2 19 rfl rfl)
theorem dX5_readsText_68 : decode cX5_readsText 68 = .ok (.invokevirtual 214, 3) := dk_182 0 214 (dk_at dksX5_readsText_2 20 rfl rfl)
theorem dX5_readsText_71 : decode cX5_readsText 71 = .ok (.goto (-30), 3) := dk_167 255 226 (dk_at dksX5_readsText_3 0 rfl rfl)
theorem dX5_readsText_74 : decode cX5_readsText 74 = .ok (.aload_n 0, 1) := dk_42 (dk_at dksX5_readsText_3 3 rfl rfl)
theorem dX5_readsText_75 : decode cX5_readsText 75 = .ok (.invokevirtual 114, 3) := dk_182 0 114 (dk_at dksX5_readsText_3 4 rfl rfl)
theorem dX5_readsText_78 : decode cX5_readsText 78 = .ok (.ifCond .eq 18, 3) := dk_153 0 18 (dk_at dksX5_readsText_3 7 rfl rfl)
theorem dX5_readsText_81 : decode cX5_readsText 81 = .ok (.aload_n 0, 1) := dk_42 (dk_at dksX5_readsText_3 10 rfl rfl)
theorem dX5_readsText_82 : decode cX5_readsText 82 = .ok (.invokevirtual 107, 3) := dk_182 0 107 (dk_at dksX5_readsText_3 11 rfl rfl)
theorem dX5_readsText_85 : decode cX5_readsText 85 = .ok (.ifCond .lt 11, 3) := dk_155 0 11 (dk_at dksX5_readsText_3 14 rfl rfl)
theorem dX5_readsText_88 : decode cX5_readsText 88 = .ok (.aload_n 0, 1) := dk_42 (dk_at dksX5_readsText_3 17 rfl rfl)
theorem dX5_readsText_89 : decode cX5_readsText 89 = .ok (.aload_n 0, 1) := dk_42 (dk_at dksX5_readsText_3 18 rfl rfl)
theorem dX5_readsText_90 : decode cX5_readsText 90 = .ok (.getfield 101, 3) := dk_180 0 101 (dk_at dksX5_readsText_3 19 rfl rfl)
theorem dX5_readsText_93 : decode cX5_readsText 93 = .ok (.invokevirtual 152, 3) := dk_182 0 152 (dk_at dksX5_readsText_4 0 rfl rfl)
theorem dX5_readsText_96 : decode cX5_readsText 96 = .ok (.aload_n 0, 1) := dk_42 (dk_at dksX5_readsText_4 3 rfl rfl)
theorem dX5_readsText_97 : decode cX5_readsText 97 = .ok (.getfield 104, 3) := dk_180 0 104 (dk_at dksX5_readsText_4 4 rfl rfl)
theorem dX5_readsText_100 : decode cX5_readsText 100 = .ok (.ifCond .ge 7, 3) := dk_156 0 7 (dk_at dksX5_readsText_4 7 rfl rfl)
theorem dX5_readsText_103 : decode cX5_readsText 103 = .ok (.iconst (-1), 1) := dk_2 (dk_at dksX5_readsText_4 10 rfl rfl)
theorem dX5_readsText_104 : decode cX5_readsText 104 = .ok (.goto 7, 3) := dk_167 0 7 (dk_at dksX5_readsText_4 11 rfl rfl)
theorem dX5_readsText_107 : decode cX5_readsText 107 = .ok (.aload_n 0, 1) := dk_42 (dk_at dksX5_readsText_4 14 rfl rfl)
theorem dX5_readsText_108 : decode cX5_readsText 108 = .ok (.getfield 104, 3) := dk_180 0 104 (dk_at dksX5_readsText_4 15 rfl rfl)
theorem dX5_readsText_111 : decode cX5_readsText 111 = .ok (.ireturn, 1) := dk_172 (dk_at dksX5_readsText_4 18 rfl rfl)
abbrev cX5_readsStatement : ByteArray := prog_17_method_35_code
def yX5_readsStatement : MethodName := ⟨RX5, "readsStatement", "()V"⟩
def dkwX5_readsStatement_6 : List UInt8 := [28, 182, 0, 152, 177]
abbrev dktX5_readsStatement_6 : List UInt8 := dkwX5_readsStatement_6 ++ []
def dkwX5_readsStatement_5 : List UInt8 := [42, 182, 0, 208, 167, 0, 24, 42, 18, 147, 182, 0, 187, 153, 0, 10, 42, 182, 0, 211, 167, 0, 8, 42]
abbrev dktX5_readsStatement_5 : List UInt8 := dkwX5_readsStatement_5 ++ dktX5_readsStatement_6
def dkwX5_readsStatement_4 : List UInt8 := [18, 143, 182, 0, 187, 153, 0, 10, 42, 182, 0, 205, 167, 0, 40, 42, 18, 145, 182, 0, 187, 153, 0, 10]
abbrev dktX5_readsStatement_4 : List UInt8 := dkwX5_readsStatement_4 ++ dktX5_readsStatement_5
def dkwX5_readsStatement_3 : List UInt8 := [182, 0, 199, 167, 0, 72, 42, 18, 141, 182, 0, 187, 153, 0, 10, 42, 182, 0, 202, 167, 0, 56, 42]
abbrev dktX5_readsStatement_3 : List UInt8 := dkwX5_readsStatement_3 ++ dktX5_readsStatement_4
def dkwX5_readsStatement_2 : List UInt8 := [182, 0, 187, 153, 0, 10, 42, 182, 0, 196, 167, 0, 88, 42, 18, 139, 182, 0, 187, 153, 0, 10, 42]
abbrev dktX5_readsStatement_2 : List UInt8 := dkwX5_readsStatement_2 ++ dktX5_readsStatement_3
def dkwX5_readsStatement_1 : List UInt8 := [167, 0, 120, 42, 18, 135, 182, 0, 187, 153, 0, 10, 42, 182, 0, 193, 167, 0, 104, 42, 18, 137]
abbrev dktX5_readsStatement_1 : List UInt8 := dkwX5_readsStatement_1 ++ dktX5_readsStatement_2
def dkwX5_readsStatement_0 : List UInt8 := [42, 182, 0, 107, 60, 42, 180, 0, 101, 61, 42, 18, 133, 182, 0, 187, 153, 0, 10, 42, 182, 0, 190]
abbrev dktX5_readsStatement_0 : List UInt8 := dkwX5_readsStatement_0 ++ dktX5_readsStatement_1
theorem dksX5_readsStatement_0 : cX5_readsStatement.data.toList.drop 0 = dktX5_readsStatement_0 := by decide +kernel
theorem dksX5_readsStatement_1 : cX5_readsStatement.data.toList.drop 23 = dktX5_readsStatement_1 := dk_seg dksX5_readsStatement_0 23 rfl rfl
theorem dksX5_readsStatement_2 : cX5_readsStatement.data.toList.drop 45 = dktX5_readsStatement_2 := dk_seg dksX5_readsStatement_1 22 rfl rfl
theorem dksX5_readsStatement_3 : cX5_readsStatement.data.toList.drop 68 = dktX5_readsStatement_3 := dk_seg dksX5_readsStatement_2 23 rfl rfl
theorem dksX5_readsStatement_4 : cX5_readsStatement.data.toList.drop 91 = dktX5_readsStatement_4 := dk_seg dksX5_readsStatement_3 23 rfl rfl
theorem dksX5_readsStatement_5 : cX5_readsStatement.data.toList.drop 115 = dktX5_readsStatement_5 := dk_seg dksX5_readsStatement_4 24 rfl rfl
theorem dksX5_readsStatement_6 : cX5_readsStatement.data.toList.drop 139 = dktX5_readsStatement_6 := dk_seg dksX5_readsStatement_5 24 rfl rfl
theorem dX5_readsStatement_0 : decode cX5_readsStatement 0 = .ok (.aload_n 0, 1) := dk_42 (dk_at dksX5_readsStatement_0 0 rfl rfl)
theorem dX5_readsStatement_1 : decode cX5_readsStatement 1 = .ok (.invokevirtual 107, 3) := dk_182 0 107 (dk_at dksX5_readsStatement_0 1 rfl rfl)
theorem dX5_readsStatement_4 : decode cX5_readsStatement 4 = .ok (.istore_n 1, 1) := dk_60 (dk_at dksX5_readsStatement_0 4 rfl rfl)
theorem dX5_readsStatement_5 : decode cX5_readsStatement 5 = .ok (.aload_n 0, 1) := dk_42 (dk_at dksX5_readsStatement_0 5 rfl rfl)
theorem dX5_readsStatement_6 : decode cX5_readsStatement 6 = .ok (.getfield 101, 3) := dk_180 0 101 (dk_at dksX5_readsStatement_0 6 rfl rfl)
theorem dX5_readsStatement_9 : decode cX5_readsStatement 9 = .ok (.istore_n 2, 1) := dk_61 (dk_at dksX5_readsStatement_0 9 rfl rfl)
theorem dX5_readsStatement_10 : decode cX5_readsStatement 10 = .ok (.aload_n 0, 1) := dk_42 (dk_at dksX5_readsStatement_0 10 rfl rfl)
theorem dX5_readsStatement_11 : decode cX5_readsStatement 11 = .ok (.ldc 133, 2) := dk_18 133 (dk_at dksX5_readsStatement_0 11 rfl rfl)
theorem dX5_readsStatement_13 : decode cX5_readsStatement 13 = .ok (.invokevirtual 187, 3) := dk_182 0 187 (dk_at dksX5_readsStatement_0 13 rfl rfl)
theorem dX5_readsStatement_16 : decode cX5_readsStatement 16 = .ok (.ifCond .eq 10, 3) := dk_153 0 10 (dk_at dksX5_readsStatement_0 16 rfl rfl)
theorem dX5_readsStatement_19 : decode cX5_readsStatement 19 = .ok (.aload_n 0, 1) := dk_42 (dk_at dksX5_readsStatement_0 19 rfl rfl)
theorem dX5_readsStatement_20 : decode cX5_readsStatement 20 = .ok (.invokevirtual 190, 3) := dk_182 0 190 (dk_at dksX5_readsStatement_0 20 rfl rfl)
theorem dX5_readsStatement_23 : decode cX5_readsStatement 23 = .ok (.goto 120, 3) := dk_167 0 120 (dk_at dksX5_readsStatement_1 0 rfl rfl)
theorem dX5_readsStatement_26 : decode cX5_readsStatement 26 = .ok (.aload_n 0, 1) := dk_42 (dk_at dksX5_readsStatement_1 3 rfl rfl)
theorem dX5_readsStatement_27 : decode cX5_readsStatement 27 = .ok (.ldc 135, 2) := dk_18 135 (dk_at dksX5_readsStatement_1 4 rfl rfl)
theorem dX5_readsStatement_29 : decode cX5_readsStatement 29 = .ok (.invokevirtual 187, 3) := dk_182 0 187 (dk_at dksX5_readsStatement_1 6 rfl rfl)
theorem dX5_readsStatement_32 : decode cX5_readsStatement 32 = .ok (.ifCond .eq 10, 3) := dk_153 0 10 (dk_at dksX5_readsStatement_1 9 rfl rfl)
theorem dX5_readsStatement_35 : decode cX5_readsStatement 35 = .ok (.aload_n 0, 1) := dk_42 (dk_at dksX5_readsStatement_1 12 rfl rfl)
theorem dX5_readsStatement_36 : decode cX5_readsStatement 36 = .ok (.invokevirtual 193, 3) := dk_182 0 193 (dk_at dksX5_readsStatement_1 13 rfl rfl)
theorem dX5_readsStatement_39 : decode cX5_readsStatement 39 = .ok (.goto 104, 3) := dk_167 0 104 (dk_at dksX5_readsStatement_1 16 rfl rfl)
theorem dX5_readsStatement_42 : decode cX5_readsStatement 42 = .ok (.aload_n 0, 1) := dk_42 (dk_at dksX5_readsStatement_1 19 rfl rfl)
theorem dX5_readsStatement_43 : decode cX5_readsStatement 43 = .ok (.ldc 137, 2) := dk_18 137 (dk_at dksX5_readsStatement_1 20 rfl rfl)
theorem dX5_readsStatement_45 : decode cX5_readsStatement 45 = .ok (.invokevirtual 187, 3) := dk_182 0 187 (dk_at dksX5_readsStatement_2 0 rfl rfl)
theorem dX5_readsStatement_48 : decode cX5_readsStatement 48 = .ok (.ifCond .eq 10, 3) := dk_153 0 10 (dk_at dksX5_readsStatement_2 3 rfl rfl)
theorem dX5_readsStatement_51 : decode cX5_readsStatement 51 = .ok (.aload_n 0, 1) := dk_42 (dk_at dksX5_readsStatement_2 6 rfl rfl)
theorem dX5_readsStatement_52 : decode cX5_readsStatement 52 = .ok (.invokevirtual 196, 3) := dk_182 0 196 (dk_at dksX5_readsStatement_2 7 rfl rfl)
theorem dX5_readsStatement_55 : decode cX5_readsStatement 55 = .ok (.goto 88, 3) := dk_167 0 88 (dk_at dksX5_readsStatement_2 10 rfl rfl)
theorem dX5_readsStatement_58 : decode cX5_readsStatement 58 = .ok (.aload_n 0, 1) := dk_42 (dk_at dksX5_readsStatement_2 13 rfl rfl)
theorem dX5_readsStatement_59 : decode cX5_readsStatement 59 = .ok (.ldc 139, 2) := dk_18 139 (dk_at dksX5_readsStatement_2 14 rfl rfl)
theorem dX5_readsStatement_61 : decode cX5_readsStatement 61 = .ok (.invokevirtual 187, 3) := dk_182 0 187 (dk_at dksX5_readsStatement_2 16 rfl rfl)
theorem dX5_readsStatement_64 : decode cX5_readsStatement 64 = .ok (.ifCond .eq 10, 3) := dk_153 0 10 (dk_at dksX5_readsStatement_2 19 rfl rfl)
theorem dX5_readsStatement_67 : decode cX5_readsStatement 67 = .ok (.aload_n 0, 1) := dk_42 (dk_at dksX5_readsStatement_2 22 rfl rfl)
theorem dX5_readsStatement_68 : decode cX5_readsStatement 68 = .ok (.invokevirtual 199, 3) := dk_182 0 199 (dk_at dksX5_readsStatement_3 0 rfl rfl)
theorem dX5_readsStatement_71 : decode cX5_readsStatement 71 = .ok (.goto 72, 3) := dk_167 0 72 (dk_at dksX5_readsStatement_3 3 rfl rfl)
theorem dX5_readsStatement_74 : decode cX5_readsStatement 74 = .ok (.aload_n 0, 1) := dk_42 (dk_at dksX5_readsStatement_3 6 rfl rfl)
theorem dX5_readsStatement_75 : decode cX5_readsStatement 75 = .ok (.ldc 141, 2) := dk_18 141 (dk_at dksX5_readsStatement_3 7 rfl rfl)
theorem dX5_readsStatement_77 : decode cX5_readsStatement 77 = .ok (.invokevirtual 187, 3) := dk_182 0 187 (dk_at dksX5_readsStatement_3 9 rfl rfl)
theorem dX5_readsStatement_80 : decode cX5_readsStatement 80 = .ok (.ifCond .eq 10, 3) := dk_153 0 10 (dk_at dksX5_readsStatement_3 12 rfl rfl)
theorem dX5_readsStatement_83 : decode cX5_readsStatement 83 = .ok (.aload_n 0, 1) := dk_42 (dk_at dksX5_readsStatement_3 15 rfl rfl)
theorem dX5_readsStatement_84 : decode cX5_readsStatement 84 = .ok (.invokevirtual 202, 3) := dk_182 0 202 (dk_at dksX5_readsStatement_3 16 rfl rfl)
theorem dX5_readsStatement_87 : decode cX5_readsStatement 87 = .ok (.goto 56, 3) := dk_167 0 56 (dk_at dksX5_readsStatement_3 19 rfl rfl)
theorem dX5_readsStatement_90 : decode cX5_readsStatement 90 = .ok (.aload_n 0, 1) := dk_42 (dk_at dksX5_readsStatement_3 22 rfl rfl)
theorem dX5_readsStatement_91 : decode cX5_readsStatement 91 = .ok (.ldc 143, 2) := dk_18 143 (dk_at dksX5_readsStatement_4 0 rfl rfl)
theorem dX5_readsStatement_93 : decode cX5_readsStatement 93 = .ok (.invokevirtual 187, 3) := dk_182 0 187 (dk_at dksX5_readsStatement_4 2 rfl rfl)
theorem dX5_readsStatement_96 : decode cX5_readsStatement 96 = .ok (.ifCond .eq 10, 3) := dk_153 0 10 (dk_at dksX5_readsStatement_4 5 rfl rfl)
theorem dX5_readsStatement_99 : decode cX5_readsStatement 99 = .ok (.aload_n 0, 1) := dk_42 (dk_at dksX5_readsStatement_4 8 rfl rfl)
theorem dX5_readsStatement_100 : decode cX5_readsStatement 100 = .ok (.invokevirtual 205, 3) := dk_182 0 205 (dk_at dksX5_readsStatement_4 9 rfl rfl)
theorem dX5_readsStatement_103 : decode cX5_readsStatement 103 = .ok (.goto 40, 3) := dk_167 0 40 (dk_at dksX5_readsStatement_4 12 rfl rfl)
theorem dX5_readsStatement_106 : decode cX5_readsStatement 106 = .ok (.aload_n 0, 1) := dk_42 (dk_at dksX5_readsStatement_4 15 rfl rfl)
theorem dX5_readsStatement_107 : decode cX5_readsStatement 107 = .ok (.ldc 145, 2) := dk_18 145 (dk_at dksX5_readsStatement_4 16 rfl rfl)
theorem dX5_readsStatement_109 : decode cX5_readsStatement 109 = .ok (.invokevirtual 187, 3) := dk_182 0 187 (dk_at dksX5_readsStatement_4 18 rfl rfl)
theorem dX5_readsStatement_112 : decode cX5_readsStatement 112 = .ok (.ifCond .eq 10, 3) := dk_153 0 10 (dk_at dksX5_readsStatement_4 21 rfl rfl)
theorem dX5_readsStatement_115 : decode cX5_readsStatement 115 = .ok (.aload_n 0, 1) := dk_42 (dk_at dksX5_readsStatement_5 0 rfl rfl)
theorem dX5_readsStatement_116 : decode cX5_readsStatement 116 = .ok (.invokevirtual 208, 3) := dk_182 0 208 (dk_at dksX5_readsStatement_5 1 rfl rfl)
theorem dX5_readsStatement_119 : decode cX5_readsStatement 119 = .ok (.goto 24, 3) := dk_167 0 24 (dk_at dksX5_readsStatement_5 4 rfl rfl)
theorem dX5_readsStatement_122 : decode cX5_readsStatement 122 = .ok (.aload_n 0, 1) := dk_42 (dk_at dksX5_readsStatement_5 7 rfl rfl)
theorem dX5_readsStatement_123 : decode cX5_readsStatement 123 = .ok (.ldc 147, 2) := dk_18 147 (dk_at dksX5_readsStatement_5 8 rfl rfl)
theorem dX5_readsStatement_125 : decode cX5_readsStatement 125 = .ok (.invokevirtual 187, 3) := dk_182 0 187 (dk_at dksX5_readsStatement_5 10 rfl rfl)
theorem dX5_readsStatement_128 : decode cX5_readsStatement 128 = .ok (.ifCond .eq 10, 3) := dk_153 0 10 (dk_at dksX5_readsStatement_5 13 rfl rfl)
theorem dX5_readsStatement_131 : decode cX5_readsStatement 131 = .ok (.aload_n 0, 1) := dk_42 (dk_at dksX5_readsStatement_5 16 rfl rfl)
theorem dX5_readsStatement_132 : decode cX5_readsStatement 132 = .ok (.invokevirtual 211, 3) := dk_182 0 211 (dk_at dksX5_readsStatement_5 17 rfl rfl)
theorem dX5_readsStatement_135 : decode cX5_readsStatement 135 = .ok (.goto 8, 3) := dk_167 0 8 (dk_at dksX5_readsStatement_5 20 rfl rfl)
theorem dX5_readsStatement_138 : decode cX5_readsStatement 138 = .ok (.aload_n 0, 1) := dk_42 (dk_at dksX5_readsStatement_5 23 rfl rfl)
theorem dX5_readsStatement_139 : decode cX5_readsStatement 139 = .ok (.iload_n 2, 1) := dk_28 (dk_at dksX5_readsStatement_6 0 rfl rfl)
theorem dX5_readsStatement_140 : decode cX5_readsStatement 140 = .ok (.invokevirtual 152, 3) := dk_182 0 152 (dk_at dksX5_readsStatement_6 1 rfl rfl)
theorem dX5_readsStatement_143 : decode cX5_readsStatement 143 = .ok (.return_, 1) := dk_177 (dk_at dksX5_readsStatement_6 4 rfl rfl)
abbrev cX5_look : ByteArray := prog_17_method_12_code
def yX5_look : MethodName := ⟨RX5, "look", "()I"⟩
def dkwX5_look_1 : List UInt8 := [180, 0, 94, 181, 0, 101, 42, 182, 0, 97, 172]
abbrev dktX5_look_1 : List UInt8 := dkwX5_look_1 ++ []
def dkwX5_look_0 : List UInt8 := [42, 182, 0, 97, 16, 32, 160, 0, 16, 42, 89, 180, 0, 94, 4, 96, 181, 0, 94, 167, 255, 237, 42, 42]
abbrev dktX5_look_0 : List UInt8 := dkwX5_look_0 ++ dktX5_look_1
theorem dksX5_look_0 : cX5_look.data.toList.drop 0 = dktX5_look_0 := by decide +kernel
theorem dksX5_look_1 : cX5_look.data.toList.drop 24 = dktX5_look_1 := dk_seg dksX5_look_0 24 rfl rfl
theorem dX5_look_0 : decode cX5_look 0 = .ok (.aload_n 0, 1) := dk_42 (dk_at dksX5_look_0 0 rfl rfl)
theorem dX5_look_1 : decode cX5_look 1 = .ok (.invokevirtual 97, 3) := dk_182 0 97 (dk_at dksX5_look_0 1 rfl rfl)
theorem dX5_look_4 : decode cX5_look 4 = .ok (.bipush 32, 2) := dk_16 32 (dk_at dksX5_look_0 4 rfl rfl)
theorem dX5_look_6 : decode cX5_look 6 = .ok (.if_icmp .ne 16, 3) := dk_160 0 16 (dk_at dksX5_look_0 6 rfl rfl)
theorem dX5_look_9 : decode cX5_look 9 = .ok (.aload_n 0, 1) := dk_42 (dk_at dksX5_look_0 9 rfl rfl)
theorem dX5_look_10 : decode cX5_look 10 = .ok (.dup, 1) := dk_89 (dk_at dksX5_look_0 10 rfl rfl)
theorem dX5_look_11 : decode cX5_look 11 = .ok (.getfield 94, 3) := dk_180 0 94 (dk_at dksX5_look_0 11 rfl rfl)
theorem dX5_look_14 : decode cX5_look 14 = .ok (.iconst 1, 1) := dk_4 (dk_at dksX5_look_0 14 rfl rfl)
theorem dX5_look_15 : decode cX5_look 15 = .ok (.iadd, 1) := dk_96 (dk_at dksX5_look_0 15 rfl rfl)
theorem dX5_look_16 : decode cX5_look 16 = .ok (.putfield 94, 3) := dk_181 0 94 (dk_at dksX5_look_0 16 rfl rfl)
theorem dX5_look_19 : decode cX5_look 19 = .ok (.goto (-19), 3) := dk_167 255 237 (dk_at dksX5_look_0 19 rfl rfl)
theorem dX5_look_22 : decode cX5_look 22 = .ok (.aload_n 0, 1) := dk_42 (dk_at dksX5_look_0 22 rfl rfl)
theorem dX5_look_23 : decode cX5_look 23 = .ok (.aload_n 0, 1) := dk_42 (dk_at dksX5_look_0 23 rfl rfl)
theorem dX5_look_24 : decode cX5_look 24 = .ok (.getfield 94, 3) := dk_180 0 94 (dk_at dksX5_look_1 0 rfl rfl)
theorem dX5_look_27 : decode cX5_look 27 = .ok (.putfield 101, 3) := dk_181 0 101 (dk_at dksX5_look_1 3 rfl rfl)
theorem dX5_look_30 : decode cX5_look 30 = .ok (.aload_n 0, 1) := dk_42 (dk_at dksX5_look_1 6 rfl rfl)
theorem dX5_look_31 : decode cX5_look 31 = .ok (.invokevirtual 97, 3) := dk_182 0 97 (dk_at dksX5_look_1 7 rfl rfl)
theorem dX5_look_34 : decode cX5_look 34 = .ok (.ireturn, 1) := dk_172 (dk_at dksX5_look_1 10 rfl rfl)
abbrev cX5_here : ByteArray := prog_17_method_11_code
def yX5_here : MethodName := ⟨RX5, "here", "()I"⟩
def dkwX5_here_1 : List UInt8 := [167, 0, 4, 2, 172]
abbrev dktX5_here_1 : List UInt8 := dkwX5_here_1 ++ []
def dkwX5_here_0 : List UInt8 := [42, 180, 0, 94, 42, 180, 0, 76, 162, 0, 19, 42, 180, 0, 45, 42, 180, 0, 94, 51, 17, 0, 255, 126]
abbrev dktX5_here_0 : List UInt8 := dkwX5_here_0 ++ dktX5_here_1
theorem dksX5_here_0 : cX5_here.data.toList.drop 0 = dktX5_here_0 := by decide +kernel
theorem dksX5_here_1 : cX5_here.data.toList.drop 24 = dktX5_here_1 := dk_seg dksX5_here_0 24 rfl rfl
theorem dX5_here_0 : decode cX5_here 0 = .ok (.aload_n 0, 1) := dk_42 (dk_at dksX5_here_0 0 rfl rfl)
theorem dX5_here_1 : decode cX5_here 1 = .ok (.getfield 94, 3) := dk_180 0 94 (dk_at dksX5_here_0 1 rfl rfl)
theorem dX5_here_4 : decode cX5_here 4 = .ok (.aload_n 0, 1) := dk_42 (dk_at dksX5_here_0 4 rfl rfl)
theorem dX5_here_5 : decode cX5_here 5 = .ok (.getfield 76, 3) := dk_180 0 76 (dk_at dksX5_here_0 5 rfl rfl)
theorem dX5_here_8 : decode cX5_here 8 = .ok (.if_icmp .ge 19, 3) := dk_162 0 19 (dk_at dksX5_here_0 8 rfl rfl)
theorem dX5_here_11 : decode cX5_here 11 = .ok (.aload_n 0, 1) := dk_42 (dk_at dksX5_here_0 11 rfl rfl)
theorem dX5_here_12 : decode cX5_here 12 = .ok (.getfield 45, 3) := dk_180 0 45 (dk_at dksX5_here_0 12 rfl rfl)
theorem dX5_here_15 : decode cX5_here 15 = .ok (.aload_n 0, 1) := dk_42 (dk_at dksX5_here_0 15 rfl rfl)
theorem dX5_here_16 : decode cX5_here 16 = .ok (.getfield 94, 3) := dk_180 0 94 (dk_at dksX5_here_0 16 rfl rfl)
theorem dX5_here_19 : decode cX5_here 19 = .ok (.baload, 1) := dk_51 (dk_at dksX5_here_0 19 rfl rfl)
theorem dX5_here_20 : decode cX5_here 20 = .ok (.sipush 255, 3) := dk_17 0 255 (dk_at dksX5_here_0 20 rfl rfl)
theorem dX5_here_23 : decode cX5_here 23 = .ok (.iand, 1) := dk_126 (dk_at dksX5_here_0 23 rfl rfl)
theorem dX5_here_24 : decode cX5_here 24 = .ok (.goto 4, 3) := dk_167 0 4 (dk_at dksX5_here_1 0 rfl rfl)
theorem dX5_here_27 : decode cX5_here 27 = .ok (.iconst (-1), 1) := dk_2 (dk_at dksX5_here_1 3 rfl rfl)
theorem dX5_here_28 : decode cX5_here 28 = .ok (.ireturn, 1) := dk_172 (dk_at dksX5_here_1 4 rfl rfl)
abbrev cX5_takes : ByteArray := prog_17_method_19_code
def yX5_takes : MethodName := ⟨RX5, "takes", "(Ljava/lang/String;)Z"⟩
def dkwX5_takes_1 : List UInt8 := [181, 0, 94, 28, 172]
abbrev dktX5_takes_1 : List UInt8 := dkwX5_takes_1 ++ []
def dkwX5_takes_0 : List UInt8 := [42, 43, 182, 0, 129, 61, 42, 89, 180, 0, 94, 28, 153, 0, 10, 43, 182, 0, 121, 167, 0, 4, 3, 96]
abbrev dktX5_takes_0 : List UInt8 := dkwX5_takes_0 ++ dktX5_takes_1
theorem dksX5_takes_0 : cX5_takes.data.toList.drop 0 = dktX5_takes_0 := by decide +kernel
theorem dksX5_takes_1 : cX5_takes.data.toList.drop 24 = dktX5_takes_1 := dk_seg dksX5_takes_0 24 rfl rfl
theorem dX5_takes_0 : decode cX5_takes 0 = .ok (.aload_n 0, 1) := dk_42 (dk_at dksX5_takes_0 0 rfl rfl)
theorem dX5_takes_1 : decode cX5_takes 1 = .ok (.aload_n 1, 1) := dk_43 (dk_at dksX5_takes_0 1 rfl rfl)
theorem dX5_takes_2 : decode cX5_takes 2 = .ok (.invokevirtual 129, 3) := dk_182 0 129 (dk_at dksX5_takes_0 2 rfl rfl)
theorem dX5_takes_5 : decode cX5_takes 5 = .ok (.istore_n 2, 1) := dk_61 (dk_at dksX5_takes_0 5 rfl rfl)
theorem dX5_takes_6 : decode cX5_takes 6 = .ok (.aload_n 0, 1) := dk_42 (dk_at dksX5_takes_0 6 rfl rfl)
theorem dX5_takes_7 : decode cX5_takes 7 = .ok (.dup, 1) := dk_89 (dk_at dksX5_takes_0 7 rfl rfl)
theorem dX5_takes_8 : decode cX5_takes 8 = .ok (.getfield 94, 3) := dk_180 0 94 (dk_at dksX5_takes_0 8 rfl rfl)
theorem dX5_takes_11 : decode cX5_takes 11 = .ok (.iload_n 2, 1) := dk_28 (dk_at dksX5_takes_0 11 rfl rfl)
theorem dX5_takes_12 : decode cX5_takes 12 = .ok (.ifCond .eq 10, 3) := dk_153 0 10 (dk_at dksX5_takes_0 12 rfl rfl)
theorem dX5_takes_15 : decode cX5_takes 15 = .ok (.aload_n 1, 1) := dk_43 (dk_at dksX5_takes_0 15 rfl rfl)
theorem dX5_takes_16 : decode cX5_takes 16 = .ok (.invokevirtual 121, 3) := dk_182 0 121 (dk_at dksX5_takes_0 16 rfl rfl)
theorem dX5_takes_19 : decode cX5_takes 19 = .ok (.goto 4, 3) := dk_167 0 4 (dk_at dksX5_takes_0 19 rfl rfl)
theorem dX5_takes_22 : decode cX5_takes 22 = .ok (.iconst 0, 1) := dk_3 (dk_at dksX5_takes_0 22 rfl rfl)
theorem dX5_takes_23 : decode cX5_takes 23 = .ok (.iadd, 1) := dk_96 (dk_at dksX5_takes_0 23 rfl rfl)
theorem dX5_takes_24 : decode cX5_takes 24 = .ok (.putfield 94, 3) := dk_181 0 94 (dk_at dksX5_takes_1 0 rfl rfl)
theorem dX5_takes_27 : decode cX5_takes 27 = .ok (.iload_n 2, 1) := dk_28 (dk_at dksX5_takes_1 3 rfl rfl)
theorem dX5_takes_28 : decode cX5_takes 28 = .ok (.ireturn, 1) := dk_172 (dk_at dksX5_takes_1 4 rfl rfl)
abbrev cX5_isWord : ByteArray := prog_17_method_18_code
def yX5_isWord : MethodName := ⟨RX5, "isWord", "(Ljava/lang/String;)Z"⟩
def dkwX5_isWord_2 : List UInt8 := [159, 0, 5, 3, 172, 132, 2, 1, 167, 255, 224, 4, 172]
abbrev dktX5_isWord_2 : List UInt8 := dkwX5_isWord_2 ++ []
def dkwX5_isWord_1 : List UInt8 := [182, 0, 121, 162, 0, 30, 42, 180, 0, 45, 42, 180, 0, 94, 28, 96, 51, 43, 28, 182, 0, 125]
abbrev dktX5_isWord_1 : List UInt8 := dkwX5_isWord_1 ++ dktX5_isWord_2
def dkwX5_isWord_0 : List UInt8 := [42, 182, 0, 114, 153, 0, 14, 42, 182, 0, 118, 43, 182, 0, 121, 159, 0, 5, 3, 172, 3, 61, 28, 43]
abbrev dktX5_isWord_0 : List UInt8 := dkwX5_isWord_0 ++ dktX5_isWord_1
theorem dksX5_isWord_0 : cX5_isWord.data.toList.drop 0 = dktX5_isWord_0 := by decide +kernel
theorem dksX5_isWord_1 : cX5_isWord.data.toList.drop 24 = dktX5_isWord_1 := dk_seg dksX5_isWord_0 24 rfl rfl
theorem dksX5_isWord_2 : cX5_isWord.data.toList.drop 46 = dktX5_isWord_2 := dk_seg dksX5_isWord_1 22 rfl rfl
theorem dX5_isWord_0 : decode cX5_isWord 0 = .ok (.aload_n 0, 1) := dk_42 (dk_at dksX5_isWord_0 0 rfl rfl)
theorem dX5_isWord_1 : decode cX5_isWord 1 = .ok (.invokevirtual 114, 3) := dk_182 0 114 (dk_at dksX5_isWord_0 1 rfl rfl)
theorem dX5_isWord_4 : decode cX5_isWord 4 = .ok (.ifCond .eq 14, 3) := dk_153 0 14 (dk_at dksX5_isWord_0 4 rfl rfl)
theorem dX5_isWord_7 : decode cX5_isWord 7 = .ok (.aload_n 0, 1) := dk_42 (dk_at dksX5_isWord_0 7 rfl rfl)
theorem dX5_isWord_8 : decode cX5_isWord 8 = .ok (.invokevirtual 118, 3) := dk_182 0 118 (dk_at dksX5_isWord_0 8 rfl rfl)
theorem dX5_isWord_11 : decode cX5_isWord 11 = .ok (.aload_n 1, 1) := dk_43 (dk_at dksX5_isWord_0 11 rfl rfl)
theorem dX5_isWord_12 : decode cX5_isWord 12 = .ok (.invokevirtual 121, 3) := dk_182 0 121 (dk_at dksX5_isWord_0 12 rfl rfl)
theorem dX5_isWord_15 : decode cX5_isWord 15 = .ok (.if_icmp .eq 5, 3) := dk_159 0 5 (dk_at dksX5_isWord_0 15 rfl rfl)
theorem dX5_isWord_18 : decode cX5_isWord 18 = .ok (.iconst 0, 1) := dk_3 (dk_at dksX5_isWord_0 18 rfl rfl)
theorem dX5_isWord_19 : decode cX5_isWord 19 = .ok (.ireturn, 1) := dk_172 (dk_at dksX5_isWord_0 19 rfl rfl)
theorem dX5_isWord_20 : decode cX5_isWord 20 = .ok (.iconst 0, 1) := dk_3 (dk_at dksX5_isWord_0 20 rfl rfl)
theorem dX5_isWord_21 : decode cX5_isWord 21 = .ok (.istore_n 2, 1) := dk_61 (dk_at dksX5_isWord_0 21 rfl rfl)
theorem dX5_isWord_22 : decode cX5_isWord 22 = .ok (.iload_n 2, 1) := dk_28 (dk_at dksX5_isWord_0 22 rfl rfl)
theorem dX5_isWord_23 : decode cX5_isWord 23 = .ok (.aload_n 1, 1) := dk_43 (dk_at dksX5_isWord_0 23 rfl rfl)
theorem dX5_isWord_24 : decode cX5_isWord 24 = .ok (.invokevirtual 121, 3) := dk_182 0 121 (dk_at dksX5_isWord_1 0 rfl rfl)
theorem dX5_isWord_27 : decode cX5_isWord 27 = .ok (.if_icmp .ge 30, 3) := dk_162 0 30 (dk_at dksX5_isWord_1 3 rfl rfl)
theorem dX5_isWord_30 : decode cX5_isWord 30 = .ok (.aload_n 0, 1) := dk_42 (dk_at dksX5_isWord_1 6 rfl rfl)
theorem dX5_isWord_31 : decode cX5_isWord 31 = .ok (.getfield 45, 3) := dk_180 0 45 (dk_at dksX5_isWord_1 7 rfl rfl)
theorem dX5_isWord_34 : decode cX5_isWord 34 = .ok (.aload_n 0, 1) := dk_42 (dk_at dksX5_isWord_1 10 rfl rfl)
theorem dX5_isWord_35 : decode cX5_isWord 35 = .ok (.getfield 94, 3) := dk_180 0 94 (dk_at dksX5_isWord_1 11 rfl rfl)
theorem dX5_isWord_38 : decode cX5_isWord 38 = .ok (.iload_n 2, 1) := dk_28 (dk_at dksX5_isWord_1 14 rfl rfl)
theorem dX5_isWord_39 : decode cX5_isWord 39 = .ok (.iadd, 1) := dk_96 (dk_at dksX5_isWord_1 15 rfl rfl)
theorem dX5_isWord_40 : decode cX5_isWord 40 = .ok (.baload, 1) := dk_51 (dk_at dksX5_isWord_1 16 rfl rfl)
theorem dX5_isWord_41 : decode cX5_isWord 41 = .ok (.aload_n 1, 1) := dk_43 (dk_at dksX5_isWord_1 17 rfl rfl)
theorem dX5_isWord_42 : decode cX5_isWord 42 = .ok (.iload_n 2, 1) := dk_28 (dk_at dksX5_isWord_1 18 rfl rfl)
theorem dX5_isWord_43 : decode cX5_isWord 43 = .ok (.invokevirtual 125, 3) := dk_182 0 125 (dk_at dksX5_isWord_1 19 rfl rfl)
theorem dX5_isWord_46 : decode cX5_isWord 46 = .ok (.if_icmp .eq 5, 3) := dk_159 0 5 (dk_at dksX5_isWord_2 0 rfl rfl)
theorem dX5_isWord_49 : decode cX5_isWord 49 = .ok (.iconst 0, 1) := dk_3 (dk_at dksX5_isWord_2 3 rfl rfl)
theorem dX5_isWord_50 : decode cX5_isWord 50 = .ok (.ireturn, 1) := dk_172 (dk_at dksX5_isWord_2 4 rfl rfl)
theorem dX5_isWord_51 : decode cX5_isWord 51 = .ok (.iinc 2 1, 3) := dk_132 2 1 (dk_at dksX5_isWord_2 5 rfl rfl)
theorem dX5_isWord_54 : decode cX5_isWord 54 = .ok (.goto (-32), 3) := dk_167 255 224 (dk_at dksX5_isWord_2 8 rfl rfl)
theorem dX5_isWord_57 : decode cX5_isWord 57 = .ok (.iconst 1, 1) := dk_4 (dk_at dksX5_isWord_2 11 rfl rfl)
theorem dX5_isWord_58 : decode cX5_isWord 58 = .ok (.ireturn, 1) := dk_172 (dk_at dksX5_isWord_2 12 rfl rfl)
abbrev cX5_isFine : ByteArray := prog_17_method_14_code
def yX5_isFine : MethodName := ⟨RX5, "isFine", "()Z"⟩
def dkwX5_isFine_0 : List UInt8 := [42, 180, 0, 104, 156, 0, 7, 4, 167, 0, 4, 3, 172]
abbrev dktX5_isFine_0 : List UInt8 := dkwX5_isFine_0 ++ []
theorem dksX5_isFine_0 : cX5_isFine.data.toList.drop 0 = dktX5_isFine_0 := by decide +kernel
theorem dX5_isFine_0 : decode cX5_isFine 0 = .ok (.aload_n 0, 1) := dk_42 (dk_at dksX5_isFine_0 0 rfl rfl)
theorem dX5_isFine_1 : decode cX5_isFine 1 = .ok (.getfield 104, 3) := dk_180 0 104 (dk_at dksX5_isFine_0 1 rfl rfl)
theorem dX5_isFine_4 : decode cX5_isFine 4 = .ok (.ifCond .ge 7, 3) := dk_156 0 7 (dk_at dksX5_isFine_0 4 rfl rfl)
theorem dX5_isFine_7 : decode cX5_isFine 7 = .ok (.iconst 1, 1) := dk_4 (dk_at dksX5_isFine_0 7 rfl rfl)
theorem dX5_isFine_8 : decode cX5_isFine 8 = .ok (.goto 4, 3) := dk_167 0 4 (dk_at dksX5_isFine_0 8 rfl rfl)
theorem dX5_isFine_11 : decode cX5_isFine 11 = .ok (.iconst 0, 1) := dk_3 (dk_at dksX5_isFine_0 11 rfl rfl)
theorem dX5_isFine_12 : decode cX5_isFine 12 = .ok (.ireturn, 1) := dk_172 (dk_at dksX5_isFine_0 12 rfl rfl)
abbrev cX5_wordLength : ByteArray := prog_17_method_17_code
def yX5_wordLength : MethodName := ⟨RX5, "wordLength", "()I"⟩
def dkwX5_wordLength_1 : List UInt8 := [184, 0, 110, 153, 0, 9, 132, 2, 1, 167, 255, 233, 28, 42, 180, 0, 94, 100, 172]
abbrev dktX5_wordLength_1 : List UInt8 := dkwX5_wordLength_1 ++ []
def dkwX5_wordLength_0 : List UInt8 := [42, 182, 0, 107, 60, 42, 180, 0, 94, 61, 28, 42, 180, 0, 76, 162, 0, 21, 42, 180, 0, 45, 28, 51]
abbrev dktX5_wordLength_0 : List UInt8 := dkwX5_wordLength_0 ++ dktX5_wordLength_1
theorem dksX5_wordLength_0 : cX5_wordLength.data.toList.drop 0 = dktX5_wordLength_0 := by decide +kernel
theorem dksX5_wordLength_1 : cX5_wordLength.data.toList.drop 24 = dktX5_wordLength_1 := dk_seg dksX5_wordLength_0 24 rfl rfl
theorem dX5_wordLength_0 : decode cX5_wordLength 0 = .ok (.aload_n 0, 1) := dk_42 (dk_at dksX5_wordLength_0 0 rfl rfl)
theorem dX5_wordLength_1 : decode cX5_wordLength 1 = .ok (.invokevirtual 107, 3) := dk_182 0 107 (dk_at dksX5_wordLength_0 1 rfl rfl)
theorem dX5_wordLength_4 : decode cX5_wordLength 4 = .ok (.istore_n 1, 1) := dk_60 (dk_at dksX5_wordLength_0 4 rfl rfl)
theorem dX5_wordLength_5 : decode cX5_wordLength 5 = .ok (.aload_n 0, 1) := dk_42 (dk_at dksX5_wordLength_0 5 rfl rfl)
theorem dX5_wordLength_6 : decode cX5_wordLength 6 = .ok (.getfield 94, 3) := dk_180 0 94 (dk_at dksX5_wordLength_0 6 rfl rfl)
theorem dX5_wordLength_9 : decode cX5_wordLength 9 = .ok (.istore_n 2, 1) := dk_61 (dk_at dksX5_wordLength_0 9 rfl rfl)
theorem dX5_wordLength_10 : decode cX5_wordLength 10 = .ok (.iload_n 2, 1) := dk_28 (dk_at dksX5_wordLength_0 10 rfl rfl)
theorem dX5_wordLength_11 : decode cX5_wordLength 11 = .ok (.aload_n 0, 1) := dk_42 (dk_at dksX5_wordLength_0 11 rfl rfl)
theorem dX5_wordLength_12 : decode cX5_wordLength 12 = .ok (.getfield 76, 3) := dk_180 0 76 (dk_at dksX5_wordLength_0 12 rfl rfl)
theorem dX5_wordLength_15 : decode cX5_wordLength 15 = .ok (.if_icmp .ge 21, 3) := dk_162 0 21 (dk_at dksX5_wordLength_0 15 rfl rfl)
theorem dX5_wordLength_18 : decode cX5_wordLength 18 = .ok (.aload_n 0, 1) := dk_42 (dk_at dksX5_wordLength_0 18 rfl rfl)
theorem dX5_wordLength_19 : decode cX5_wordLength 19 = .ok (.getfield 45, 3) := dk_180 0 45 (dk_at dksX5_wordLength_0 19 rfl rfl)
theorem dX5_wordLength_22 : decode cX5_wordLength 22 = .ok (.iload_n 2, 1) := dk_28 (dk_at dksX5_wordLength_0 22 rfl rfl)
theorem dX5_wordLength_23 : decode cX5_wordLength 23 = .ok (.baload, 1) := dk_51 (dk_at dksX5_wordLength_0 23 rfl rfl)
theorem dX5_wordLength_24 : decode cX5_wordLength 24 = .ok (.invokestatic 110, 3) := dk_184 0 110 (dk_at dksX5_wordLength_1 0 rfl rfl)
theorem dX5_wordLength_27 : decode cX5_wordLength 27 = .ok (.ifCond .eq 9, 3) := dk_153 0 9 (dk_at dksX5_wordLength_1 3 rfl rfl)
theorem dX5_wordLength_30 : decode cX5_wordLength 30 = .ok (.iinc 2 1, 3) := dk_132 2 1 (dk_at dksX5_wordLength_1 6 rfl rfl)
theorem dX5_wordLength_33 : decode cX5_wordLength 33 = .ok (.goto (-23), 3) := dk_167 255 233 (dk_at dksX5_wordLength_1 9 rfl rfl)
theorem dX5_wordLength_36 : decode cX5_wordLength 36 = .ok (.iload_n 2, 1) := dk_28 (dk_at dksX5_wordLength_1 12 rfl rfl)
theorem dX5_wordLength_37 : decode cX5_wordLength 37 = .ok (.aload_n 0, 1) := dk_42 (dk_at dksX5_wordLength_1 13 rfl rfl)
theorem dX5_wordLength_38 : decode cX5_wordLength 38 = .ok (.getfield 94, 3) := dk_180 0 94 (dk_at dksX5_wordLength_1 14 rfl rfl)
theorem dX5_wordLength_41 : decode cX5_wordLength 41 = .ok (.isub, 1) := dk_100 (dk_at dksX5_wordLength_1 17 rfl rfl)
theorem dX5_wordLength_42 : decode cX5_wordLength 42 = .ok (.ireturn, 1) := dk_172 (dk_at dksX5_wordLength_1 18 rfl rfl)
abbrev cX5_isLetter : ByteArray := prog_17_method_15_code
def yX5_isLetter : MethodName := ⟨RX5, "isLetter", "(I)Z"⟩
def dkwX5_isLetter_0 : List UInt8 := [26, 16, 97, 161, 0, 13, 26, 16, 122, 163, 0, 7, 4, 167, 0, 4, 3, 172]
abbrev dktX5_isLetter_0 : List UInt8 := dkwX5_isLetter_0 ++ []
theorem dksX5_isLetter_0 : cX5_isLetter.data.toList.drop 0 = dktX5_isLetter_0 := by decide +kernel
theorem dX5_isLetter_0 : decode cX5_isLetter 0 = .ok (.iload_n 0, 1) := dk_26 (dk_at dksX5_isLetter_0 0 rfl rfl)
theorem dX5_isLetter_1 : decode cX5_isLetter 1 = .ok (.bipush 97, 2) := dk_16 97 (dk_at dksX5_isLetter_0 1 rfl rfl)
theorem dX5_isLetter_3 : decode cX5_isLetter 3 = .ok (.if_icmp .lt 13, 3) := dk_161 0 13 (dk_at dksX5_isLetter_0 3 rfl rfl)
theorem dX5_isLetter_6 : decode cX5_isLetter 6 = .ok (.iload_n 0, 1) := dk_26 (dk_at dksX5_isLetter_0 6 rfl rfl)
theorem dX5_isLetter_7 : decode cX5_isLetter 7 = .ok (.bipush 122, 2) := dk_16 122 (dk_at dksX5_isLetter_0 7 rfl rfl)
theorem dX5_isLetter_9 : decode cX5_isLetter 9 = .ok (.if_icmp .gt 7, 3) := dk_163 0 7 (dk_at dksX5_isLetter_0 9 rfl rfl)
theorem dX5_isLetter_12 : decode cX5_isLetter 12 = .ok (.iconst 1, 1) := dk_4 (dk_at dksX5_isLetter_0 12 rfl rfl)
theorem dX5_isLetter_13 : decode cX5_isLetter 13 = .ok (.goto 4, 3) := dk_167 0 4 (dk_at dksX5_isLetter_0 13 rfl rfl)
theorem dX5_isLetter_16 : decode cX5_isLetter 16 = .ok (.iconst 0, 1) := dk_3 (dk_at dksX5_isLetter_0 16 rfl rfl)
theorem dX5_isLetter_17 : decode cX5_isLetter 17 = .ok (.ireturn, 1) := dk_172 (dk_at dksX5_isLetter_0 17 rfl rfl)
abbrev cX5_readsHall : ByteArray := prog_17_method_27_code
def yX5_readsHall : MethodName := ⟨RX5, "readsHall", "()V"⟩
def dkwX5_readsHall_4 : List UInt8 := [180, 0, 17, 3, 92, 46, 4, 96, 79, 177]
abbrev dktX5_readsHall_4 : List UInt8 := dkwX5_readsHall_4 ++ []
def dkwX5_readsHall_3 : List UInt8 := [96, 17, 5, 160, 16, 15, 182, 0, 174, 42, 16, 26, 27, 96, 3, 17, 3, 232, 4, 182, 0, 174, 42]
abbrev dktX5_readsHall_3 : List UInt8 := dkwX5_readsHall_3 ++ dktX5_readsHall_4
def dkwX5_readsHall_2 : List UInt8 := [17, 5, 145, 16, 15, 182, 0, 174, 42, 16, 20, 27, 96, 42, 180, 0, 17, 16, 14, 27, 96, 46, 16, 15]
abbrev dktX5_readsHall_2 : List UInt8 := dkwX5_readsHall_2 ++ dktX5_readsHall_3
def dkwX5_readsHall_1 : List UInt8 := [3, 46, 60, 42, 16, 8, 27, 96, 4, 17, 7, 208, 4, 182, 0, 174, 42, 16, 14, 27, 96, 3]
abbrev dktX5_readsHall_1 : List UInt8 := dkwX5_readsHall_1 ++ dktX5_readsHall_2
def dkwX5_readsHall_0 : List UInt8 := [42, 3, 16, 6, 182, 0, 167, 42, 3, 182, 0, 171, 42, 182, 0, 114, 154, 0, 4, 177, 42, 180, 0, 17]
abbrev dktX5_readsHall_0 : List UInt8 := dkwX5_readsHall_0 ++ dktX5_readsHall_1
theorem dksX5_readsHall_0 : cX5_readsHall.data.toList.drop 0 = dktX5_readsHall_0 := by decide +kernel
theorem dksX5_readsHall_1 : cX5_readsHall.data.toList.drop 24 = dktX5_readsHall_1 := dk_seg dksX5_readsHall_0 24 rfl rfl
theorem dksX5_readsHall_2 : cX5_readsHall.data.toList.drop 46 = dktX5_readsHall_2 := dk_seg dksX5_readsHall_1 22 rfl rfl
theorem dksX5_readsHall_3 : cX5_readsHall.data.toList.drop 70 = dktX5_readsHall_3 := dk_seg dksX5_readsHall_2 24 rfl rfl
theorem dksX5_readsHall_4 : cX5_readsHall.data.toList.drop 93 = dktX5_readsHall_4 := dk_seg dksX5_readsHall_3 23 rfl rfl
theorem dX5_readsHall_0 : decode cX5_readsHall 0 = .ok (.aload_n 0, 1) := dk_42 (dk_at dksX5_readsHall_0 0 rfl rfl)
theorem dX5_readsHall_1 : decode cX5_readsHall 1 = .ok (.iconst 0, 1) := dk_3 (dk_at dksX5_readsHall_0 1 rfl rfl)
theorem dX5_readsHall_2 : decode cX5_readsHall 2 = .ok (.bipush 6, 2) := dk_16 6 (dk_at dksX5_readsHall_0 2 rfl rfl)
theorem dX5_readsHall_4 : decode cX5_readsHall 4 = .ok (.invokevirtual 167, 3) := dk_182 0 167 (dk_at dksX5_readsHall_0 4 rfl rfl)
theorem dX5_readsHall_7 : decode cX5_readsHall 7 = .ok (.aload_n 0, 1) := dk_42 (dk_at dksX5_readsHall_0 7 rfl rfl)
theorem dX5_readsHall_8 : decode cX5_readsHall 8 = .ok (.iconst 0, 1) := dk_3 (dk_at dksX5_readsHall_0 8 rfl rfl)
theorem dX5_readsHall_9 : decode cX5_readsHall 9 = .ok (.invokevirtual 171, 3) := dk_182 0 171 (dk_at dksX5_readsHall_0 9 rfl rfl)
theorem dX5_readsHall_12 : decode cX5_readsHall 12 = .ok (.aload_n 0, 1) := dk_42 (dk_at dksX5_readsHall_0 12 rfl rfl)
theorem dX5_readsHall_13 : decode cX5_readsHall 13 = .ok (.invokevirtual 114, 3) := dk_182 0 114 (dk_at dksX5_readsHall_0 13 rfl rfl)
theorem dX5_readsHall_16 : decode cX5_readsHall 16 = .ok (.ifCond .ne 4, 3) := dk_154 0 4 (dk_at dksX5_readsHall_0 16 rfl rfl)
theorem dX5_readsHall_19 : decode cX5_readsHall 19 = .ok (.return_, 1) := dk_177 (dk_at dksX5_readsHall_0 19 rfl rfl)
theorem dX5_readsHall_20 : decode cX5_readsHall 20 = .ok (.aload_n 0, 1) := dk_42 (dk_at dksX5_readsHall_0 20 rfl rfl)
theorem dX5_readsHall_21 : decode cX5_readsHall 21 = .ok (.getfield 17, 3) := dk_180 0 17 (dk_at dksX5_readsHall_0 21 rfl rfl)
theorem dX5_readsHall_24 : decode cX5_readsHall 24 = .ok (.iconst 0, 1) := dk_3 (dk_at dksX5_readsHall_1 0 rfl rfl)
theorem dX5_readsHall_25 : decode cX5_readsHall 25 = .ok (.iaload, 1) := dk_46 (dk_at dksX5_readsHall_1 1 rfl rfl)
theorem dX5_readsHall_26 : decode cX5_readsHall 26 = .ok (.istore_n 1, 1) := dk_60 (dk_at dksX5_readsHall_1 2 rfl rfl)
theorem dX5_readsHall_27 : decode cX5_readsHall 27 = .ok (.aload_n 0, 1) := dk_42 (dk_at dksX5_readsHall_1 3 rfl rfl)
theorem dX5_readsHall_28 : decode cX5_readsHall 28 = .ok (.bipush 8, 2) := dk_16 8 (dk_at dksX5_readsHall_1 4 rfl rfl)
theorem dX5_readsHall_30 : decode cX5_readsHall 30 = .ok (.iload_n 1, 1) := dk_27 (dk_at dksX5_readsHall_1 6 rfl rfl)
theorem dX5_readsHall_31 : decode cX5_readsHall 31 = .ok (.iadd, 1) := dk_96 (dk_at dksX5_readsHall_1 7 rfl rfl)
theorem dX5_readsHall_32 : decode cX5_readsHall 32 = .ok (.iconst 1, 1) := dk_4 (dk_at dksX5_readsHall_1 8 rfl rfl)
theorem dX5_readsHall_33 : decode cX5_readsHall 33 = .ok (.sipush 2000, 3) := dk_17 7 208 (dk_at dksX5_readsHall_1 9 rfl rfl)
theorem dX5_readsHall_36 : decode cX5_readsHall 36 = .ok (.iconst 1, 1) := dk_4 (dk_at dksX5_readsHall_1 12 rfl rfl)
theorem dX5_readsHall_37 : decode cX5_readsHall 37 = .ok (.invokevirtual 174, 3) := dk_182 0 174 (dk_at dksX5_readsHall_1 13 rfl rfl)
theorem dX5_readsHall_40 : decode cX5_readsHall 40 = .ok (.aload_n 0, 1) := dk_42 (dk_at dksX5_readsHall_1 16 rfl rfl)
theorem dX5_readsHall_41 : decode cX5_readsHall 41 = .ok (.bipush 14, 2) := dk_16 14 (dk_at dksX5_readsHall_1 17 rfl rfl)
theorem dX5_readsHall_43 : decode cX5_readsHall 43 = .ok (.iload_n 1, 1) := dk_27 (dk_at dksX5_readsHall_1 19 rfl rfl)
theorem dX5_readsHall_44 : decode cX5_readsHall 44 = .ok (.iadd, 1) := dk_96 (dk_at dksX5_readsHall_1 20 rfl rfl)
theorem dX5_readsHall_45 : decode cX5_readsHall 45 = .ok (.iconst 0, 1) := dk_3 (dk_at dksX5_readsHall_1 21 rfl rfl)
theorem dX5_readsHall_46 : decode cX5_readsHall 46 = .ok (.sipush 1425, 3) := dk_17 5 145 (dk_at dksX5_readsHall_2 0 rfl rfl)
theorem dX5_readsHall_49 : decode cX5_readsHall 49 = .ok (.bipush 15, 2) := dk_16 15 (dk_at dksX5_readsHall_2 3 rfl rfl)
theorem dX5_readsHall_51 : decode cX5_readsHall 51 = .ok (.invokevirtual 174, 3) := dk_182 0 174 (dk_at dksX5_readsHall_2 5 rfl rfl)
theorem dX5_readsHall_54 : decode cX5_readsHall 54 = .ok (.aload_n 0, 1) := dk_42 (dk_at dksX5_readsHall_2 8 rfl rfl)
theorem dX5_readsHall_55 : decode cX5_readsHall 55 = .ok (.bipush 20, 2) := dk_16 20 (dk_at dksX5_readsHall_2 9 rfl rfl)
theorem dX5_readsHall_57 : decode cX5_readsHall 57 = .ok (.iload_n 1, 1) := dk_27 (dk_at dksX5_readsHall_2 11 rfl rfl)
theorem dX5_readsHall_58 : decode cX5_readsHall 58 = .ok (.iadd, 1) := dk_96 (dk_at dksX5_readsHall_2 12 rfl rfl)
theorem dX5_readsHall_59 : decode cX5_readsHall 59 = .ok (.aload_n 0, 1) := dk_42 (dk_at dksX5_readsHall_2 13 rfl rfl)
theorem dX5_readsHall_60 : decode cX5_readsHall 60 = .ok (.getfield 17, 3) := dk_180 0 17 (dk_at dksX5_readsHall_2 14 rfl rfl)
theorem dX5_readsHall_63 : decode cX5_readsHall 63 = .ok (.bipush 14, 2) := dk_16 14 (dk_at dksX5_readsHall_2 17 rfl rfl)
theorem dX5_readsHall_65 : decode cX5_readsHall 65 = .ok (.iload_n 1, 1) := dk_27 (dk_at dksX5_readsHall_2 19 rfl rfl)
theorem dX5_readsHall_66 : decode cX5_readsHall 66 = .ok (.iadd, 1) := dk_96 (dk_at dksX5_readsHall_2 20 rfl rfl)
theorem dX5_readsHall_67 : decode cX5_readsHall 67 = .ok (.iaload, 1) := dk_46 (dk_at dksX5_readsHall_2 21 rfl rfl)
theorem dX5_readsHall_68 : decode cX5_readsHall 68 = .ok (.bipush 15, 2) := dk_16 15 (dk_at dksX5_readsHall_2 22 rfl rfl)
theorem dX5_readsHall_70 : decode cX5_readsHall 70 = .ok (.iadd, 1) := dk_96 (dk_at dksX5_readsHall_3 0 rfl rfl)
theorem dX5_readsHall_71 : decode cX5_readsHall 71 = .ok (.sipush 1440, 3) := dk_17 5 160 (dk_at dksX5_readsHall_3 1 rfl rfl)
theorem dX5_readsHall_74 : decode cX5_readsHall 74 = .ok (.bipush 15, 2) := dk_16 15 (dk_at dksX5_readsHall_3 4 rfl rfl)
theorem dX5_readsHall_76 : decode cX5_readsHall 76 = .ok (.invokevirtual 174, 3) := dk_182 0 174 (dk_at dksX5_readsHall_3 6 rfl rfl)
theorem dX5_readsHall_79 : decode cX5_readsHall 79 = .ok (.aload_n 0, 1) := dk_42 (dk_at dksX5_readsHall_3 9 rfl rfl)
theorem dX5_readsHall_80 : decode cX5_readsHall 80 = .ok (.bipush 26, 2) := dk_16 26 (dk_at dksX5_readsHall_3 10 rfl rfl)
theorem dX5_readsHall_82 : decode cX5_readsHall 82 = .ok (.iload_n 1, 1) := dk_27 (dk_at dksX5_readsHall_3 12 rfl rfl)
theorem dX5_readsHall_83 : decode cX5_readsHall 83 = .ok (.iadd, 1) := dk_96 (dk_at dksX5_readsHall_3 13 rfl rfl)
theorem dX5_readsHall_84 : decode cX5_readsHall 84 = .ok (.iconst 0, 1) := dk_3 (dk_at dksX5_readsHall_3 14 rfl rfl)
theorem dX5_readsHall_85 : decode cX5_readsHall 85 = .ok (.sipush 1000, 3) := dk_17 3 232 (dk_at dksX5_readsHall_3 15 rfl rfl)
theorem dX5_readsHall_88 : decode cX5_readsHall 88 = .ok (.iconst 1, 1) := dk_4 (dk_at dksX5_readsHall_3 18 rfl rfl)
theorem dX5_readsHall_89 : decode cX5_readsHall 89 = .ok (.invokevirtual 174, 3) := dk_182 0 174 (dk_at dksX5_readsHall_3 19 rfl rfl)
theorem dX5_readsHall_92 : decode cX5_readsHall 92 = .ok (.aload_n 0, 1) := dk_42 (dk_at dksX5_readsHall_3 22 rfl rfl)
theorem dX5_readsHall_93 : decode cX5_readsHall 93 = .ok (.getfield 17, 3) := dk_180 0 17 (dk_at dksX5_readsHall_4 0 rfl rfl)
theorem dX5_readsHall_96 : decode cX5_readsHall 96 = .ok (.iconst 0, 1) := dk_3 (dk_at dksX5_readsHall_4 3 rfl rfl)
theorem dX5_readsHall_97 : decode cX5_readsHall 97 = .ok (.dup2, 1) := dk_92 (dk_at dksX5_readsHall_4 4 rfl rfl)
theorem dX5_readsHall_98 : decode cX5_readsHall 98 = .ok (.iaload, 1) := dk_46 (dk_at dksX5_readsHall_4 5 rfl rfl)
theorem dX5_readsHall_99 : decode cX5_readsHall 99 = .ok (.iconst 1, 1) := dk_4 (dk_at dksX5_readsHall_4 6 rfl rfl)
theorem dX5_readsHall_100 : decode cX5_readsHall 100 = .ok (.iadd, 1) := dk_96 (dk_at dksX5_readsHall_4 7 rfl rfl)
theorem dX5_readsHall_101 : decode cX5_readsHall 101 = .ok (.iastore, 1) := dk_79 (dk_at dksX5_readsHall_4 8 rfl rfl)
theorem dX5_readsHall_102 : decode cX5_readsHall 102 = .ok (.return_, 1) := dk_177 (dk_at dksX5_readsHall_4 9 rfl rfl)
abbrev cX5_room : ByteArray := prog_17_method_26_code
def yX5_room : MethodName := ⟨RX5, "room", "(II)V"⟩
def dkwX5_room_0 : List UInt8 := [42, 180, 0, 17, 27, 46, 28, 160, 0, 11, 42, 42, 180, 0, 101, 182, 0, 152, 177]
abbrev dktX5_room_0 : List UInt8 := dkwX5_room_0 ++ []
theorem dksX5_room_0 : cX5_room.data.toList.drop 0 = dktX5_room_0 := by decide +kernel
theorem dX5_room_0 : decode cX5_room 0 = .ok (.aload_n 0, 1) := dk_42 (dk_at dksX5_room_0 0 rfl rfl)
theorem dX5_room_1 : decode cX5_room 1 = .ok (.getfield 17, 3) := dk_180 0 17 (dk_at dksX5_room_0 1 rfl rfl)
theorem dX5_room_4 : decode cX5_room 4 = .ok (.iload_n 1, 1) := dk_27 (dk_at dksX5_room_0 4 rfl rfl)
theorem dX5_room_5 : decode cX5_room 5 = .ok (.iaload, 1) := dk_46 (dk_at dksX5_room_0 5 rfl rfl)
theorem dX5_room_6 : decode cX5_room 6 = .ok (.iload_n 2, 1) := dk_28 (dk_at dksX5_room_0 6 rfl rfl)
theorem dX5_room_7 : decode cX5_room 7 = .ok (.if_icmp .ne 11, 3) := dk_160 0 11 (dk_at dksX5_room_0 7 rfl rfl)
theorem dX5_room_10 : decode cX5_room 10 = .ok (.aload_n 0, 1) := dk_42 (dk_at dksX5_room_0 10 rfl rfl)
theorem dX5_room_11 : decode cX5_room 11 = .ok (.aload_n 0, 1) := dk_42 (dk_at dksX5_room_0 11 rfl rfl)
theorem dX5_room_12 : decode cX5_room 12 = .ok (.getfield 101, 3) := dk_180 0 101 (dk_at dksX5_room_0 12 rfl rfl)
theorem dX5_room_15 : decode cX5_room 15 = .ok (.invokevirtual 152, 3) := dk_182 0 152 (dk_at dksX5_room_0 15 rfl rfl)
theorem dX5_room_18 : decode cX5_room 18 = .ok (.return_, 1) := dk_177 (dk_at dksX5_room_0 18 rfl rfl)
abbrev cX5_wrongAt : ByteArray := prog_17_method_13_code
def yX5_wrongAt : MethodName := ⟨RX5, "wrongAt", "(I)V"⟩
def dkwX5_wrongAt_0 : List UInt8 := [42, 180, 0, 104, 156, 0, 8, 42, 27, 181, 0, 104, 177]
abbrev dktX5_wrongAt_0 : List UInt8 := dkwX5_wrongAt_0 ++ []
theorem dksX5_wrongAt_0 : cX5_wrongAt.data.toList.drop 0 = dktX5_wrongAt_0 := by decide +kernel
theorem dX5_wrongAt_0 : decode cX5_wrongAt 0 = .ok (.aload_n 0, 1) := dk_42 (dk_at dksX5_wrongAt_0 0 rfl rfl)
theorem dX5_wrongAt_1 : decode cX5_wrongAt 1 = .ok (.getfield 104, 3) := dk_180 0 104 (dk_at dksX5_wrongAt_0 1 rfl rfl)
theorem dX5_wrongAt_4 : decode cX5_wrongAt 4 = .ok (.ifCond .ge 8, 3) := dk_156 0 8 (dk_at dksX5_wrongAt_0 4 rfl rfl)
theorem dX5_wrongAt_7 : decode cX5_wrongAt 7 = .ok (.aload_n 0, 1) := dk_42 (dk_at dksX5_wrongAt_0 7 rfl rfl)
theorem dX5_wrongAt_8 : decode cX5_wrongAt 8 = .ok (.iload_n 1, 1) := dk_27 (dk_at dksX5_wrongAt_0 8 rfl rfl)
theorem dX5_wrongAt_9 : decode cX5_wrongAt 9 = .ok (.putfield 104, 3) := dk_181 0 104 (dk_at dksX5_wrongAt_0 9 rfl rfl)
theorem dX5_wrongAt_12 : decode cX5_wrongAt 12 = .ok (.return_, 1) := dk_177 (dk_at dksX5_wrongAt_0 12 rfl rfl)
abbrev cX5_names : ByteArray := prog_17_method_24_code
def yX5_names : MethodName := ⟨RX5, "names", "(I)V"⟩
def dkwX5_names_6 : List UInt8 := [180, 0, 94, 28, 96, 181, 0, 94, 177]
abbrev dktX5_names_6 : List UInt8 := dkwX5_names_6 ++ []
def dkwX5_names_5 : List UInt8 := [180, 0, 27, 29, 42, 180, 0, 17, 27, 46, 79, 42, 180, 0, 17, 16, 7, 92, 46, 4, 96, 79, 42, 89]
abbrev dktX5_names_5 : List UInt8 := dkwX5_names_5 ++ dktX5_names_6
def dkwX5_names_4 : List UInt8 := [21, 4, 96, 51, 167, 0, 4, 3, 84, 132, 4, 1, 167, 255, 212, 42, 180, 0, 24, 29, 27, 79, 42]
abbrev dktX5_names_4 : List UInt8 := dkwX5_names_4 ++ dktX5_names_5
def dkwX5_names_3 : List UInt8 := [180, 0, 20, 16, 6, 29, 104, 21, 4, 96, 21, 4, 28, 162, 0, 18, 42, 180, 0, 45, 42, 180, 0, 94]
abbrev dktX5_names_3 : List UInt8 := dkwX5_names_3 ++ dktX5_names_4
def dkwX5_names_2 : List UInt8 := [182, 0, 152, 177, 42, 180, 0, 17, 16, 7, 46, 62, 3, 54, 4, 21, 4, 16, 6, 162, 0, 43, 42]
abbrev dktX5_names_2 : List UInt8 := dkwX5_names_2 ++ dktX5_names_3
def dkwX5_names_1 : List UInt8 := [153, 0, 19, 42, 182, 0, 161, 154, 0, 12, 42, 28, 182, 0, 164, 2, 159, 0, 12, 42, 42, 180, 0, 101]
abbrev dktX5_names_1 : List UInt8 := dkwX5_names_1 ++ dktX5_names_2
def dkwX5_names_0 : List UInt8 := [42, 182, 0, 114, 154, 0, 4, 177, 42, 182, 0, 118, 61, 28, 133, 10, 20, 0, 159, 184, 0, 90]
abbrev dktX5_names_0 : List UInt8 := dkwX5_names_0 ++ dktX5_names_1
theorem dksX5_names_0 : cX5_names.data.toList.drop 0 = dktX5_names_0 := by decide +kernel
theorem dksX5_names_1 : cX5_names.data.toList.drop 22 = dktX5_names_1 := dk_seg dksX5_names_0 22 rfl rfl
theorem dksX5_names_2 : cX5_names.data.toList.drop 46 = dktX5_names_2 := dk_seg dksX5_names_1 24 rfl rfl
theorem dksX5_names_3 : cX5_names.data.toList.drop 69 = dktX5_names_3 := dk_seg dksX5_names_2 23 rfl rfl
theorem dksX5_names_4 : cX5_names.data.toList.drop 93 = dktX5_names_4 := dk_seg dksX5_names_3 24 rfl rfl
theorem dksX5_names_5 : cX5_names.data.toList.drop 116 = dktX5_names_5 := dk_seg dksX5_names_4 23 rfl rfl
theorem dksX5_names_6 : cX5_names.data.toList.drop 140 = dktX5_names_6 := dk_seg dksX5_names_5 24 rfl rfl
theorem dX5_names_0 : decode cX5_names 0 = .ok (.aload_n 0, 1) := dk_42 (dk_at dksX5_names_0 0 rfl rfl)
theorem dX5_names_1 : decode cX5_names 1 = .ok (.invokevirtual 114, 3) := dk_182 0 114 (dk_at dksX5_names_0 1 rfl rfl)
theorem dX5_names_4 : decode cX5_names 4 = .ok (.ifCond .ne 4, 3) := dk_154 0 4 (dk_at dksX5_names_0 4 rfl rfl)
theorem dX5_names_7 : decode cX5_names 7 = .ok (.return_, 1) := dk_177 (dk_at dksX5_names_0 7 rfl rfl)
theorem dX5_names_8 : decode cX5_names 8 = .ok (.aload_n 0, 1) := dk_42 (dk_at dksX5_names_0 8 rfl rfl)
theorem dX5_names_9 : decode cX5_names 9 = .ok (.invokevirtual 118, 3) := dk_182 0 118 (dk_at dksX5_names_0 9 rfl rfl)
theorem dX5_names_12 : decode cX5_names 12 = .ok (.istore_n 2, 1) := dk_61 (dk_at dksX5_names_0 12 rfl rfl)
theorem dX5_names_13 : decode cX5_names 13 = .ok (.iload_n 2, 1) := dk_28 (dk_at dksX5_names_0 13 rfl rfl)
theorem dX5_names_14 : decode cX5_names 14 = .ok (.i2l, 1) := dk_133 (dk_at dksX5_names_0 14 rfl rfl)
theorem dX5_names_15 : decode cX5_names 15 = .ok (.lconst 1, 1) := dk_10 (dk_at dksX5_names_0 15 rfl rfl)
theorem dX5_names_16 : decode cX5_names 16 = .ok (.ldc2_w 159, 3) := dk_20 0 159 (dk_at dksX5_names_0 16 rfl rfl)
theorem dX5_names_19 : decode cX5_names 19 = .ok (.invokestatic 90, 3) := dk_184 0 90 (dk_at dksX5_names_0 19 rfl rfl)
theorem dX5_names_22 : decode cX5_names 22 = .ok (.ifCond .eq 19, 3) := dk_153 0 19 (dk_at dksX5_names_1 0 rfl rfl)
theorem dX5_names_25 : decode cX5_names 25 = .ok (.aload_n 0, 1) := dk_42 (dk_at dksX5_names_1 3 rfl rfl)
theorem dX5_names_26 : decode cX5_names 26 = .ok (.invokevirtual 161, 3) := dk_182 0 161 (dk_at dksX5_names_1 4 rfl rfl)
theorem dX5_names_29 : decode cX5_names 29 = .ok (.ifCond .ne 12, 3) := dk_154 0 12 (dk_at dksX5_names_1 7 rfl rfl)
theorem dX5_names_32 : decode cX5_names 32 = .ok (.aload_n 0, 1) := dk_42 (dk_at dksX5_names_1 10 rfl rfl)
theorem dX5_names_33 : decode cX5_names 33 = .ok (.iload_n 2, 1) := dk_28 (dk_at dksX5_names_1 11 rfl rfl)
theorem dX5_names_34 : decode cX5_names 34 = .ok (.invokevirtual 164, 3) := dk_182 0 164 (dk_at dksX5_names_1 12 rfl rfl)
theorem dX5_names_37 : decode cX5_names 37 = .ok (.iconst (-1), 1) := dk_2 (dk_at dksX5_names_1 15 rfl rfl)
theorem dX5_names_38 : decode cX5_names 38 = .ok (.if_icmp .eq 12, 3) := dk_159 0 12 (dk_at dksX5_names_1 16 rfl rfl)
theorem dX5_names_41 : decode cX5_names 41 = .ok (.aload_n 0, 1) := dk_42 (dk_at dksX5_names_1 19 rfl rfl)
theorem dX5_names_42 : decode cX5_names 42 = .ok (.aload_n 0, 1) := dk_42 (dk_at dksX5_names_1 20 rfl rfl)
theorem dX5_names_43 : decode cX5_names 43 = .ok (.getfield 101, 3) := dk_180 0 101 (dk_at dksX5_names_1 21 rfl rfl)
theorem dX5_names_46 : decode cX5_names 46 = .ok (.invokevirtual 152, 3) := dk_182 0 152 (dk_at dksX5_names_2 0 rfl rfl)
theorem dX5_names_49 : decode cX5_names 49 = .ok (.return_, 1) := dk_177 (dk_at dksX5_names_2 3 rfl rfl)
theorem dX5_names_50 : decode cX5_names 50 = .ok (.aload_n 0, 1) := dk_42 (dk_at dksX5_names_2 4 rfl rfl)
theorem dX5_names_51 : decode cX5_names 51 = .ok (.getfield 17, 3) := dk_180 0 17 (dk_at dksX5_names_2 5 rfl rfl)
theorem dX5_names_54 : decode cX5_names 54 = .ok (.bipush 7, 2) := dk_16 7 (dk_at dksX5_names_2 8 rfl rfl)
theorem dX5_names_56 : decode cX5_names 56 = .ok (.iaload, 1) := dk_46 (dk_at dksX5_names_2 10 rfl rfl)
theorem dX5_names_57 : decode cX5_names 57 = .ok (.istore_n 3, 1) := dk_62 (dk_at dksX5_names_2 11 rfl rfl)
theorem dX5_names_58 : decode cX5_names 58 = .ok (.iconst 0, 1) := dk_3 (dk_at dksX5_names_2 12 rfl rfl)
theorem dX5_names_59 : decode cX5_names 59 = .ok (.istore 4, 2) := dk_54 4 (dk_at dksX5_names_2 13 rfl rfl)
theorem dX5_names_61 : decode cX5_names 61 = .ok (.iload 4, 2) := dk_21 4 (dk_at dksX5_names_2 15 rfl rfl)
theorem dX5_names_63 : decode cX5_names 63 = .ok (.bipush 6, 2) := dk_16 6 (dk_at dksX5_names_2 17 rfl rfl)
theorem dX5_names_65 : decode cX5_names 65 = .ok (.if_icmp .ge 43, 3) := dk_162 0 43 (dk_at dksX5_names_2 19 rfl rfl)
theorem dX5_names_68 : decode cX5_names 68 = .ok (.aload_n 0, 1) := dk_42 (dk_at dksX5_names_2 22 rfl rfl)
theorem dX5_names_69 : decode cX5_names 69 = .ok (.getfield 20, 3) := dk_180 0 20 (dk_at dksX5_names_3 0 rfl rfl)
theorem dX5_names_72 : decode cX5_names 72 = .ok (.bipush 6, 2) := dk_16 6 (dk_at dksX5_names_3 3 rfl rfl)
theorem dX5_names_74 : decode cX5_names 74 = .ok (.iload_n 3, 1) := dk_29 (dk_at dksX5_names_3 5 rfl rfl)
theorem dX5_names_75 : decode cX5_names 75 = .ok (.imul, 1) := dk_104 (dk_at dksX5_names_3 6 rfl rfl)
theorem dX5_names_76 : decode cX5_names 76 = .ok (.iload 4, 2) := dk_21 4 (dk_at dksX5_names_3 7 rfl rfl)
theorem dX5_names_78 : decode cX5_names 78 = .ok (.iadd, 1) := dk_96 (dk_at dksX5_names_3 9 rfl rfl)
theorem dX5_names_79 : decode cX5_names 79 = .ok (.iload 4, 2) := dk_21 4 (dk_at dksX5_names_3 10 rfl rfl)
theorem dX5_names_81 : decode cX5_names 81 = .ok (.iload_n 2, 1) := dk_28 (dk_at dksX5_names_3 12 rfl rfl)
theorem dX5_names_82 : decode cX5_names 82 = .ok (.if_icmp .ge 18, 3) := dk_162 0 18 (dk_at dksX5_names_3 13 rfl rfl)
theorem dX5_names_85 : decode cX5_names 85 = .ok (.aload_n 0, 1) := dk_42 (dk_at dksX5_names_3 16 rfl rfl)
theorem dX5_names_86 : decode cX5_names 86 = .ok (.getfield 45, 3) := dk_180 0 45 (dk_at dksX5_names_3 17 rfl rfl)
theorem dX5_names_89 : decode cX5_names 89 = .ok (.aload_n 0, 1) := dk_42 (dk_at dksX5_names_3 20 rfl rfl)
theorem dX5_names_90 : decode cX5_names 90 = .ok (.getfield 94, 3) := dk_180 0 94 (dk_at dksX5_names_3 21 rfl rfl)
theorem dX5_names_93 : decode cX5_names 93 = .ok (.iload 4, 2) := dk_21 4 (dk_at dksX5_names_4 0 rfl rfl)
theorem dX5_names_95 : decode cX5_names 95 = .ok (.iadd, 1) := dk_96 (dk_at dksX5_names_4 2 rfl rfl)
theorem dX5_names_96 : decode cX5_names 96 = .ok (.baload, 1) := dk_51 (dk_at dksX5_names_4 3 rfl rfl)
theorem dX5_names_97 : decode cX5_names 97 = .ok (.goto 4, 3) := dk_167 0 4 (dk_at dksX5_names_4 4 rfl rfl)
theorem dX5_names_100 : decode cX5_names 100 = .ok (.iconst 0, 1) := dk_3 (dk_at dksX5_names_4 7 rfl rfl)
theorem dX5_names_101 : decode cX5_names 101 = .ok (.bastore, 1) := dk_84 (dk_at dksX5_names_4 8 rfl rfl)
theorem dX5_names_102 : decode cX5_names 102 = .ok (.iinc 4 1, 3) := dk_132 4 1 (dk_at dksX5_names_4 9 rfl rfl)
theorem dX5_names_105 : decode cX5_names 105 = .ok (.goto (-44), 3) := dk_167 255 212 (dk_at dksX5_names_4 12 rfl rfl)
theorem dX5_names_108 : decode cX5_names 108 = .ok (.aload_n 0, 1) := dk_42 (dk_at dksX5_names_4 15 rfl rfl)
theorem dX5_names_109 : decode cX5_names 109 = .ok (.getfield 24, 3) := dk_180 0 24 (dk_at dksX5_names_4 16 rfl rfl)
theorem dX5_names_112 : decode cX5_names 112 = .ok (.iload_n 3, 1) := dk_29 (dk_at dksX5_names_4 19 rfl rfl)
theorem dX5_names_113 : decode cX5_names 113 = .ok (.iload_n 1, 1) := dk_27 (dk_at dksX5_names_4 20 rfl rfl)
theorem dX5_names_114 : decode cX5_names 114 = .ok (.iastore, 1) := dk_79 (dk_at dksX5_names_4 21 rfl rfl)
theorem dX5_names_115 : decode cX5_names 115 = .ok (.aload_n 0, 1) := dk_42 (dk_at dksX5_names_4 22 rfl rfl)
theorem dX5_names_116 : decode cX5_names 116 = .ok (.getfield 27, 3) := dk_180 0 27 (dk_at dksX5_names_5 0 rfl rfl)
theorem dX5_names_119 : decode cX5_names 119 = .ok (.iload_n 3, 1) := dk_29 (dk_at dksX5_names_5 3 rfl rfl)
theorem dX5_names_120 : decode cX5_names 120 = .ok (.aload_n 0, 1) := dk_42 (dk_at dksX5_names_5 4 rfl rfl)
theorem dX5_names_121 : decode cX5_names 121 = .ok (.getfield 17, 3) := dk_180 0 17 (dk_at dksX5_names_5 5 rfl rfl)
theorem dX5_names_124 : decode cX5_names 124 = .ok (.iload_n 1, 1) := dk_27 (dk_at dksX5_names_5 8 rfl rfl)
theorem dX5_names_125 : decode cX5_names 125 = .ok (.iaload, 1) := dk_46 (dk_at dksX5_names_5 9 rfl rfl)
theorem dX5_names_126 : decode cX5_names 126 = .ok (.iastore, 1) := dk_79 (dk_at dksX5_names_5 10 rfl rfl)
theorem dX5_names_127 : decode cX5_names 127 = .ok (.aload_n 0, 1) := dk_42 (dk_at dksX5_names_5 11 rfl rfl)
theorem dX5_names_128 : decode cX5_names 128 = .ok (.getfield 17, 3) := dk_180 0 17 (dk_at dksX5_names_5 12 rfl rfl)
theorem dX5_names_131 : decode cX5_names 131 = .ok (.bipush 7, 2) := dk_16 7 (dk_at dksX5_names_5 15 rfl rfl)
theorem dX5_names_133 : decode cX5_names 133 = .ok (.dup2, 1) := dk_92 (dk_at dksX5_names_5 17 rfl rfl)
theorem dX5_names_134 : decode cX5_names 134 = .ok (.iaload, 1) := dk_46 (dk_at dksX5_names_5 18 rfl rfl)
theorem dX5_names_135 : decode cX5_names 135 = .ok (.iconst 1, 1) := dk_4 (dk_at dksX5_names_5 19 rfl rfl)
theorem dX5_names_136 : decode cX5_names 136 = .ok (.iadd, 1) := dk_96 (dk_at dksX5_names_5 20 rfl rfl)
theorem dX5_names_137 : decode cX5_names 137 = .ok (.iastore, 1) := dk_79 (dk_at dksX5_names_5 21 rfl rfl)
theorem dX5_names_138 : decode cX5_names 138 = .ok (.aload_n 0, 1) := dk_42 (dk_at dksX5_names_5 22 rfl rfl)
theorem dX5_names_139 : decode cX5_names 139 = .ok (.dup, 1) := dk_89 (dk_at dksX5_names_5 23 rfl rfl)
theorem dX5_names_140 : decode cX5_names 140 = .ok (.getfield 94, 3) := dk_180 0 94 (dk_at dksX5_names_6 0 rfl rfl)
theorem dX5_names_143 : decode cX5_names 143 = .ok (.iload_n 2, 1) := dk_28 (dk_at dksX5_names_6 3 rfl rfl)
theorem dX5_names_144 : decode cX5_names 144 = .ok (.iadd, 1) := dk_96 (dk_at dksX5_names_6 4 rfl rfl)
theorem dX5_names_145 : decode cX5_names 145 = .ok (.putfield 94, 3) := dk_181 0 94 (dk_at dksX5_names_6 5 rfl rfl)
theorem dX5_names_148 : decode cX5_names 148 = .ok (.return_, 1) := dk_177 (dk_at dksX5_names_6 8 rfl rfl)
abbrev cX5_isKeyword : ByteArray := prog_17_method_20_code
def yX5_isKeyword : MethodName := ⟨RX5, "isKeyword", "()Z"⟩
def dkwX5_isKeyword_3 : List UInt8 := [4, 167, 0, 4, 3, 172]
abbrev dktX5_isKeyword_3 : List UInt8 := dkwX5_isKeyword_3 ++ []
def dkwX5_isKeyword_2 : List UInt8 := [182, 0, 129, 154, 0, 21, 42, 18, 145, 182, 0, 129, 154, 0, 12, 42, 18, 147, 182, 0, 129, 153, 0, 7]
abbrev dktX5_isKeyword_2 : List UInt8 := dkwX5_isKeyword_2 ++ dktX5_isKeyword_3
def dkwX5_isKeyword_1 : List UInt8 := [154, 0, 48, 42, 18, 139, 182, 0, 129, 154, 0, 39, 42, 18, 141, 182, 0, 129, 154, 0, 30, 42, 18, 143]
abbrev dktX5_isKeyword_1 : List UInt8 := dkwX5_isKeyword_1 ++ dktX5_isKeyword_2
def dkwX5_isKeyword_0 : List UInt8 := [42, 18, 133, 182, 0, 129, 154, 0, 66, 42, 18, 135, 182, 0, 129, 154, 0, 57, 42, 18, 137, 182, 0, 129]
abbrev dktX5_isKeyword_0 : List UInt8 := dkwX5_isKeyword_0 ++ dktX5_isKeyword_1
theorem dksX5_isKeyword_0 : cX5_isKeyword.data.toList.drop 0 = dktX5_isKeyword_0 := by decide +kernel
theorem dksX5_isKeyword_1 : cX5_isKeyword.data.toList.drop 24 = dktX5_isKeyword_1 := dk_seg dksX5_isKeyword_0 24 rfl rfl
theorem dksX5_isKeyword_2 : cX5_isKeyword.data.toList.drop 48 = dktX5_isKeyword_2 := dk_seg dksX5_isKeyword_1 24 rfl rfl
theorem dksX5_isKeyword_3 : cX5_isKeyword.data.toList.drop 72 = dktX5_isKeyword_3 := dk_seg dksX5_isKeyword_2 24 rfl rfl
theorem dX5_isKeyword_0 : decode cX5_isKeyword 0 = .ok (.aload_n 0, 1) := dk_42 (dk_at dksX5_isKeyword_0 0 rfl rfl)
theorem dX5_isKeyword_1 : decode cX5_isKeyword 1 = .ok (.ldc 133, 2) := dk_18 133 (dk_at dksX5_isKeyword_0 1 rfl rfl)
theorem dX5_isKeyword_3 : decode cX5_isKeyword 3 = .ok (.invokevirtual 129, 3) := dk_182 0 129 (dk_at dksX5_isKeyword_0 3 rfl rfl)
theorem dX5_isKeyword_6 : decode cX5_isKeyword 6 = .ok (.ifCond .ne 66, 3) := dk_154 0 66 (dk_at dksX5_isKeyword_0 6 rfl rfl)
theorem dX5_isKeyword_9 : decode cX5_isKeyword 9 = .ok (.aload_n 0, 1) := dk_42 (dk_at dksX5_isKeyword_0 9 rfl rfl)
theorem dX5_isKeyword_10 : decode cX5_isKeyword 10 = .ok (.ldc 135, 2) := dk_18 135 (dk_at dksX5_isKeyword_0 10 rfl rfl)
theorem dX5_isKeyword_12 : decode cX5_isKeyword 12 = .ok (.invokevirtual 129, 3) := dk_182 0 129 (dk_at dksX5_isKeyword_0 12 rfl rfl)
theorem dX5_isKeyword_15 : decode cX5_isKeyword 15 = .ok (.ifCond .ne 57, 3) := dk_154 0 57 (dk_at dksX5_isKeyword_0 15 rfl rfl)
theorem dX5_isKeyword_18 : decode cX5_isKeyword 18 = .ok (.aload_n 0, 1) := dk_42 (dk_at dksX5_isKeyword_0 18 rfl rfl)
theorem dX5_isKeyword_19 : decode cX5_isKeyword 19 = .ok (.ldc 137, 2) := dk_18 137 (dk_at dksX5_isKeyword_0 19 rfl rfl)
theorem dX5_isKeyword_21 : decode cX5_isKeyword 21 = .ok (.invokevirtual 129, 3) := dk_182 0 129 (dk_at dksX5_isKeyword_0 21 rfl rfl)
theorem dX5_isKeyword_24 : decode cX5_isKeyword 24 = .ok (.ifCond .ne 48, 3) := dk_154 0 48 (dk_at dksX5_isKeyword_1 0 rfl rfl)
theorem dX5_isKeyword_27 : decode cX5_isKeyword 27 = .ok (.aload_n 0, 1) := dk_42 (dk_at dksX5_isKeyword_1 3 rfl rfl)
theorem dX5_isKeyword_28 : decode cX5_isKeyword 28 = .ok (.ldc 139, 2) := dk_18 139 (dk_at dksX5_isKeyword_1 4 rfl rfl)
theorem dX5_isKeyword_30 : decode cX5_isKeyword 30 = .ok (.invokevirtual 129, 3) := dk_182 0 129 (dk_at dksX5_isKeyword_1 6 rfl rfl)
theorem dX5_isKeyword_33 : decode cX5_isKeyword 33 = .ok (.ifCond .ne 39, 3) := dk_154 0 39 (dk_at dksX5_isKeyword_1 9 rfl rfl)
theorem dX5_isKeyword_36 : decode cX5_isKeyword 36 = .ok (.aload_n 0, 1) := dk_42 (dk_at dksX5_isKeyword_1 12 rfl rfl)
theorem dX5_isKeyword_37 : decode cX5_isKeyword 37 = .ok (.ldc 141, 2) := dk_18 141 (dk_at dksX5_isKeyword_1 13 rfl rfl)
theorem dX5_isKeyword_39 : decode cX5_isKeyword 39 = .ok (.invokevirtual 129, 3) := dk_182 0 129 (dk_at dksX5_isKeyword_1 15 rfl rfl)
theorem dX5_isKeyword_42 : decode cX5_isKeyword 42 = .ok (.ifCond .ne 30, 3) := dk_154 0 30 (dk_at dksX5_isKeyword_1 18 rfl rfl)
theorem dX5_isKeyword_45 : decode cX5_isKeyword 45 = .ok (.aload_n 0, 1) := dk_42 (dk_at dksX5_isKeyword_1 21 rfl rfl)
theorem dX5_isKeyword_46 : decode cX5_isKeyword 46 = .ok (.ldc 143, 2) := dk_18 143 (dk_at dksX5_isKeyword_1 22 rfl rfl)
theorem dX5_isKeyword_48 : decode cX5_isKeyword 48 = .ok (.invokevirtual 129, 3) := dk_182 0 129 (dk_at dksX5_isKeyword_2 0 rfl rfl)
theorem dX5_isKeyword_51 : decode cX5_isKeyword 51 = .ok (.ifCond .ne 21, 3) := dk_154 0 21 (dk_at dksX5_isKeyword_2 3 rfl rfl)
theorem dX5_isKeyword_54 : decode cX5_isKeyword 54 = .ok (.aload_n 0, 1) := dk_42 (dk_at dksX5_isKeyword_2 6 rfl rfl)
theorem dX5_isKeyword_55 : decode cX5_isKeyword 55 = .ok (.ldc 145, 2) := dk_18 145 (dk_at dksX5_isKeyword_2 7 rfl rfl)
theorem dX5_isKeyword_57 : decode cX5_isKeyword 57 = .ok (.invokevirtual 129, 3) := dk_182 0 129 (dk_at dksX5_isKeyword_2 9 rfl rfl)
theorem dX5_isKeyword_60 : decode cX5_isKeyword 60 = .ok (.ifCond .ne 12, 3) := dk_154 0 12 (dk_at dksX5_isKeyword_2 12 rfl rfl)
theorem dX5_isKeyword_63 : decode cX5_isKeyword 63 = .ok (.aload_n 0, 1) := dk_42 (dk_at dksX5_isKeyword_2 15 rfl rfl)
theorem dX5_isKeyword_64 : decode cX5_isKeyword 64 = .ok (.ldc 147, 2) := dk_18 147 (dk_at dksX5_isKeyword_2 16 rfl rfl)
theorem dX5_isKeyword_66 : decode cX5_isKeyword 66 = .ok (.invokevirtual 129, 3) := dk_182 0 129 (dk_at dksX5_isKeyword_2 18 rfl rfl)
theorem dX5_isKeyword_69 : decode cX5_isKeyword 69 = .ok (.ifCond .eq 7, 3) := dk_153 0 7 (dk_at dksX5_isKeyword_2 21 rfl rfl)
theorem dX5_isKeyword_72 : decode cX5_isKeyword 72 = .ok (.iconst 1, 1) := dk_4 (dk_at dksX5_isKeyword_3 0 rfl rfl)
theorem dX5_isKeyword_73 : decode cX5_isKeyword 73 = .ok (.goto 4, 3) := dk_167 0 4 (dk_at dksX5_isKeyword_3 1 rfl rfl)
theorem dX5_isKeyword_76 : decode cX5_isKeyword 76 = .ok (.iconst 0, 1) := dk_3 (dk_at dksX5_isKeyword_3 4 rfl rfl)
theorem dX5_isKeyword_77 : decode cX5_isKeyword 77 = .ok (.ireturn, 1) := dk_172 (dk_at dksX5_isKeyword_3 5 rfl rfl)
abbrev cX5_rowHere : ByteArray := prog_17_method_23_code
def yX5_rowHere : MethodName := ⟨RX5, "rowHere", "(I)I"⟩
def dkwX5_rowHere_4 : List UInt8 := [167, 255, 163, 2, 172]
abbrev dktX5_rowHere_4 : List UInt8 := dkwX5_rowHere_4 ++ []
def dkwX5_rowHere_3 : List UInt8 := [160, 0, 7, 4, 167, 0, 4, 3, 62, 132, 4, 1, 167, 255, 199, 29, 153, 0, 5, 28, 172, 132, 2, 1]
abbrev dktX5_rowHere_3 : List UInt8 := dkwX5_rowHere_3 ++ dktX5_rowHere_4
def dkwX5_rowHere_2 : List UInt8 := [51, 21, 4, 27, 162, 0, 18, 42, 180, 0, 45, 42, 180, 0, 94, 21, 4, 96, 51, 167, 0, 4, 3]
abbrev dktX5_rowHere_2 : List UInt8 := dkwX5_rowHere_2 ++ dktX5_rowHere_3
def dkwX5_rowHere_1 : List UInt8 := [54, 4, 21, 4, 16, 6, 162, 0, 56, 29, 153, 0, 52, 42, 180, 0, 20, 16, 6, 28, 104, 21, 4, 96]
abbrev dktX5_rowHere_1 : List UInt8 := dkwX5_rowHere_1 ++ dktX5_rowHere_2
def dkwX5_rowHere_0 : List UInt8 := [3, 61, 28, 42, 180, 0, 17, 16, 7, 46, 162, 0, 88, 27, 133, 10, 20, 0, 159, 184, 0, 90, 62, 3]
abbrev dktX5_rowHere_0 : List UInt8 := dkwX5_rowHere_0 ++ dktX5_rowHere_1
theorem dksX5_rowHere_0 : cX5_rowHere.data.toList.drop 0 = dktX5_rowHere_0 := by decide +kernel
theorem dksX5_rowHere_1 : cX5_rowHere.data.toList.drop 24 = dktX5_rowHere_1 := dk_seg dksX5_rowHere_0 24 rfl rfl
theorem dksX5_rowHere_2 : cX5_rowHere.data.toList.drop 48 = dktX5_rowHere_2 := dk_seg dksX5_rowHere_1 24 rfl rfl
theorem dksX5_rowHere_3 : cX5_rowHere.data.toList.drop 71 = dktX5_rowHere_3 := dk_seg dksX5_rowHere_2 23 rfl rfl
theorem dksX5_rowHere_4 : cX5_rowHere.data.toList.drop 95 = dktX5_rowHere_4 := dk_seg dksX5_rowHere_3 24 rfl rfl
theorem dX5_rowHere_0 : decode cX5_rowHere 0 = .ok (.iconst 0, 1) := dk_3 (dk_at dksX5_rowHere_0 0 rfl rfl)
theorem dX5_rowHere_1 : decode cX5_rowHere 1 = .ok (.istore_n 2, 1) := dk_61 (dk_at dksX5_rowHere_0 1 rfl rfl)
theorem dX5_rowHere_2 : decode cX5_rowHere 2 = .ok (.iload_n 2, 1) := dk_28 (dk_at dksX5_rowHere_0 2 rfl rfl)
theorem dX5_rowHere_3 : decode cX5_rowHere 3 = .ok (.aload_n 0, 1) := dk_42 (dk_at dksX5_rowHere_0 3 rfl rfl)
theorem dX5_rowHere_4 : decode cX5_rowHere 4 = .ok (.getfield 17, 3) := dk_180 0 17 (dk_at dksX5_rowHere_0 4 rfl rfl)
theorem dX5_rowHere_7 : decode cX5_rowHere 7 = .ok (.bipush 7, 2) := dk_16 7 (dk_at dksX5_rowHere_0 7 rfl rfl)
theorem dX5_rowHere_9 : decode cX5_rowHere 9 = .ok (.iaload, 1) := dk_46 (dk_at dksX5_rowHere_0 9 rfl rfl)
theorem dX5_rowHere_10 : decode cX5_rowHere 10 = .ok (.if_icmp .ge 88, 3) := dk_162 0 88 (dk_at dksX5_rowHere_0 10 rfl rfl)
theorem dX5_rowHere_13 : decode cX5_rowHere 13 = .ok (.iload_n 1, 1) := dk_27 (dk_at dksX5_rowHere_0 13 rfl rfl)
theorem dX5_rowHere_14 : decode cX5_rowHere 14 = .ok (.i2l, 1) := dk_133 (dk_at dksX5_rowHere_0 14 rfl rfl)
theorem dX5_rowHere_15 : decode cX5_rowHere 15 = .ok (.lconst 1, 1) := dk_10 (dk_at dksX5_rowHere_0 15 rfl rfl)
theorem dX5_rowHere_16 : decode cX5_rowHere 16 = .ok (.ldc2_w 159, 3) := dk_20 0 159 (dk_at dksX5_rowHere_0 16 rfl rfl)
theorem dX5_rowHere_19 : decode cX5_rowHere 19 = .ok (.invokestatic 90, 3) := dk_184 0 90 (dk_at dksX5_rowHere_0 19 rfl rfl)
theorem dX5_rowHere_22 : decode cX5_rowHere 22 = .ok (.istore_n 3, 1) := dk_62 (dk_at dksX5_rowHere_0 22 rfl rfl)
theorem dX5_rowHere_23 : decode cX5_rowHere 23 = .ok (.iconst 0, 1) := dk_3 (dk_at dksX5_rowHere_0 23 rfl rfl)
theorem dX5_rowHere_24 : decode cX5_rowHere 24 = .ok (.istore 4, 2) := dk_54 4 (dk_at dksX5_rowHere_1 0 rfl rfl)
theorem dX5_rowHere_26 : decode cX5_rowHere 26 = .ok (.iload 4, 2) := dk_21 4 (dk_at dksX5_rowHere_1 2 rfl rfl)
theorem dX5_rowHere_28 : decode cX5_rowHere 28 = .ok (.bipush 6, 2) := dk_16 6 (dk_at dksX5_rowHere_1 4 rfl rfl)
theorem dX5_rowHere_30 : decode cX5_rowHere 30 = .ok (.if_icmp .ge 56, 3) := dk_162 0 56 (dk_at dksX5_rowHere_1 6 rfl rfl)
theorem dX5_rowHere_33 : decode cX5_rowHere 33 = .ok (.iload_n 3, 1) := dk_29 (dk_at dksX5_rowHere_1 9 rfl rfl)
theorem dX5_rowHere_34 : decode cX5_rowHere 34 = .ok (.ifCond .eq 52, 3) := dk_153 0 52 (dk_at dksX5_rowHere_1 10 rfl rfl)
theorem dX5_rowHere_37 : decode cX5_rowHere 37 = .ok (.aload_n 0, 1) := dk_42 (dk_at dksX5_rowHere_1 13 rfl rfl)
theorem dX5_rowHere_38 : decode cX5_rowHere 38 = .ok (.getfield 20, 3) := dk_180 0 20 (dk_at dksX5_rowHere_1 14 rfl rfl)
theorem dX5_rowHere_41 : decode cX5_rowHere 41 = .ok (.bipush 6, 2) := dk_16 6 (dk_at dksX5_rowHere_1 17 rfl rfl)
theorem dX5_rowHere_43 : decode cX5_rowHere 43 = .ok (.iload_n 2, 1) := dk_28 (dk_at dksX5_rowHere_1 19 rfl rfl)
theorem dX5_rowHere_44 : decode cX5_rowHere 44 = .ok (.imul, 1) := dk_104 (dk_at dksX5_rowHere_1 20 rfl rfl)
theorem dX5_rowHere_45 : decode cX5_rowHere 45 = .ok (.iload 4, 2) := dk_21 4 (dk_at dksX5_rowHere_1 21 rfl rfl)
theorem dX5_rowHere_47 : decode cX5_rowHere 47 = .ok (.iadd, 1) := dk_96 (dk_at dksX5_rowHere_1 23 rfl rfl)
theorem dX5_rowHere_48 : decode cX5_rowHere 48 = .ok (.baload, 1) := dk_51 (dk_at dksX5_rowHere_2 0 rfl rfl)
theorem dX5_rowHere_49 : decode cX5_rowHere 49 = .ok (.iload 4, 2) := dk_21 4 (dk_at dksX5_rowHere_2 1 rfl rfl)
theorem dX5_rowHere_51 : decode cX5_rowHere 51 = .ok (.iload_n 1, 1) := dk_27 (dk_at dksX5_rowHere_2 3 rfl rfl)
theorem dX5_rowHere_52 : decode cX5_rowHere 52 = .ok (.if_icmp .ge 18, 3) := dk_162 0 18 (dk_at dksX5_rowHere_2 4 rfl rfl)
theorem dX5_rowHere_55 : decode cX5_rowHere 55 = .ok (.aload_n 0, 1) := dk_42 (dk_at dksX5_rowHere_2 7 rfl rfl)
theorem dX5_rowHere_56 : decode cX5_rowHere 56 = .ok (.getfield 45, 3) := dk_180 0 45 (dk_at dksX5_rowHere_2 8 rfl rfl)
theorem dX5_rowHere_59 : decode cX5_rowHere 59 = .ok (.aload_n 0, 1) := dk_42 (dk_at dksX5_rowHere_2 11 rfl rfl)
theorem dX5_rowHere_60 : decode cX5_rowHere 60 = .ok (.getfield 94, 3) := dk_180 0 94 (dk_at dksX5_rowHere_2 12 rfl rfl)
theorem dX5_rowHere_63 : decode cX5_rowHere 63 = .ok (.iload 4, 2) := dk_21 4 (dk_at dksX5_rowHere_2 15 rfl rfl)
theorem dX5_rowHere_65 : decode cX5_rowHere 65 = .ok (.iadd, 1) := dk_96 (dk_at dksX5_rowHere_2 17 rfl rfl)
theorem dX5_rowHere_66 : decode cX5_rowHere 66 = .ok (.baload, 1) := dk_51 (dk_at dksX5_rowHere_2 18 rfl rfl)
theorem dX5_rowHere_67 : decode cX5_rowHere 67 = .ok (.goto 4, 3) := dk_167 0 4 (dk_at dksX5_rowHere_2 19 rfl rfl)
theorem dX5_rowHere_70 : decode cX5_rowHere 70 = .ok (.iconst 0, 1) := dk_3 (dk_at dksX5_rowHere_2 22 rfl rfl)
theorem dX5_rowHere_71 : decode cX5_rowHere 71 = .ok (.if_icmp .ne 7, 3) := dk_160 0 7 (dk_at dksX5_rowHere_3 0 rfl rfl)
theorem dX5_rowHere_74 : decode cX5_rowHere 74 = .ok (.iconst 1, 1) := dk_4 (dk_at dksX5_rowHere_3 3 rfl rfl)
theorem dX5_rowHere_75 : decode cX5_rowHere 75 = .ok (.goto 4, 3) := dk_167 0 4 (dk_at dksX5_rowHere_3 4 rfl rfl)
theorem dX5_rowHere_78 : decode cX5_rowHere 78 = .ok (.iconst 0, 1) := dk_3 (dk_at dksX5_rowHere_3 7 rfl rfl)
theorem dX5_rowHere_79 : decode cX5_rowHere 79 = .ok (.istore_n 3, 1) := dk_62 (dk_at dksX5_rowHere_3 8 rfl rfl)
theorem dX5_rowHere_80 : decode cX5_rowHere 80 = .ok (.iinc 4 1, 3) := dk_132 4 1 (dk_at dksX5_rowHere_3 9 rfl rfl)
theorem dX5_rowHere_83 : decode cX5_rowHere 83 = .ok (.goto (-57), 3) := dk_167 255 199 (dk_at dksX5_rowHere_3 12 rfl rfl)
theorem dX5_rowHere_86 : decode cX5_rowHere 86 = .ok (.iload_n 3, 1) := dk_29 (dk_at dksX5_rowHere_3 15 rfl rfl)
theorem dX5_rowHere_87 : decode cX5_rowHere 87 = .ok (.ifCond .eq 5, 3) := dk_153 0 5 (dk_at dksX5_rowHere_3 16 rfl rfl)
theorem dX5_rowHere_90 : decode cX5_rowHere 90 = .ok (.iload_n 2, 1) := dk_28 (dk_at dksX5_rowHere_3 19 rfl rfl)
theorem dX5_rowHere_91 : decode cX5_rowHere 91 = .ok (.ireturn, 1) := dk_172 (dk_at dksX5_rowHere_3 20 rfl rfl)
theorem dX5_rowHere_92 : decode cX5_rowHere 92 = .ok (.iinc 2 1, 3) := dk_132 2 1 (dk_at dksX5_rowHere_3 21 rfl rfl)
theorem dX5_rowHere_95 : decode cX5_rowHere 95 = .ok (.goto (-93), 3) := dk_167 255 163 (dk_at dksX5_rowHere_4 0 rfl rfl)
theorem dX5_rowHere_98 : decode cX5_rowHere 98 = .ok (.iconst (-1), 1) := dk_2 (dk_at dksX5_rowHere_4 3 rfl rfl)
theorem dX5_rowHere_99 : decode cX5_rowHere 99 = .ok (.ireturn, 1) := dk_172 (dk_at dksX5_rowHere_4 4 rfl rfl)
abbrev cX5_reads : ByteArray := prog_17_method_22_code
def yX5_reads : MethodName := ⟨RX5, "reads", "(IIII)V"⟩
def dkwX5_reads_1 : List UInt8 := [79, 177]
abbrev dktX5_reads_1 : List UInt8 := dkwX5_reads_1 ++ []
def dkwX5_reads_0 : List UInt8 := [42, 28, 29, 21, 4, 182, 0, 155, 54, 5, 42, 182, 0, 114, 153, 0, 11, 42, 180, 0, 17, 27, 21, 5]
abbrev dktX5_reads_0 : List UInt8 := dkwX5_reads_0 ++ dktX5_reads_1
theorem dksX5_reads_0 : cX5_reads.data.toList.drop 0 = dktX5_reads_0 := by decide +kernel
theorem dksX5_reads_1 : cX5_reads.data.toList.drop 24 = dktX5_reads_1 := dk_seg dksX5_reads_0 24 rfl rfl
theorem dX5_reads_0 : decode cX5_reads 0 = .ok (.aload_n 0, 1) := dk_42 (dk_at dksX5_reads_0 0 rfl rfl)
theorem dX5_reads_1 : decode cX5_reads 1 = .ok (.iload_n 2, 1) := dk_28 (dk_at dksX5_reads_0 1 rfl rfl)
theorem dX5_reads_2 : decode cX5_reads 2 = .ok (.iload_n 3, 1) := dk_29 (dk_at dksX5_reads_0 2 rfl rfl)
theorem dX5_reads_3 : decode cX5_reads 3 = .ok (.iload 4, 2) := dk_21 4 (dk_at dksX5_reads_0 3 rfl rfl)
theorem dX5_reads_5 : decode cX5_reads 5 = .ok (.invokevirtual 155, 3) := dk_182 0 155 (dk_at dksX5_reads_0 5 rfl rfl)
theorem dX5_reads_8 : decode cX5_reads 8 = .ok (.istore 5, 2) := dk_54 5 (dk_at dksX5_reads_0 8 rfl rfl)
theorem dX5_reads_10 : decode cX5_reads 10 = .ok (.aload_n 0, 1) := dk_42 (dk_at dksX5_reads_0 10 rfl rfl)
theorem dX5_reads_11 : decode cX5_reads 11 = .ok (.invokevirtual 114, 3) := dk_182 0 114 (dk_at dksX5_reads_0 11 rfl rfl)
theorem dX5_reads_14 : decode cX5_reads 14 = .ok (.ifCond .eq 11, 3) := dk_153 0 11 (dk_at dksX5_reads_0 14 rfl rfl)
theorem dX5_reads_17 : decode cX5_reads 17 = .ok (.aload_n 0, 1) := dk_42 (dk_at dksX5_reads_0 17 rfl rfl)
theorem dX5_reads_18 : decode cX5_reads 18 = .ok (.getfield 17, 3) := dk_180 0 17 (dk_at dksX5_reads_0 18 rfl rfl)
theorem dX5_reads_21 : decode cX5_reads 21 = .ok (.iload_n 1, 1) := dk_27 (dk_at dksX5_reads_0 21 rfl rfl)
theorem dX5_reads_22 : decode cX5_reads 22 = .ok (.iload 5, 2) := dk_21 5 (dk_at dksX5_reads_0 22 rfl rfl)
theorem dX5_reads_24 : decode cX5_reads 24 = .ok (.iastore, 1) := dk_79 (dk_at dksX5_reads_1 0 rfl rfl)
theorem dX5_reads_25 : decode cX5_reads 25 = .ok (.return_, 1) := dk_177 (dk_at dksX5_reads_1 1 rfl rfl)
abbrev cX5_number : ByteArray := prog_17_method_21_code
def yX5_number : MethodName := ⟨RX5, "number", "(III)I"⟩
def dkwX5_number_5 : List UInt8 := [112, 153, 0, 11, 42, 42, 180, 0, 101, 182, 0, 152, 21, 5, 172]
abbrev dktX5_number_5 : List UInt8 := dkwX5_number_5 ++ []
def dkwX5_number_4 : List UInt8 := [180, 0, 101, 100, 8, 163, 0, 23, 21, 5, 133, 27, 133, 28, 133, 184, 0, 90, 153, 0, 10, 21, 5, 29]
abbrev dktX5_number_4 : List UInt8 := dkwX5_number_4 ++ dktX5_number_5
def dkwX5_number_3 : List UInt8 := [181, 0, 94, 167, 255, 203, 42, 180, 0, 94, 42, 180, 0, 101, 159, 0, 36, 42, 180, 0, 94, 42]
abbrev dktX5_number_3 : List UInt8 := dkwX5_number_3 ++ dktX5_number_4
def dkwX5_number_2 : List UInt8 := [42, 182, 0, 97, 96, 16, 48, 100, 167, 0, 5, 21, 5, 54, 5, 42, 89, 180, 0, 94, 4, 96]
abbrev dktX5_number_2 : List UInt8 := dkwX5_number_2 ++ dktX5_number_3
def dkwX5_number_1 : List UInt8 := [184, 0, 149, 153, 0, 49, 42, 180, 0, 94, 42, 180, 0, 101, 100, 8, 162, 0, 19, 16, 10, 21, 5, 104]
abbrev dktX5_number_1 : List UInt8 := dkwX5_number_1 ++ dktX5_number_2
def dkwX5_number_0 : List UInt8 := [42, 182, 0, 114, 154, 0, 5, 3, 172, 42, 182, 0, 107, 54, 4, 3, 54, 5, 42, 182, 0, 97]
abbrev dktX5_number_0 : List UInt8 := dkwX5_number_0 ++ dktX5_number_1
theorem dksX5_number_0 : cX5_number.data.toList.drop 0 = dktX5_number_0 := by decide +kernel
theorem dksX5_number_1 : cX5_number.data.toList.drop 22 = dktX5_number_1 := dk_seg dksX5_number_0 22 rfl rfl
theorem dksX5_number_2 : cX5_number.data.toList.drop 46 = dktX5_number_2 := dk_seg dksX5_number_1 24 rfl rfl
theorem dksX5_number_3 : cX5_number.data.toList.drop 68 = dktX5_number_3 := dk_seg dksX5_number_2 22 rfl rfl
theorem dksX5_number_4 : cX5_number.data.toList.drop 90 = dktX5_number_4 := dk_seg dksX5_number_3 22 rfl rfl
theorem dksX5_number_5 : cX5_number.data.toList.drop 114 = dktX5_number_5 := dk_seg dksX5_number_4 24 rfl rfl
theorem dX5_number_0 : decode cX5_number 0 = .ok (.aload_n 0, 1) := dk_42 (dk_at dksX5_number_0 0 rfl rfl)
theorem dX5_number_1 : decode cX5_number 1 = .ok (.invokevirtual 114, 3) := dk_182 0 114 (dk_at dksX5_number_0 1 rfl rfl)
theorem dX5_number_4 : decode cX5_number 4 = .ok (.ifCond .ne 5, 3) := dk_154 0 5 (dk_at dksX5_number_0 4 rfl rfl)
theorem dX5_number_7 : decode cX5_number 7 = .ok (.iconst 0, 1) := dk_3 (dk_at dksX5_number_0 7 rfl rfl)
theorem dX5_number_8 : decode cX5_number 8 = .ok (.ireturn, 1) := dk_172 (dk_at dksX5_number_0 8 rfl rfl)
theorem dX5_number_9 : decode cX5_number 9 = .ok (.aload_n 0, 1) := dk_42 (dk_at dksX5_number_0 9 rfl rfl)
theorem dX5_number_10 : decode cX5_number 10 = .ok (.invokevirtual 107, 3) := dk_182 0 107 (dk_at dksX5_number_0 10 rfl rfl)
theorem dX5_number_13 : decode cX5_number 13 = .ok (.istore 4, 2) := dk_54 4 (dk_at dksX5_number_0 13 rfl rfl)
theorem dX5_number_15 : decode cX5_number 15 = .ok (.iconst 0, 1) := dk_3 (dk_at dksX5_number_0 15 rfl rfl)
theorem dX5_number_16 : decode cX5_number 16 = .ok (.istore 5, 2) := dk_54 5 (dk_at dksX5_number_0 16 rfl rfl)
theorem dX5_number_18 : decode cX5_number 18 = .ok (.aload_n 0, 1) := dk_42 (dk_at dksX5_number_0 18 rfl rfl)
theorem dX5_number_19 : decode cX5_number 19 = .ok (.invokevirtual 97, 3) := dk_182 0 97 (dk_at dksX5_number_0 19 rfl rfl)
theorem dX5_number_22 : decode cX5_number 22 = .ok (.invokestatic 149, 3) := dk_184 0 149 (dk_at dksX5_number_1 0 rfl rfl)
theorem dX5_number_25 : decode cX5_number 25 = .ok (.ifCond .eq 49, 3) := dk_153 0 49 (dk_at dksX5_number_1 3 rfl rfl)
theorem dX5_number_28 : decode cX5_number 28 = .ok (.aload_n 0, 1) := dk_42 (dk_at dksX5_number_1 6 rfl rfl)
theorem dX5_number_29 : decode cX5_number 29 = .ok (.getfield 94, 3) := dk_180 0 94 (dk_at dksX5_number_1 7 rfl rfl)
theorem dX5_number_32 : decode cX5_number 32 = .ok (.aload_n 0, 1) := dk_42 (dk_at dksX5_number_1 10 rfl rfl)
theorem dX5_number_33 : decode cX5_number 33 = .ok (.getfield 101, 3) := dk_180 0 101 (dk_at dksX5_number_1 11 rfl rfl)
theorem dX5_number_36 : decode cX5_number 36 = .ok (.isub, 1) := dk_100 (dk_at dksX5_number_1 14 rfl rfl)
theorem dX5_number_37 : decode cX5_number 37 = .ok (.iconst 5, 1) := dk_8 (dk_at dksX5_number_1 15 rfl rfl)
theorem dX5_number_38 : decode cX5_number 38 = .ok (.if_icmp .ge 19, 3) := dk_162 0 19 (dk_at dksX5_number_1 16 rfl rfl)
theorem dX5_number_41 : decode cX5_number 41 = .ok (.bipush 10, 2) := dk_16 10 (dk_at dksX5_number_1 19 rfl rfl)
theorem dX5_number_43 : decode cX5_number 43 = .ok (.iload 5, 2) := dk_21 5 (dk_at dksX5_number_1 21 rfl rfl)
theorem dX5_number_45 : decode cX5_number 45 = .ok (.imul, 1) := dk_104 (dk_at dksX5_number_1 23 rfl rfl)
theorem dX5_number_46 : decode cX5_number 46 = .ok (.aload_n 0, 1) := dk_42 (dk_at dksX5_number_2 0 rfl rfl)
theorem dX5_number_47 : decode cX5_number 47 = .ok (.invokevirtual 97, 3) := dk_182 0 97 (dk_at dksX5_number_2 1 rfl rfl)
theorem dX5_number_50 : decode cX5_number 50 = .ok (.iadd, 1) := dk_96 (dk_at dksX5_number_2 4 rfl rfl)
theorem dX5_number_51 : decode cX5_number 51 = .ok (.bipush 48, 2) := dk_16 48 (dk_at dksX5_number_2 5 rfl rfl)
theorem dX5_number_53 : decode cX5_number 53 = .ok (.isub, 1) := dk_100 (dk_at dksX5_number_2 7 rfl rfl)
theorem dX5_number_54 : decode cX5_number 54 = .ok (.goto 5, 3) := dk_167 0 5 (dk_at dksX5_number_2 8 rfl rfl)
theorem dX5_number_57 : decode cX5_number 57 = .ok (.iload 5, 2) := dk_21 5 (dk_at dksX5_number_2 11 rfl rfl)
theorem dX5_number_59 : decode cX5_number 59 = .ok (.istore 5, 2) := dk_54 5 (dk_at dksX5_number_2 13 rfl rfl)
theorem dX5_number_61 : decode cX5_number 61 = .ok (.aload_n 0, 1) := dk_42 (dk_at dksX5_number_2 15 rfl rfl)
theorem dX5_number_62 : decode cX5_number 62 = .ok (.dup, 1) := dk_89 (dk_at dksX5_number_2 16 rfl rfl)
theorem dX5_number_63 : decode cX5_number 63 = .ok (.getfield 94, 3) := dk_180 0 94 (dk_at dksX5_number_2 17 rfl rfl)
theorem dX5_number_66 : decode cX5_number 66 = .ok (.iconst 1, 1) := dk_4 (dk_at dksX5_number_2 20 rfl rfl)
theorem dX5_number_67 : decode cX5_number 67 = .ok (.iadd, 1) := dk_96 (dk_at dksX5_number_2 21 rfl rfl)
theorem dX5_number_68 : decode cX5_number 68 = .ok (.putfield 94, 3) := dk_181 0 94 (dk_at dksX5_number_3 0 rfl rfl)
theorem dX5_number_71 : decode cX5_number 71 = .ok (.goto (-53), 3) := dk_167 255 203 (dk_at dksX5_number_3 3 rfl rfl)
theorem dX5_number_74 : decode cX5_number 74 = .ok (.aload_n 0, 1) := dk_42 (dk_at dksX5_number_3 6 rfl rfl)
theorem dX5_number_75 : decode cX5_number 75 = .ok (.getfield 94, 3) := dk_180 0 94 (dk_at dksX5_number_3 7 rfl rfl)
theorem dX5_number_78 : decode cX5_number 78 = .ok (.aload_n 0, 1) := dk_42 (dk_at dksX5_number_3 10 rfl rfl)
theorem dX5_number_79 : decode cX5_number 79 = .ok (.getfield 101, 3) := dk_180 0 101 (dk_at dksX5_number_3 11 rfl rfl)
theorem dX5_number_82 : decode cX5_number 82 = .ok (.if_icmp .eq 36, 3) := dk_159 0 36 (dk_at dksX5_number_3 14 rfl rfl)
theorem dX5_number_85 : decode cX5_number 85 = .ok (.aload_n 0, 1) := dk_42 (dk_at dksX5_number_3 17 rfl rfl)
theorem dX5_number_86 : decode cX5_number 86 = .ok (.getfield 94, 3) := dk_180 0 94 (dk_at dksX5_number_3 18 rfl rfl)
theorem dX5_number_89 : decode cX5_number 89 = .ok (.aload_n 0, 1) := dk_42 (dk_at dksX5_number_3 21 rfl rfl)
theorem dX5_number_90 : decode cX5_number 90 = .ok (.getfield 101, 3) := dk_180 0 101 (dk_at dksX5_number_4 0 rfl rfl)
theorem dX5_number_93 : decode cX5_number 93 = .ok (.isub, 1) := dk_100 (dk_at dksX5_number_4 3 rfl rfl)
theorem dX5_number_94 : decode cX5_number 94 = .ok (.iconst 5, 1) := dk_8 (dk_at dksX5_number_4 4 rfl rfl)
theorem dX5_number_95 : decode cX5_number 95 = .ok (.if_icmp .gt 23, 3) := dk_163 0 23 (dk_at dksX5_number_4 5 rfl rfl)
theorem dX5_number_98 : decode cX5_number 98 = .ok (.iload 5, 2) := dk_21 5 (dk_at dksX5_number_4 8 rfl rfl)
theorem dX5_number_100 : decode cX5_number 100 = .ok (.i2l, 1) := dk_133 (dk_at dksX5_number_4 10 rfl rfl)
theorem dX5_number_101 : decode cX5_number 101 = .ok (.iload_n 1, 1) := dk_27 (dk_at dksX5_number_4 11 rfl rfl)
theorem dX5_number_102 : decode cX5_number 102 = .ok (.i2l, 1) := dk_133 (dk_at dksX5_number_4 12 rfl rfl)
theorem dX5_number_103 : decode cX5_number 103 = .ok (.iload_n 2, 1) := dk_28 (dk_at dksX5_number_4 13 rfl rfl)
theorem dX5_number_104 : decode cX5_number 104 = .ok (.i2l, 1) := dk_133 (dk_at dksX5_number_4 14 rfl rfl)
theorem dX5_number_105 : decode cX5_number 105 = .ok (.invokestatic 90, 3) := dk_184 0 90 (dk_at dksX5_number_4 15 rfl rfl)
theorem dX5_number_108 : decode cX5_number 108 = .ok (.ifCond .eq 10, 3) := dk_153 0 10 (dk_at dksX5_number_4 18 rfl rfl)
theorem dX5_number_111 : decode cX5_number 111 = .ok (.iload 5, 2) := dk_21 5 (dk_at dksX5_number_4 21 rfl rfl)
theorem dX5_number_113 : decode cX5_number 113 = .ok (.iload_n 3, 1) := dk_29 (dk_at dksX5_number_4 23 rfl rfl)
theorem dX5_number_114 : decode cX5_number 114 = .ok (.irem, 1) := dk_112 (dk_at dksX5_number_5 0 rfl rfl)
theorem dX5_number_115 : decode cX5_number 115 = .ok (.ifCond .eq 11, 3) := dk_153 0 11 (dk_at dksX5_number_5 1 rfl rfl)
theorem dX5_number_118 : decode cX5_number 118 = .ok (.aload_n 0, 1) := dk_42 (dk_at dksX5_number_5 4 rfl rfl)
theorem dX5_number_119 : decode cX5_number 119 = .ok (.aload_n 0, 1) := dk_42 (dk_at dksX5_number_5 5 rfl rfl)
theorem dX5_number_120 : decode cX5_number 120 = .ok (.getfield 101, 3) := dk_180 0 101 (dk_at dksX5_number_5 6 rfl rfl)
theorem dX5_number_123 : decode cX5_number 123 = .ok (.invokevirtual 152, 3) := dk_182 0 152 (dk_at dksX5_number_5 9 rfl rfl)
theorem dX5_number_126 : decode cX5_number 126 = .ok (.iload 5, 2) := dk_21 5 (dk_at dksX5_number_5 12 rfl rfl)
theorem dX5_number_128 : decode cX5_number 128 = .ok (.ireturn, 1) := dk_172 (dk_at dksX5_number_5 14 rfl rfl)
abbrev cX5_isDigit : ByteArray := prog_17_method_16_code
def yX5_isDigit : MethodName := ⟨RX5, "isDigit", "(I)Z"⟩
def dkwX5_isDigit_0 : List UInt8 := [26, 16, 48, 161, 0, 13, 26, 16, 57, 163, 0, 7, 4, 167, 0, 4, 3, 172]
abbrev dktX5_isDigit_0 : List UInt8 := dkwX5_isDigit_0 ++ []
theorem dksX5_isDigit_0 : cX5_isDigit.data.toList.drop 0 = dktX5_isDigit_0 := by decide +kernel
theorem dX5_isDigit_0 : decode cX5_isDigit 0 = .ok (.iload_n 0, 1) := dk_26 (dk_at dksX5_isDigit_0 0 rfl rfl)
theorem dX5_isDigit_1 : decode cX5_isDigit 1 = .ok (.bipush 48, 2) := dk_16 48 (dk_at dksX5_isDigit_0 1 rfl rfl)
theorem dX5_isDigit_3 : decode cX5_isDigit 3 = .ok (.if_icmp .lt 13, 3) := dk_161 0 13 (dk_at dksX5_isDigit_0 3 rfl rfl)
theorem dX5_isDigit_6 : decode cX5_isDigit 6 = .ok (.iload_n 0, 1) := dk_26 (dk_at dksX5_isDigit_0 6 rfl rfl)
theorem dX5_isDigit_7 : decode cX5_isDigit 7 = .ok (.bipush 57, 2) := dk_16 57 (dk_at dksX5_isDigit_0 7 rfl rfl)
theorem dX5_isDigit_9 : decode cX5_isDigit 9 = .ok (.if_icmp .gt 7, 3) := dk_163 0 7 (dk_at dksX5_isDigit_0 9 rfl rfl)
theorem dX5_isDigit_12 : decode cX5_isDigit 12 = .ok (.iconst 1, 1) := dk_4 (dk_at dksX5_isDigit_0 12 rfl rfl)
theorem dX5_isDigit_13 : decode cX5_isDigit 13 = .ok (.goto 4, 3) := dk_167 0 4 (dk_at dksX5_isDigit_0 13 rfl rfl)
theorem dX5_isDigit_16 : decode cX5_isDigit 16 = .ok (.iconst 0, 1) := dk_3 (dk_at dksX5_isDigit_0 16 rfl rfl)
theorem dX5_isDigit_17 : decode cX5_isDigit 17 = .ok (.ireturn, 1) := dk_172 (dk_at dksX5_isDigit_0 17 rfl rfl)
abbrev cX5_readsType : ByteArray := prog_17_method_28_code
def yX5_readsType : MethodName := ⟨RX5, "readsType", "()V"⟩
def dkwX5_readsType_1 : List UInt8 := [92, 46, 4, 96, 79, 177]
abbrev dktX5_readsType_1 : List UInt8 := dkwX5_readsType_1 ++ []
def dkwX5_readsType_0 : List UInt8 := [42, 4, 16, 6, 182, 0, 167, 42, 4, 182, 0, 171, 42, 182, 0, 114, 153, 0, 13, 42, 180, 0, 17, 4]
abbrev dktX5_readsType_0 : List UInt8 := dkwX5_readsType_0 ++ dktX5_readsType_1
theorem dksX5_readsType_0 : cX5_readsType.data.toList.drop 0 = dktX5_readsType_0 := by decide +kernel
theorem dksX5_readsType_1 : cX5_readsType.data.toList.drop 24 = dktX5_readsType_1 := dk_seg dksX5_readsType_0 24 rfl rfl
theorem dX5_readsType_0 : decode cX5_readsType 0 = .ok (.aload_n 0, 1) := dk_42 (dk_at dksX5_readsType_0 0 rfl rfl)
theorem dX5_readsType_1 : decode cX5_readsType 1 = .ok (.iconst 1, 1) := dk_4 (dk_at dksX5_readsType_0 1 rfl rfl)
theorem dX5_readsType_2 : decode cX5_readsType 2 = .ok (.bipush 6, 2) := dk_16 6 (dk_at dksX5_readsType_0 2 rfl rfl)
theorem dX5_readsType_4 : decode cX5_readsType 4 = .ok (.invokevirtual 167, 3) := dk_182 0 167 (dk_at dksX5_readsType_0 4 rfl rfl)
theorem dX5_readsType_7 : decode cX5_readsType 7 = .ok (.aload_n 0, 1) := dk_42 (dk_at dksX5_readsType_0 7 rfl rfl)
theorem dX5_readsType_8 : decode cX5_readsType 8 = .ok (.iconst 1, 1) := dk_4 (dk_at dksX5_readsType_0 8 rfl rfl)
theorem dX5_readsType_9 : decode cX5_readsType 9 = .ok (.invokevirtual 171, 3) := dk_182 0 171 (dk_at dksX5_readsType_0 9 rfl rfl)
theorem dX5_readsType_12 : decode cX5_readsType 12 = .ok (.aload_n 0, 1) := dk_42 (dk_at dksX5_readsType_0 12 rfl rfl)
theorem dX5_readsType_13 : decode cX5_readsType 13 = .ok (.invokevirtual 114, 3) := dk_182 0 114 (dk_at dksX5_readsType_0 13 rfl rfl)
theorem dX5_readsType_16 : decode cX5_readsType 16 = .ok (.ifCond .eq 13, 3) := dk_153 0 13 (dk_at dksX5_readsType_0 16 rfl rfl)
theorem dX5_readsType_19 : decode cX5_readsType 19 = .ok (.aload_n 0, 1) := dk_42 (dk_at dksX5_readsType_0 19 rfl rfl)
theorem dX5_readsType_20 : decode cX5_readsType 20 = .ok (.getfield 17, 3) := dk_180 0 17 (dk_at dksX5_readsType_0 20 rfl rfl)
theorem dX5_readsType_23 : decode cX5_readsType 23 = .ok (.iconst 1, 1) := dk_4 (dk_at dksX5_readsType_0 23 rfl rfl)
theorem dX5_readsType_24 : decode cX5_readsType 24 = .ok (.dup2, 1) := dk_92 (dk_at dksX5_readsType_1 0 rfl rfl)
theorem dX5_readsType_25 : decode cX5_readsType 25 = .ok (.iaload, 1) := dk_46 (dk_at dksX5_readsType_1 1 rfl rfl)
theorem dX5_readsType_26 : decode cX5_readsType 26 = .ok (.iconst 1, 1) := dk_4 (dk_at dksX5_readsType_1 2 rfl rfl)
theorem dX5_readsType_27 : decode cX5_readsType 27 = .ok (.iadd, 1) := dk_96 (dk_at dksX5_readsType_1 3 rfl rfl)
theorem dX5_readsType_28 : decode cX5_readsType 28 = .ok (.iastore, 1) := dk_79 (dk_at dksX5_readsType_1 4 rfl rfl)
theorem dX5_readsType_29 : decode cX5_readsType 29 = .ok (.return_, 1) := dk_177 (dk_at dksX5_readsType_1 5 rfl rfl)
abbrev cX5_readsKind : ByteArray := prog_17_method_29_code
def yX5_readsKind : MethodName := ⟨RX5, "readsKind", "()V"⟩
def dkwX5_readsKind_3 : List UInt8 := [46, 4, 96, 79, 177]
abbrev dktX5_readsKind_3 : List UInt8 := dkwX5_readsKind_3 ++ []
def dkwX5_readsKind_2 : List UInt8 := [4, 182, 0, 174, 42, 16, 44, 27, 96, 3, 17, 0, 240, 16, 15, 182, 0, 174, 42, 180, 0, 17, 5, 92]
abbrev dktX5_readsKind_2 : List UInt8 := dkwX5_readsKind_2 ++ dktX5_readsKind_3
def dkwX5_readsKind_1 : List UInt8 := [5, 46, 60, 42, 16, 32, 27, 96, 4, 16, 50, 4, 182, 0, 174, 42, 16, 38, 27, 96, 3, 17, 1, 244]
abbrev dktX5_readsKind_1 : List UInt8 := dkwX5_readsKind_1 ++ dktX5_readsKind_2
def dkwX5_readsKind_0 : List UInt8 := [42, 5, 16, 6, 182, 0, 167, 42, 5, 182, 0, 171, 42, 182, 0, 114, 154, 0, 4, 177, 42, 180, 0, 17]
abbrev dktX5_readsKind_0 : List UInt8 := dkwX5_readsKind_0 ++ dktX5_readsKind_1
theorem dksX5_readsKind_0 : cX5_readsKind.data.toList.drop 0 = dktX5_readsKind_0 := by decide +kernel
theorem dksX5_readsKind_1 : cX5_readsKind.data.toList.drop 24 = dktX5_readsKind_1 := dk_seg dksX5_readsKind_0 24 rfl rfl
theorem dksX5_readsKind_2 : cX5_readsKind.data.toList.drop 48 = dktX5_readsKind_2 := dk_seg dksX5_readsKind_1 24 rfl rfl
theorem dksX5_readsKind_3 : cX5_readsKind.data.toList.drop 72 = dktX5_readsKind_3 := dk_seg dksX5_readsKind_2 24 rfl rfl
theorem dX5_readsKind_0 : decode cX5_readsKind 0 = .ok (.aload_n 0, 1) := dk_42 (dk_at dksX5_readsKind_0 0 rfl rfl)
theorem dX5_readsKind_1 : decode cX5_readsKind 1 = .ok (.iconst 2, 1) := dk_5 (dk_at dksX5_readsKind_0 1 rfl rfl)
theorem dX5_readsKind_2 : decode cX5_readsKind 2 = .ok (.bipush 6, 2) := dk_16 6 (dk_at dksX5_readsKind_0 2 rfl rfl)
theorem dX5_readsKind_4 : decode cX5_readsKind 4 = .ok (.invokevirtual 167, 3) := dk_182 0 167 (dk_at dksX5_readsKind_0 4 rfl rfl)
theorem dX5_readsKind_7 : decode cX5_readsKind 7 = .ok (.aload_n 0, 1) := dk_42 (dk_at dksX5_readsKind_0 7 rfl rfl)
theorem dX5_readsKind_8 : decode cX5_readsKind 8 = .ok (.iconst 2, 1) := dk_5 (dk_at dksX5_readsKind_0 8 rfl rfl)
theorem dX5_readsKind_9 : decode cX5_readsKind 9 = .ok (.invokevirtual 171, 3) := dk_182 0 171 (dk_at dksX5_readsKind_0 9 rfl rfl)
theorem dX5_readsKind_12 : decode cX5_readsKind 12 = .ok (.aload_n 0, 1) := dk_42 (dk_at dksX5_readsKind_0 12 rfl rfl)
theorem dX5_readsKind_13 : decode cX5_readsKind 13 = .ok (.invokevirtual 114, 3) := dk_182 0 114 (dk_at dksX5_readsKind_0 13 rfl rfl)
theorem dX5_readsKind_16 : decode cX5_readsKind 16 = .ok (.ifCond .ne 4, 3) := dk_154 0 4 (dk_at dksX5_readsKind_0 16 rfl rfl)
theorem dX5_readsKind_19 : decode cX5_readsKind 19 = .ok (.return_, 1) := dk_177 (dk_at dksX5_readsKind_0 19 rfl rfl)
theorem dX5_readsKind_20 : decode cX5_readsKind 20 = .ok (.aload_n 0, 1) := dk_42 (dk_at dksX5_readsKind_0 20 rfl rfl)
theorem dX5_readsKind_21 : decode cX5_readsKind 21 = .ok (.getfield 17, 3) := dk_180 0 17 (dk_at dksX5_readsKind_0 21 rfl rfl)
theorem dX5_readsKind_24 : decode cX5_readsKind 24 = .ok (.iconst 2, 1) := dk_5 (dk_at dksX5_readsKind_1 0 rfl rfl)
theorem dX5_readsKind_25 : decode cX5_readsKind 25 = .ok (.iaload, 1) := dk_46 (dk_at dksX5_readsKind_1 1 rfl rfl)
theorem dX5_readsKind_26 : decode cX5_readsKind 26 = .ok (.istore_n 1, 1) := dk_60 (dk_at dksX5_readsKind_1 2 rfl rfl)
theorem dX5_readsKind_27 : decode cX5_readsKind 27 = .ok (.aload_n 0, 1) := dk_42 (dk_at dksX5_readsKind_1 3 rfl rfl)
theorem dX5_readsKind_28 : decode cX5_readsKind 28 = .ok (.bipush 32, 2) := dk_16 32 (dk_at dksX5_readsKind_1 4 rfl rfl)
theorem dX5_readsKind_30 : decode cX5_readsKind 30 = .ok (.iload_n 1, 1) := dk_27 (dk_at dksX5_readsKind_1 6 rfl rfl)
theorem dX5_readsKind_31 : decode cX5_readsKind 31 = .ok (.iadd, 1) := dk_96 (dk_at dksX5_readsKind_1 7 rfl rfl)
theorem dX5_readsKind_32 : decode cX5_readsKind 32 = .ok (.iconst 1, 1) := dk_4 (dk_at dksX5_readsKind_1 8 rfl rfl)
theorem dX5_readsKind_33 : decode cX5_readsKind 33 = .ok (.bipush 50, 2) := dk_16 50 (dk_at dksX5_readsKind_1 9 rfl rfl)
theorem dX5_readsKind_35 : decode cX5_readsKind 35 = .ok (.iconst 1, 1) := dk_4 (dk_at dksX5_readsKind_1 11 rfl rfl)
theorem dX5_readsKind_36 : decode cX5_readsKind 36 = .ok (.invokevirtual 174, 3) := dk_182 0 174 (dk_at dksX5_readsKind_1 12 rfl rfl)
theorem dX5_readsKind_39 : decode cX5_readsKind 39 = .ok (.aload_n 0, 1) := dk_42 (dk_at dksX5_readsKind_1 15 rfl rfl)
theorem dX5_readsKind_40 : decode cX5_readsKind 40 = .ok (.bipush 38, 2) := dk_16 38 (dk_at dksX5_readsKind_1 16 rfl rfl)
theorem dX5_readsKind_42 : decode cX5_readsKind 42 = .ok (.iload_n 1, 1) := dk_27 (dk_at dksX5_readsKind_1 18 rfl rfl)
theorem dX5_readsKind_43 : decode cX5_readsKind 43 = .ok (.iadd, 1) := dk_96 (dk_at dksX5_readsKind_1 19 rfl rfl)
theorem dX5_readsKind_44 : decode cX5_readsKind 44 = .ok (.iconst 0, 1) := dk_3 (dk_at dksX5_readsKind_1 20 rfl rfl)
theorem dX5_readsKind_45 : decode cX5_readsKind 45 = .ok (.sipush 500, 3) := dk_17 1 244 (dk_at dksX5_readsKind_1 21 rfl rfl)
theorem dX5_readsKind_48 : decode cX5_readsKind 48 = .ok (.iconst 1, 1) := dk_4 (dk_at dksX5_readsKind_2 0 rfl rfl)
theorem dX5_readsKind_49 : decode cX5_readsKind 49 = .ok (.invokevirtual 174, 3) := dk_182 0 174 (dk_at dksX5_readsKind_2 1 rfl rfl)
theorem dX5_readsKind_52 : decode cX5_readsKind 52 = .ok (.aload_n 0, 1) := dk_42 (dk_at dksX5_readsKind_2 4 rfl rfl)
theorem dX5_readsKind_53 : decode cX5_readsKind 53 = .ok (.bipush 44, 2) := dk_16 44 (dk_at dksX5_readsKind_2 5 rfl rfl)
theorem dX5_readsKind_55 : decode cX5_readsKind 55 = .ok (.iload_n 1, 1) := dk_27 (dk_at dksX5_readsKind_2 7 rfl rfl)
theorem dX5_readsKind_56 : decode cX5_readsKind 56 = .ok (.iadd, 1) := dk_96 (dk_at dksX5_readsKind_2 8 rfl rfl)
theorem dX5_readsKind_57 : decode cX5_readsKind 57 = .ok (.iconst 0, 1) := dk_3 (dk_at dksX5_readsKind_2 9 rfl rfl)
theorem dX5_readsKind_58 : decode cX5_readsKind 58 = .ok (.sipush 240, 3) := dk_17 0 240 (dk_at dksX5_readsKind_2 10 rfl rfl)
theorem dX5_readsKind_61 : decode cX5_readsKind 61 = .ok (.bipush 15, 2) := dk_16 15 (dk_at dksX5_readsKind_2 13 rfl rfl)
theorem dX5_readsKind_63 : decode cX5_readsKind 63 = .ok (.invokevirtual 174, 3) := dk_182 0 174 (dk_at dksX5_readsKind_2 15 rfl rfl)
theorem dX5_readsKind_66 : decode cX5_readsKind 66 = .ok (.aload_n 0, 1) := dk_42 (dk_at dksX5_readsKind_2 18 rfl rfl)
theorem dX5_readsKind_67 : decode cX5_readsKind 67 = .ok (.getfield 17, 3) := dk_180 0 17 (dk_at dksX5_readsKind_2 19 rfl rfl)
theorem dX5_readsKind_70 : decode cX5_readsKind 70 = .ok (.iconst 2, 1) := dk_5 (dk_at dksX5_readsKind_2 22 rfl rfl)
theorem dX5_readsKind_71 : decode cX5_readsKind 71 = .ok (.dup2, 1) := dk_92 (dk_at dksX5_readsKind_2 23 rfl rfl)
theorem dX5_readsKind_72 : decode cX5_readsKind 72 = .ok (.iaload, 1) := dk_46 (dk_at dksX5_readsKind_3 0 rfl rfl)
theorem dX5_readsKind_73 : decode cX5_readsKind 73 = .ok (.iconst 1, 1) := dk_4 (dk_at dksX5_readsKind_3 1 rfl rfl)
theorem dX5_readsKind_74 : decode cX5_readsKind 74 = .ok (.iadd, 1) := dk_96 (dk_at dksX5_readsKind_3 2 rfl rfl)
theorem dX5_readsKind_75 : decode cX5_readsKind 75 = .ok (.iastore, 1) := dk_79 (dk_at dksX5_readsKind_3 3 rfl rfl)
theorem dX5_readsKind_76 : decode cX5_readsKind 76 = .ok (.return_, 1) := dk_177 (dk_at dksX5_readsKind_3 4 rfl rfl)
abbrev cX5_readsSetup : ByteArray := prog_17_method_30_code
def yX5_readsSetup : MethodName := ⟨RX5, "readsSetup", "()V"⟩
def dkwX5_readsSetup_1 : List UInt8 := [27, 104, 96, 28, 96, 3, 17, 2, 88, 16, 15, 182, 0, 174, 177]
abbrev dktX5_readsSetup_1 : List UInt8 := dkwX5_readsSetup_1 ++ []
def dkwX5_readsSetup_0 : List UInt8 := [42, 4, 182, 0, 178, 60, 42, 4, 182, 0, 178, 61, 42, 182, 0, 114, 153, 0, 22, 42, 16, 50, 16, 6]
abbrev dktX5_readsSetup_0 : List UInt8 := dkwX5_readsSetup_0 ++ dktX5_readsSetup_1
theorem dksX5_readsSetup_0 : cX5_readsSetup.data.toList.drop 0 = dktX5_readsSetup_0 := by decide +kernel
theorem dksX5_readsSetup_1 : cX5_readsSetup.data.toList.drop 24 = dktX5_readsSetup_1 := dk_seg dksX5_readsSetup_0 24 rfl rfl
theorem dX5_readsSetup_0 : decode cX5_readsSetup 0 = .ok (.aload_n 0, 1) := dk_42 (dk_at dksX5_readsSetup_0 0 rfl rfl)
theorem dX5_readsSetup_1 : decode cX5_readsSetup 1 = .ok (.iconst 1, 1) := dk_4 (dk_at dksX5_readsSetup_0 1 rfl rfl)
theorem dX5_readsSetup_2 : decode cX5_readsSetup 2 = .ok (.invokevirtual 178, 3) := dk_182 0 178 (dk_at dksX5_readsSetup_0 2 rfl rfl)
theorem dX5_readsSetup_5 : decode cX5_readsSetup 5 = .ok (.istore_n 1, 1) := dk_60 (dk_at dksX5_readsSetup_0 5 rfl rfl)
theorem dX5_readsSetup_6 : decode cX5_readsSetup 6 = .ok (.aload_n 0, 1) := dk_42 (dk_at dksX5_readsSetup_0 6 rfl rfl)
theorem dX5_readsSetup_7 : decode cX5_readsSetup 7 = .ok (.iconst 1, 1) := dk_4 (dk_at dksX5_readsSetup_0 7 rfl rfl)
theorem dX5_readsSetup_8 : decode cX5_readsSetup 8 = .ok (.invokevirtual 178, 3) := dk_182 0 178 (dk_at dksX5_readsSetup_0 8 rfl rfl)
theorem dX5_readsSetup_11 : decode cX5_readsSetup 11 = .ok (.istore_n 2, 1) := dk_61 (dk_at dksX5_readsSetup_0 11 rfl rfl)
theorem dX5_readsSetup_12 : decode cX5_readsSetup 12 = .ok (.aload_n 0, 1) := dk_42 (dk_at dksX5_readsSetup_0 12 rfl rfl)
theorem dX5_readsSetup_13 : decode cX5_readsSetup 13 = .ok (.invokevirtual 114, 3) := dk_182 0 114 (dk_at dksX5_readsSetup_0 13 rfl rfl)
theorem dX5_readsSetup_16 : decode cX5_readsSetup 16 = .ok (.ifCond .eq 22, 3) := dk_153 0 22 (dk_at dksX5_readsSetup_0 16 rfl rfl)
theorem dX5_readsSetup_19 : decode cX5_readsSetup 19 = .ok (.aload_n 0, 1) := dk_42 (dk_at dksX5_readsSetup_0 19 rfl rfl)
theorem dX5_readsSetup_20 : decode cX5_readsSetup 20 = .ok (.bipush 50, 2) := dk_16 50 (dk_at dksX5_readsSetup_0 20 rfl rfl)
theorem dX5_readsSetup_22 : decode cX5_readsSetup 22 = .ok (.bipush 6, 2) := dk_16 6 (dk_at dksX5_readsSetup_0 22 rfl rfl)
theorem dX5_readsSetup_24 : decode cX5_readsSetup 24 = .ok (.iload_n 1, 1) := dk_27 (dk_at dksX5_readsSetup_1 0 rfl rfl)
theorem dX5_readsSetup_25 : decode cX5_readsSetup 25 = .ok (.imul, 1) := dk_104 (dk_at dksX5_readsSetup_1 1 rfl rfl)
theorem dX5_readsSetup_26 : decode cX5_readsSetup 26 = .ok (.iadd, 1) := dk_96 (dk_at dksX5_readsSetup_1 2 rfl rfl)
theorem dX5_readsSetup_27 : decode cX5_readsSetup 27 = .ok (.iload_n 2, 1) := dk_28 (dk_at dksX5_readsSetup_1 3 rfl rfl)
theorem dX5_readsSetup_28 : decode cX5_readsSetup 28 = .ok (.iadd, 1) := dk_96 (dk_at dksX5_readsSetup_1 4 rfl rfl)
theorem dX5_readsSetup_29 : decode cX5_readsSetup 29 = .ok (.iconst 0, 1) := dk_3 (dk_at dksX5_readsSetup_1 5 rfl rfl)
theorem dX5_readsSetup_30 : decode cX5_readsSetup 30 = .ok (.sipush 600, 3) := dk_17 2 88 (dk_at dksX5_readsSetup_1 6 rfl rfl)
theorem dX5_readsSetup_33 : decode cX5_readsSetup 33 = .ok (.bipush 15, 2) := dk_16 15 (dk_at dksX5_readsSetup_1 9 rfl rfl)
theorem dX5_readsSetup_35 : decode cX5_readsSetup 35 = .ok (.invokevirtual 174, 3) := dk_182 0 174 (dk_at dksX5_readsSetup_1 11 rfl rfl)
theorem dX5_readsSetup_38 : decode cX5_readsSetup 38 = .ok (.return_, 1) := dk_177 (dk_at dksX5_readsSetup_1 14 rfl rfl)
abbrev cX5_named : ByteArray := prog_17_method_25_code
def yX5_named : MethodName := ⟨RX5, "named", "(I)I"⟩
def dkwX5_named_2 : List UInt8 := [89, 180, 0, 94, 28, 96, 181, 0, 94, 42, 180, 0, 27, 29, 46, 172]
abbrev dktX5_named_2 : List UInt8 := dkwX5_named_2 ++ []
def dkwX5_named_1 : List UInt8 := [159, 0, 13, 42, 180, 0, 24, 29, 46, 27, 159, 0, 13, 42, 42, 180, 0, 101, 182, 0, 152, 3, 172, 42]
abbrev dktX5_named_1 : List UInt8 := dkwX5_named_1 ++ dktX5_named_2
def dkwX5_named_0 : List UInt8 := [42, 182, 0, 114, 154, 0, 5, 3, 172, 42, 182, 0, 118, 61, 42, 28, 182, 0, 164, 62, 29, 2]
abbrev dktX5_named_0 : List UInt8 := dkwX5_named_0 ++ dktX5_named_1
theorem dksX5_named_0 : cX5_named.data.toList.drop 0 = dktX5_named_0 := by decide +kernel
theorem dksX5_named_1 : cX5_named.data.toList.drop 22 = dktX5_named_1 := dk_seg dksX5_named_0 22 rfl rfl
theorem dksX5_named_2 : cX5_named.data.toList.drop 46 = dktX5_named_2 := dk_seg dksX5_named_1 24 rfl rfl
theorem dX5_named_0 : decode cX5_named 0 = .ok (.aload_n 0, 1) := dk_42 (dk_at dksX5_named_0 0 rfl rfl)
theorem dX5_named_1 : decode cX5_named 1 = .ok (.invokevirtual 114, 3) := dk_182 0 114 (dk_at dksX5_named_0 1 rfl rfl)
theorem dX5_named_4 : decode cX5_named 4 = .ok (.ifCond .ne 5, 3) := dk_154 0 5 (dk_at dksX5_named_0 4 rfl rfl)
theorem dX5_named_7 : decode cX5_named 7 = .ok (.iconst 0, 1) := dk_3 (dk_at dksX5_named_0 7 rfl rfl)
theorem dX5_named_8 : decode cX5_named 8 = .ok (.ireturn, 1) := dk_172 (dk_at dksX5_named_0 8 rfl rfl)
theorem dX5_named_9 : decode cX5_named 9 = .ok (.aload_n 0, 1) := dk_42 (dk_at dksX5_named_0 9 rfl rfl)
theorem dX5_named_10 : decode cX5_named 10 = .ok (.invokevirtual 118, 3) := dk_182 0 118 (dk_at dksX5_named_0 10 rfl rfl)
theorem dX5_named_13 : decode cX5_named 13 = .ok (.istore_n 2, 1) := dk_61 (dk_at dksX5_named_0 13 rfl rfl)
theorem dX5_named_14 : decode cX5_named 14 = .ok (.aload_n 0, 1) := dk_42 (dk_at dksX5_named_0 14 rfl rfl)
theorem dX5_named_15 : decode cX5_named 15 = .ok (.iload_n 2, 1) := dk_28 (dk_at dksX5_named_0 15 rfl rfl)
theorem dX5_named_16 : decode cX5_named 16 = .ok (.invokevirtual 164, 3) := dk_182 0 164 (dk_at dksX5_named_0 16 rfl rfl)
theorem dX5_named_19 : decode cX5_named 19 = .ok (.istore_n 3, 1) := dk_62 (dk_at dksX5_named_0 19 rfl rfl)
theorem dX5_named_20 : decode cX5_named 20 = .ok (.iload_n 3, 1) := dk_29 (dk_at dksX5_named_0 20 rfl rfl)
theorem dX5_named_21 : decode cX5_named 21 = .ok (.iconst (-1), 1) := dk_2 (dk_at dksX5_named_0 21 rfl rfl)
theorem dX5_named_22 : decode cX5_named 22 = .ok (.if_icmp .eq 13, 3) := dk_159 0 13 (dk_at dksX5_named_1 0 rfl rfl)
theorem dX5_named_25 : decode cX5_named 25 = .ok (.aload_n 0, 1) := dk_42 (dk_at dksX5_named_1 3 rfl rfl)
theorem dX5_named_26 : decode cX5_named 26 = .ok (.getfield 24, 3) := dk_180 0 24 (dk_at dksX5_named_1 4 rfl rfl)
theorem dX5_named_29 : decode cX5_named 29 = .ok (.iload_n 3, 1) := dk_29 (dk_at dksX5_named_1 7 rfl rfl)
theorem dX5_named_30 : decode cX5_named 30 = .ok (.iaload, 1) := dk_46 (dk_at dksX5_named_1 8 rfl rfl)
theorem dX5_named_31 : decode cX5_named 31 = .ok (.iload_n 1, 1) := dk_27 (dk_at dksX5_named_1 9 rfl rfl)
theorem dX5_named_32 : decode cX5_named 32 = .ok (.if_icmp .eq 13, 3) := dk_159 0 13 (dk_at dksX5_named_1 10 rfl rfl)
theorem dX5_named_35 : decode cX5_named 35 = .ok (.aload_n 0, 1) := dk_42 (dk_at dksX5_named_1 13 rfl rfl)
theorem dX5_named_36 : decode cX5_named 36 = .ok (.aload_n 0, 1) := dk_42 (dk_at dksX5_named_1 14 rfl rfl)
theorem dX5_named_37 : decode cX5_named 37 = .ok (.getfield 101, 3) := dk_180 0 101 (dk_at dksX5_named_1 15 rfl rfl)
theorem dX5_named_40 : decode cX5_named 40 = .ok (.invokevirtual 152, 3) := dk_182 0 152 (dk_at dksX5_named_1 18 rfl rfl)
theorem dX5_named_43 : decode cX5_named 43 = .ok (.iconst 0, 1) := dk_3 (dk_at dksX5_named_1 21 rfl rfl)
theorem dX5_named_44 : decode cX5_named 44 = .ok (.ireturn, 1) := dk_172 (dk_at dksX5_named_1 22 rfl rfl)
theorem dX5_named_45 : decode cX5_named 45 = .ok (.aload_n 0, 1) := dk_42 (dk_at dksX5_named_1 23 rfl rfl)
theorem dX5_named_46 : decode cX5_named 46 = .ok (.dup, 1) := dk_89 (dk_at dksX5_named_2 0 rfl rfl)
theorem dX5_named_47 : decode cX5_named 47 = .ok (.getfield 94, 3) := dk_180 0 94 (dk_at dksX5_named_2 1 rfl rfl)
theorem dX5_named_50 : decode cX5_named 50 = .ok (.iload_n 2, 1) := dk_28 (dk_at dksX5_named_2 4 rfl rfl)
theorem dX5_named_51 : decode cX5_named 51 = .ok (.iadd, 1) := dk_96 (dk_at dksX5_named_2 5 rfl rfl)
theorem dX5_named_52 : decode cX5_named 52 = .ok (.putfield 94, 3) := dk_181 0 94 (dk_at dksX5_named_2 6 rfl rfl)
theorem dX5_named_55 : decode cX5_named 55 = .ok (.aload_n 0, 1) := dk_42 (dk_at dksX5_named_2 9 rfl rfl)
theorem dX5_named_56 : decode cX5_named 56 = .ok (.getfield 27, 3) := dk_180 0 27 (dk_at dksX5_named_2 10 rfl rfl)
theorem dX5_named_59 : decode cX5_named 59 = .ok (.iload_n 3, 1) := dk_29 (dk_at dksX5_named_2 13 rfl rfl)
theorem dX5_named_60 : decode cX5_named 60 = .ok (.iaload, 1) := dk_46 (dk_at dksX5_named_2 14 rfl rfl)
theorem dX5_named_61 : decode cX5_named 61 = .ok (.ireturn, 1) := dk_172 (dk_at dksX5_named_2 15 rfl rfl)
abbrev cX5_readsClosed : ByteArray := prog_17_method_31_code
def yX5_readsClosed : MethodName := ⟨RX5, "readsClosed", "()V"⟩
def dkwX5_readsClosed_3 : List UInt8 := [16, 15, 182, 0, 174, 42, 180, 0, 17, 16, 6, 92, 46, 4, 96, 79, 177]
abbrev dktX5_readsClosed_3 : List UInt8 := dkwX5_readsClosed_3 ++ []
def dkwX5_readsClosed_2 : List UInt8 := [18, 181, 16, 15, 182, 0, 174, 42, 28, 5, 96, 42, 180, 0, 17, 28, 4, 96, 46, 16, 15, 96, 18, 182]
abbrev dktX5_readsClosed_2 : List UInt8 := dkwX5_readsClosed_2 ++ dktX5_readsClosed_3
def dkwX5_readsClosed_1 : List UInt8 := [6, 42, 180, 0, 17, 16, 6, 46, 104, 96, 61, 42, 180, 0, 17, 28, 27, 79, 42, 28, 4, 96, 3]
abbrev dktX5_readsClosed_1 : List UInt8 := dkwX5_readsClosed_1 ++ dktX5_readsClosed_2
def dkwX5_readsClosed_0 : List UInt8 := [42, 16, 6, 16, 16, 182, 0, 167, 42, 3, 182, 0, 178, 60, 42, 182, 0, 114, 154, 0, 4, 177, 16, 118]
abbrev dktX5_readsClosed_0 : List UInt8 := dkwX5_readsClosed_0 ++ dktX5_readsClosed_1
theorem dksX5_readsClosed_0 : cX5_readsClosed.data.toList.drop 0 = dktX5_readsClosed_0 := by decide +kernel
theorem dksX5_readsClosed_1 : cX5_readsClosed.data.toList.drop 24 = dktX5_readsClosed_1 := dk_seg dksX5_readsClosed_0 24 rfl rfl
theorem dksX5_readsClosed_2 : cX5_readsClosed.data.toList.drop 47 = dktX5_readsClosed_2 := dk_seg dksX5_readsClosed_1 23 rfl rfl
theorem dksX5_readsClosed_3 : cX5_readsClosed.data.toList.drop 71 = dktX5_readsClosed_3 := dk_seg dksX5_readsClosed_2 24 rfl rfl
theorem dX5_readsClosed_0 : decode cX5_readsClosed 0 = .ok (.aload_n 0, 1) := dk_42 (dk_at dksX5_readsClosed_0 0 rfl rfl)
theorem dX5_readsClosed_1 : decode cX5_readsClosed 1 = .ok (.bipush 6, 2) := dk_16 6 (dk_at dksX5_readsClosed_0 1 rfl rfl)
theorem dX5_readsClosed_3 : decode cX5_readsClosed 3 = .ok (.bipush 16, 2) := dk_16 16 (dk_at dksX5_readsClosed_0 3 rfl rfl)
theorem dX5_readsClosed_5 : decode cX5_readsClosed 5 = .ok (.invokevirtual 167, 3) := dk_182 0 167 (dk_at dksX5_readsClosed_0 5 rfl rfl)
theorem dX5_readsClosed_8 : decode cX5_readsClosed 8 = .ok (.aload_n 0, 1) := dk_42 (dk_at dksX5_readsClosed_0 8 rfl rfl)
theorem dX5_readsClosed_9 : decode cX5_readsClosed 9 = .ok (.iconst 0, 1) := dk_3 (dk_at dksX5_readsClosed_0 9 rfl rfl)
theorem dX5_readsClosed_10 : decode cX5_readsClosed 10 = .ok (.invokevirtual 178, 3) := dk_182 0 178 (dk_at dksX5_readsClosed_0 10 rfl rfl)
theorem dX5_readsClosed_13 : decode cX5_readsClosed 13 = .ok (.istore_n 1, 1) := dk_60 (dk_at dksX5_readsClosed_0 13 rfl rfl)
theorem dX5_readsClosed_14 : decode cX5_readsClosed 14 = .ok (.aload_n 0, 1) := dk_42 (dk_at dksX5_readsClosed_0 14 rfl rfl)
theorem dX5_readsClosed_15 : decode cX5_readsClosed 15 = .ok (.invokevirtual 114, 3) := dk_182 0 114 (dk_at dksX5_readsClosed_0 15 rfl rfl)
theorem dX5_readsClosed_18 : decode cX5_readsClosed 18 = .ok (.ifCond .ne 4, 3) := dk_154 0 4 (dk_at dksX5_readsClosed_0 18 rfl rfl)
theorem dX5_readsClosed_21 : decode cX5_readsClosed 21 = .ok (.return_, 1) := dk_177 (dk_at dksX5_readsClosed_0 21 rfl rfl)
theorem dX5_readsClosed_22 : decode cX5_readsClosed 22 = .ok (.bipush 118, 2) := dk_16 118 (dk_at dksX5_readsClosed_0 22 rfl rfl)
theorem dX5_readsClosed_24 : decode cX5_readsClosed 24 = .ok (.iconst 3, 1) := dk_6 (dk_at dksX5_readsClosed_1 0 rfl rfl)
theorem dX5_readsClosed_25 : decode cX5_readsClosed 25 = .ok (.aload_n 0, 1) := dk_42 (dk_at dksX5_readsClosed_1 1 rfl rfl)
theorem dX5_readsClosed_26 : decode cX5_readsClosed 26 = .ok (.getfield 17, 3) := dk_180 0 17 (dk_at dksX5_readsClosed_1 2 rfl rfl)
theorem dX5_readsClosed_29 : decode cX5_readsClosed 29 = .ok (.bipush 6, 2) := dk_16 6 (dk_at dksX5_readsClosed_1 5 rfl rfl)
theorem dX5_readsClosed_31 : decode cX5_readsClosed 31 = .ok (.iaload, 1) := dk_46 (dk_at dksX5_readsClosed_1 7 rfl rfl)
theorem dX5_readsClosed_32 : decode cX5_readsClosed 32 = .ok (.imul, 1) := dk_104 (dk_at dksX5_readsClosed_1 8 rfl rfl)
theorem dX5_readsClosed_33 : decode cX5_readsClosed 33 = .ok (.iadd, 1) := dk_96 (dk_at dksX5_readsClosed_1 9 rfl rfl)
theorem dX5_readsClosed_34 : decode cX5_readsClosed 34 = .ok (.istore_n 2, 1) := dk_61 (dk_at dksX5_readsClosed_1 10 rfl rfl)
theorem dX5_readsClosed_35 : decode cX5_readsClosed 35 = .ok (.aload_n 0, 1) := dk_42 (dk_at dksX5_readsClosed_1 11 rfl rfl)
theorem dX5_readsClosed_36 : decode cX5_readsClosed 36 = .ok (.getfield 17, 3) := dk_180 0 17 (dk_at dksX5_readsClosed_1 12 rfl rfl)
theorem dX5_readsClosed_39 : decode cX5_readsClosed 39 = .ok (.iload_n 2, 1) := dk_28 (dk_at dksX5_readsClosed_1 15 rfl rfl)
theorem dX5_readsClosed_40 : decode cX5_readsClosed 40 = .ok (.iload_n 1, 1) := dk_27 (dk_at dksX5_readsClosed_1 16 rfl rfl)
theorem dX5_readsClosed_41 : decode cX5_readsClosed 41 = .ok (.iastore, 1) := dk_79 (dk_at dksX5_readsClosed_1 17 rfl rfl)
theorem dX5_readsClosed_42 : decode cX5_readsClosed 42 = .ok (.aload_n 0, 1) := dk_42 (dk_at dksX5_readsClosed_1 18 rfl rfl)
theorem dX5_readsClosed_43 : decode cX5_readsClosed 43 = .ok (.iload_n 2, 1) := dk_28 (dk_at dksX5_readsClosed_1 19 rfl rfl)
theorem dX5_readsClosed_44 : decode cX5_readsClosed 44 = .ok (.iconst 1, 1) := dk_4 (dk_at dksX5_readsClosed_1 20 rfl rfl)
theorem dX5_readsClosed_45 : decode cX5_readsClosed 45 = .ok (.iadd, 1) := dk_96 (dk_at dksX5_readsClosed_1 21 rfl rfl)
theorem dX5_readsClosed_46 : decode cX5_readsClosed 46 = .ok (.iconst 0, 1) := dk_3 (dk_at dksX5_readsClosed_1 22 rfl rfl)
theorem dX5_readsClosed_47 : decode cX5_readsClosed 47 = .ok (.ldc 181, 2) := dk_18 181 (dk_at dksX5_readsClosed_2 0 rfl rfl)
theorem dX5_readsClosed_49 : decode cX5_readsClosed 49 = .ok (.bipush 15, 2) := dk_16 15 (dk_at dksX5_readsClosed_2 2 rfl rfl)
theorem dX5_readsClosed_51 : decode cX5_readsClosed 51 = .ok (.invokevirtual 174, 3) := dk_182 0 174 (dk_at dksX5_readsClosed_2 4 rfl rfl)
theorem dX5_readsClosed_54 : decode cX5_readsClosed 54 = .ok (.aload_n 0, 1) := dk_42 (dk_at dksX5_readsClosed_2 7 rfl rfl)
theorem dX5_readsClosed_55 : decode cX5_readsClosed 55 = .ok (.iload_n 2, 1) := dk_28 (dk_at dksX5_readsClosed_2 8 rfl rfl)
theorem dX5_readsClosed_56 : decode cX5_readsClosed 56 = .ok (.iconst 2, 1) := dk_5 (dk_at dksX5_readsClosed_2 9 rfl rfl)
theorem dX5_readsClosed_57 : decode cX5_readsClosed 57 = .ok (.iadd, 1) := dk_96 (dk_at dksX5_readsClosed_2 10 rfl rfl)
theorem dX5_readsClosed_58 : decode cX5_readsClosed 58 = .ok (.aload_n 0, 1) := dk_42 (dk_at dksX5_readsClosed_2 11 rfl rfl)
theorem dX5_readsClosed_59 : decode cX5_readsClosed 59 = .ok (.getfield 17, 3) := dk_180 0 17 (dk_at dksX5_readsClosed_2 12 rfl rfl)
theorem dX5_readsClosed_62 : decode cX5_readsClosed 62 = .ok (.iload_n 2, 1) := dk_28 (dk_at dksX5_readsClosed_2 15 rfl rfl)
theorem dX5_readsClosed_63 : decode cX5_readsClosed 63 = .ok (.iconst 1, 1) := dk_4 (dk_at dksX5_readsClosed_2 16 rfl rfl)
theorem dX5_readsClosed_64 : decode cX5_readsClosed 64 = .ok (.iadd, 1) := dk_96 (dk_at dksX5_readsClosed_2 17 rfl rfl)
theorem dX5_readsClosed_65 : decode cX5_readsClosed 65 = .ok (.iaload, 1) := dk_46 (dk_at dksX5_readsClosed_2 18 rfl rfl)
theorem dX5_readsClosed_66 : decode cX5_readsClosed 66 = .ok (.bipush 15, 2) := dk_16 15 (dk_at dksX5_readsClosed_2 19 rfl rfl)
theorem dX5_readsClosed_68 : decode cX5_readsClosed 68 = .ok (.iadd, 1) := dk_96 (dk_at dksX5_readsClosed_2 21 rfl rfl)
theorem dX5_readsClosed_69 : decode cX5_readsClosed 69 = .ok (.ldc 182, 2) := dk_18 182 (dk_at dksX5_readsClosed_2 22 rfl rfl)
theorem dX5_readsClosed_71 : decode cX5_readsClosed 71 = .ok (.bipush 15, 2) := dk_16 15 (dk_at dksX5_readsClosed_3 0 rfl rfl)
theorem dX5_readsClosed_73 : decode cX5_readsClosed 73 = .ok (.invokevirtual 174, 3) := dk_182 0 174 (dk_at dksX5_readsClosed_3 2 rfl rfl)
theorem dX5_readsClosed_76 : decode cX5_readsClosed 76 = .ok (.aload_n 0, 1) := dk_42 (dk_at dksX5_readsClosed_3 5 rfl rfl)
theorem dX5_readsClosed_77 : decode cX5_readsClosed 77 = .ok (.getfield 17, 3) := dk_180 0 17 (dk_at dksX5_readsClosed_3 6 rfl rfl)
theorem dX5_readsClosed_80 : decode cX5_readsClosed 80 = .ok (.bipush 6, 2) := dk_16 6 (dk_at dksX5_readsClosed_3 9 rfl rfl)
theorem dX5_readsClosed_82 : decode cX5_readsClosed 82 = .ok (.dup2, 1) := dk_92 (dk_at dksX5_readsClosed_3 11 rfl rfl)
theorem dX5_readsClosed_83 : decode cX5_readsClosed 83 = .ok (.iaload, 1) := dk_46 (dk_at dksX5_readsClosed_3 12 rfl rfl)
theorem dX5_readsClosed_84 : decode cX5_readsClosed 84 = .ok (.iconst 1, 1) := dk_4 (dk_at dksX5_readsClosed_3 13 rfl rfl)
theorem dX5_readsClosed_85 : decode cX5_readsClosed 85 = .ok (.iadd, 1) := dk_96 (dk_at dksX5_readsClosed_3 14 rfl rfl)
theorem dX5_readsClosed_86 : decode cX5_readsClosed 86 = .ok (.iastore, 1) := dk_79 (dk_at dksX5_readsClosed_3 15 rfl rfl)
theorem dX5_readsClosed_87 : decode cX5_readsClosed 87 = .ok (.return_, 1) := dk_177 (dk_at dksX5_readsClosed_3 16 rfl rfl)
abbrev cX5_readsWeekly : ByteArray := prog_17_method_32_code
def yX5_readsWeekly : MethodName := ⟨RX5, "readsWeekly", "()V"⟩
def dkwX5_readsWeekly_3 : List UInt8 := [16, 15, 182, 0, 174, 42, 180, 0, 17, 6, 92, 46, 4, 96, 79, 177]
abbrev dktX5_readsWeekly_3 : List UInt8 := dkwX5_readsWeekly_3 ++ []
def dkwX5_readsWeekly_2 : List UInt8 := [182, 0, 174, 42, 16, 102, 27, 96, 42, 180, 0, 17, 16, 94, 27, 96, 46, 16, 15, 96, 17, 5, 160]
abbrev dktX5_readsWeekly_2 : List UInt8 := dkwX5_readsWeekly_2 ++ dktX5_readsWeekly_3
def dkwX5_readsWeekly_1 : List UInt8 := [16, 86, 27, 96, 3, 16, 6, 4, 182, 0, 174, 42, 16, 94, 27, 96, 3, 17, 5, 145, 16, 15]
abbrev dktX5_readsWeekly_1 : List UInt8 := dkwX5_readsWeekly_1 ++ dktX5_readsWeekly_2
def dkwX5_readsWeekly_0 : List UInt8 := [42, 6, 16, 8, 182, 0, 167, 42, 182, 0, 114, 154, 0, 4, 177, 42, 180, 0, 17, 6, 46, 60, 42]
abbrev dktX5_readsWeekly_0 : List UInt8 := dkwX5_readsWeekly_0 ++ dktX5_readsWeekly_1
theorem dksX5_readsWeekly_0 : cX5_readsWeekly.data.toList.drop 0 = dktX5_readsWeekly_0 := by decide +kernel
theorem dksX5_readsWeekly_1 : cX5_readsWeekly.data.toList.drop 23 = dktX5_readsWeekly_1 := dk_seg dksX5_readsWeekly_0 23 rfl rfl
theorem dksX5_readsWeekly_2 : cX5_readsWeekly.data.toList.drop 45 = dktX5_readsWeekly_2 := dk_seg dksX5_readsWeekly_1 22 rfl rfl
theorem dksX5_readsWeekly_3 : cX5_readsWeekly.data.toList.drop 68 = dktX5_readsWeekly_3 := dk_seg dksX5_readsWeekly_2 23 rfl rfl
theorem dX5_readsWeekly_0 : decode cX5_readsWeekly 0 = .ok (.aload_n 0, 1) := dk_42 (dk_at dksX5_readsWeekly_0 0 rfl rfl)
theorem dX5_readsWeekly_1 : decode cX5_readsWeekly 1 = .ok (.iconst 3, 1) := dk_6 (dk_at dksX5_readsWeekly_0 1 rfl rfl)
theorem dX5_readsWeekly_2 : decode cX5_readsWeekly 2 = .ok (.bipush 8, 2) := dk_16 8 (dk_at dksX5_readsWeekly_0 2 rfl rfl)
theorem dX5_readsWeekly_4 : decode cX5_readsWeekly 4 = .ok (.invokevirtual 167, 3) := dk_182 0 167 (dk_at dksX5_readsWeekly_0 4 rfl rfl)
theorem dX5_readsWeekly_7 : decode cX5_readsWeekly 7 = .ok (.aload_n 0, 1) := dk_42 (dk_at dksX5_readsWeekly_0 7 rfl rfl)
theorem dX5_readsWeekly_8 : decode cX5_readsWeekly 8 = .ok (.invokevirtual 114, 3) := dk_182 0 114 (dk_at dksX5_readsWeekly_0 8 rfl rfl)
theorem dX5_readsWeekly_11 : decode cX5_readsWeekly 11 = .ok (.ifCond .ne 4, 3) := dk_154 0 4 (dk_at dksX5_readsWeekly_0 11 rfl rfl)
theorem dX5_readsWeekly_14 : decode cX5_readsWeekly 14 = .ok (.return_, 1) := dk_177 (dk_at dksX5_readsWeekly_0 14 rfl rfl)
theorem dX5_readsWeekly_15 : decode cX5_readsWeekly 15 = .ok (.aload_n 0, 1) := dk_42 (dk_at dksX5_readsWeekly_0 15 rfl rfl)
theorem dX5_readsWeekly_16 : decode cX5_readsWeekly 16 = .ok (.getfield 17, 3) := dk_180 0 17 (dk_at dksX5_readsWeekly_0 16 rfl rfl)
theorem dX5_readsWeekly_19 : decode cX5_readsWeekly 19 = .ok (.iconst 3, 1) := dk_6 (dk_at dksX5_readsWeekly_0 19 rfl rfl)
theorem dX5_readsWeekly_20 : decode cX5_readsWeekly 20 = .ok (.iaload, 1) := dk_46 (dk_at dksX5_readsWeekly_0 20 rfl rfl)
theorem dX5_readsWeekly_21 : decode cX5_readsWeekly 21 = .ok (.istore_n 1, 1) := dk_60 (dk_at dksX5_readsWeekly_0 21 rfl rfl)
theorem dX5_readsWeekly_22 : decode cX5_readsWeekly 22 = .ok (.aload_n 0, 1) := dk_42 (dk_at dksX5_readsWeekly_0 22 rfl rfl)
theorem dX5_readsWeekly_23 : decode cX5_readsWeekly 23 = .ok (.bipush 86, 2) := dk_16 86 (dk_at dksX5_readsWeekly_1 0 rfl rfl)
theorem dX5_readsWeekly_25 : decode cX5_readsWeekly 25 = .ok (.iload_n 1, 1) := dk_27 (dk_at dksX5_readsWeekly_1 2 rfl rfl)
theorem dX5_readsWeekly_26 : decode cX5_readsWeekly 26 = .ok (.iadd, 1) := dk_96 (dk_at dksX5_readsWeekly_1 3 rfl rfl)
theorem dX5_readsWeekly_27 : decode cX5_readsWeekly 27 = .ok (.iconst 0, 1) := dk_3 (dk_at dksX5_readsWeekly_1 4 rfl rfl)
theorem dX5_readsWeekly_28 : decode cX5_readsWeekly 28 = .ok (.bipush 6, 2) := dk_16 6 (dk_at dksX5_readsWeekly_1 5 rfl rfl)
theorem dX5_readsWeekly_30 : decode cX5_readsWeekly 30 = .ok (.iconst 1, 1) := dk_4 (dk_at dksX5_readsWeekly_1 7 rfl rfl)
theorem dX5_readsWeekly_31 : decode cX5_readsWeekly 31 = .ok (.invokevirtual 174, 3) := dk_182 0 174 (dk_at dksX5_readsWeekly_1 8 rfl rfl)
theorem dX5_readsWeekly_34 : decode cX5_readsWeekly 34 = .ok (.aload_n 0, 1) := dk_42 (dk_at dksX5_readsWeekly_1 11 rfl rfl)
theorem dX5_readsWeekly_35 : decode cX5_readsWeekly 35 = .ok (.bipush 94, 2) := dk_16 94 (dk_at dksX5_readsWeekly_1 12 rfl rfl)
theorem dX5_readsWeekly_37 : decode cX5_readsWeekly 37 = .ok (.iload_n 1, 1) := dk_27 (dk_at dksX5_readsWeekly_1 14 rfl rfl)
theorem dX5_readsWeekly_38 : decode cX5_readsWeekly 38 = .ok (.iadd, 1) := dk_96 (dk_at dksX5_readsWeekly_1 15 rfl rfl)
theorem dX5_readsWeekly_39 : decode cX5_readsWeekly 39 = .ok (.iconst 0, 1) := dk_3 (dk_at dksX5_readsWeekly_1 16 rfl rfl)
theorem dX5_readsWeekly_40 : decode cX5_readsWeekly 40 = .ok (.sipush 1425, 3) := dk_17 5 145 (dk_at dksX5_readsWeekly_1 17 rfl rfl)
theorem dX5_readsWeekly_43 : decode cX5_readsWeekly 43 = .ok (.bipush 15, 2) := dk_16 15 (dk_at dksX5_readsWeekly_1 20 rfl rfl)
theorem dX5_readsWeekly_45 : decode cX5_readsWeekly 45 = .ok (.invokevirtual 174, 3) := dk_182 0 174 (dk_at dksX5_readsWeekly_2 0 rfl rfl)
theorem dX5_readsWeekly_48 : decode cX5_readsWeekly 48 = .ok (.aload_n 0, 1) := dk_42 (dk_at dksX5_readsWeekly_2 3 rfl rfl)
theorem dX5_readsWeekly_49 : decode cX5_readsWeekly 49 = .ok (.bipush 102, 2) := dk_16 102 (dk_at dksX5_readsWeekly_2 4 rfl rfl)
theorem dX5_readsWeekly_51 : decode cX5_readsWeekly 51 = .ok (.iload_n 1, 1) := dk_27 (dk_at dksX5_readsWeekly_2 6 rfl rfl)
theorem dX5_readsWeekly_52 : decode cX5_readsWeekly 52 = .ok (.iadd, 1) := dk_96 (dk_at dksX5_readsWeekly_2 7 rfl rfl)
theorem dX5_readsWeekly_53 : decode cX5_readsWeekly 53 = .ok (.aload_n 0, 1) := dk_42 (dk_at dksX5_readsWeekly_2 8 rfl rfl)
theorem dX5_readsWeekly_54 : decode cX5_readsWeekly 54 = .ok (.getfield 17, 3) := dk_180 0 17 (dk_at dksX5_readsWeekly_2 9 rfl rfl)
theorem dX5_readsWeekly_57 : decode cX5_readsWeekly 57 = .ok (.bipush 94, 2) := dk_16 94 (dk_at dksX5_readsWeekly_2 12 rfl rfl)
theorem dX5_readsWeekly_59 : decode cX5_readsWeekly 59 = .ok (.iload_n 1, 1) := dk_27 (dk_at dksX5_readsWeekly_2 14 rfl rfl)
theorem dX5_readsWeekly_60 : decode cX5_readsWeekly 60 = .ok (.iadd, 1) := dk_96 (dk_at dksX5_readsWeekly_2 15 rfl rfl)
theorem dX5_readsWeekly_61 : decode cX5_readsWeekly 61 = .ok (.iaload, 1) := dk_46 (dk_at dksX5_readsWeekly_2 16 rfl rfl)
theorem dX5_readsWeekly_62 : decode cX5_readsWeekly 62 = .ok (.bipush 15, 2) := dk_16 15 (dk_at dksX5_readsWeekly_2 17 rfl rfl)
theorem dX5_readsWeekly_64 : decode cX5_readsWeekly 64 = .ok (.iadd, 1) := dk_96 (dk_at dksX5_readsWeekly_2 19 rfl rfl)
theorem dX5_readsWeekly_65 : decode cX5_readsWeekly 65 = .ok (.sipush 1440, 3) := dk_17 5 160 (dk_at dksX5_readsWeekly_2 20 rfl rfl)
theorem dX5_readsWeekly_68 : decode cX5_readsWeekly 68 = .ok (.bipush 15, 2) := dk_16 15 (dk_at dksX5_readsWeekly_3 0 rfl rfl)
theorem dX5_readsWeekly_70 : decode cX5_readsWeekly 70 = .ok (.invokevirtual 174, 3) := dk_182 0 174 (dk_at dksX5_readsWeekly_3 2 rfl rfl)
theorem dX5_readsWeekly_73 : decode cX5_readsWeekly 73 = .ok (.aload_n 0, 1) := dk_42 (dk_at dksX5_readsWeekly_3 5 rfl rfl)
theorem dX5_readsWeekly_74 : decode cX5_readsWeekly 74 = .ok (.getfield 17, 3) := dk_180 0 17 (dk_at dksX5_readsWeekly_3 6 rfl rfl)
theorem dX5_readsWeekly_77 : decode cX5_readsWeekly 77 = .ok (.iconst 3, 1) := dk_6 (dk_at dksX5_readsWeekly_3 9 rfl rfl)
theorem dX5_readsWeekly_78 : decode cX5_readsWeekly 78 = .ok (.dup2, 1) := dk_92 (dk_at dksX5_readsWeekly_3 10 rfl rfl)
theorem dX5_readsWeekly_79 : decode cX5_readsWeekly 79 = .ok (.iaload, 1) := dk_46 (dk_at dksX5_readsWeekly_3 11 rfl rfl)
theorem dX5_readsWeekly_80 : decode cX5_readsWeekly 80 = .ok (.iconst 1, 1) := dk_4 (dk_at dksX5_readsWeekly_3 12 rfl rfl)
theorem dX5_readsWeekly_81 : decode cX5_readsWeekly 81 = .ok (.iadd, 1) := dk_96 (dk_at dksX5_readsWeekly_3 13 rfl rfl)
theorem dX5_readsWeekly_82 : decode cX5_readsWeekly 82 = .ok (.iastore, 1) := dk_79 (dk_at dksX5_readsWeekly_3 14 rfl rfl)
theorem dX5_readsWeekly_83 : decode cX5_readsWeekly 83 = .ok (.return_, 1) := dk_177 (dk_at dksX5_readsWeekly_3 15 rfl rfl)
abbrev cX5_readsFee : ByteArray := prog_17_method_33_code
def yX5_readsFee : MethodName := ⟨RX5, "readsFee", "()V"⟩
def dkwX5_readsFee_4 : List UInt8 := [42, 180, 0, 17, 7, 92, 46, 4, 96, 79, 177]
abbrev dktX5_readsFee_4 : List UInt8 := dkwX5_readsFee_4 ++ []
def dkwX5_readsFee_3 : List UInt8 := [180, 0, 101, 182, 0, 152, 132, 2, 1, 167, 255, 212, 42, 16, 114, 27, 96, 3, 16, 100, 4, 182, 0, 174]
abbrev dktX5_readsFee_3 : List UInt8 := dkwX5_readsFee_3 ++ dktX5_readsFee_4
def dkwX5_readsFee_2 : List UInt8 := [180, 0, 17, 16, 110, 28, 96, 46, 42, 180, 0, 17, 16, 110, 27, 96, 46, 160, 0, 11, 42, 42]
abbrev dktX5_readsFee_2 : List UInt8 := dkwX5_readsFee_2 ++ dktX5_readsFee_3
def dkwX5_readsFee_1 : List UInt8 := [27, 96, 3, 16, 60, 4, 182, 0, 174, 3, 61, 28, 27, 162, 0, 45, 42, 182, 0, 114, 153, 0, 38, 42]
abbrev dktX5_readsFee_1 : List UInt8 := dkwX5_readsFee_1 ++ dktX5_readsFee_2
def dkwX5_readsFee_0 : List UInt8 := [42, 7, 7, 182, 0, 167, 42, 182, 0, 114, 154, 0, 4, 177, 42, 180, 0, 17, 7, 46, 60, 42, 16, 110]
abbrev dktX5_readsFee_0 : List UInt8 := dkwX5_readsFee_0 ++ dktX5_readsFee_1
theorem dksX5_readsFee_0 : cX5_readsFee.data.toList.drop 0 = dktX5_readsFee_0 := by decide +kernel
theorem dksX5_readsFee_1 : cX5_readsFee.data.toList.drop 24 = dktX5_readsFee_1 := dk_seg dksX5_readsFee_0 24 rfl rfl
theorem dksX5_readsFee_2 : cX5_readsFee.data.toList.drop 48 = dktX5_readsFee_2 := dk_seg dksX5_readsFee_1 24 rfl rfl
theorem dksX5_readsFee_3 : cX5_readsFee.data.toList.drop 70 = dktX5_readsFee_3 := dk_seg dksX5_readsFee_2 22 rfl rfl
theorem dksX5_readsFee_4 : cX5_readsFee.data.toList.drop 94 = dktX5_readsFee_4 := dk_seg dksX5_readsFee_3 24 rfl rfl
theorem dX5_readsFee_0 : decode cX5_readsFee 0 = .ok (.aload_n 0, 1) := dk_42 (dk_at dksX5_readsFee_0 0 rfl rfl)
theorem dX5_readsFee_1 : decode cX5_readsFee 1 = .ok (.iconst 4, 1) := dk_7 (dk_at dksX5_readsFee_0 1 rfl rfl)
theorem dX5_readsFee_2 : decode cX5_readsFee 2 = .ok (.iconst 4, 1) := dk_7 (dk_at dksX5_readsFee_0 2 rfl rfl)
theorem dX5_readsFee_3 : decode cX5_readsFee 3 = .ok (.invokevirtual 167, 3) := dk_182 0 167 (dk_at dksX5_readsFee_0 3 rfl rfl)
theorem dX5_readsFee_6 : decode cX5_readsFee 6 = .ok (.aload_n 0, 1) := dk_42 (dk_at dksX5_readsFee_0 6 rfl rfl)
theorem dX5_readsFee_7 : decode cX5_readsFee 7 = .ok (.invokevirtual 114, 3) := dk_182 0 114 (dk_at dksX5_readsFee_0 7 rfl rfl)
theorem dX5_readsFee_10 : decode cX5_readsFee 10 = .ok (.ifCond .ne 4, 3) := dk_154 0 4 (dk_at dksX5_readsFee_0 10 rfl rfl)
theorem dX5_readsFee_13 : decode cX5_readsFee 13 = .ok (.return_, 1) := dk_177 (dk_at dksX5_readsFee_0 13 rfl rfl)
theorem dX5_readsFee_14 : decode cX5_readsFee 14 = .ok (.aload_n 0, 1) := dk_42 (dk_at dksX5_readsFee_0 14 rfl rfl)
theorem dX5_readsFee_15 : decode cX5_readsFee 15 = .ok (.getfield 17, 3) := dk_180 0 17 (dk_at dksX5_readsFee_0 15 rfl rfl)
theorem dX5_readsFee_18 : decode cX5_readsFee 18 = .ok (.iconst 4, 1) := dk_7 (dk_at dksX5_readsFee_0 18 rfl rfl)
theorem dX5_readsFee_19 : decode cX5_readsFee 19 = .ok (.iaload, 1) := dk_46 (dk_at dksX5_readsFee_0 19 rfl rfl)
theorem dX5_readsFee_20 : decode cX5_readsFee 20 = .ok (.istore_n 1, 1) := dk_60 (dk_at dksX5_readsFee_0 20 rfl rfl)
theorem dX5_readsFee_21 : decode cX5_readsFee 21 = .ok (.aload_n 0, 1) := dk_42 (dk_at dksX5_readsFee_0 21 rfl rfl)
theorem dX5_readsFee_22 : decode cX5_readsFee 22 = .ok (.bipush 110, 2) := dk_16 110 (dk_at dksX5_readsFee_0 22 rfl rfl)
theorem dX5_readsFee_24 : decode cX5_readsFee 24 = .ok (.iload_n 1, 1) := dk_27 (dk_at dksX5_readsFee_1 0 rfl rfl)
theorem dX5_readsFee_25 : decode cX5_readsFee 25 = .ok (.iadd, 1) := dk_96 (dk_at dksX5_readsFee_1 1 rfl rfl)
theorem dX5_readsFee_26 : decode cX5_readsFee 26 = .ok (.iconst 0, 1) := dk_3 (dk_at dksX5_readsFee_1 2 rfl rfl)
theorem dX5_readsFee_27 : decode cX5_readsFee 27 = .ok (.bipush 60, 2) := dk_16 60 (dk_at dksX5_readsFee_1 3 rfl rfl)
theorem dX5_readsFee_29 : decode cX5_readsFee 29 = .ok (.iconst 1, 1) := dk_4 (dk_at dksX5_readsFee_1 5 rfl rfl)
theorem dX5_readsFee_30 : decode cX5_readsFee 30 = .ok (.invokevirtual 174, 3) := dk_182 0 174 (dk_at dksX5_readsFee_1 6 rfl rfl)
theorem dX5_readsFee_33 : decode cX5_readsFee 33 = .ok (.iconst 0, 1) := dk_3 (dk_at dksX5_readsFee_1 9 rfl rfl)
theorem dX5_readsFee_34 : decode cX5_readsFee 34 = .ok (.istore_n 2, 1) := dk_61 (dk_at dksX5_readsFee_1 10 rfl rfl)
theorem dX5_readsFee_35 : decode cX5_readsFee 35 = .ok (.iload_n 2, 1) := dk_28 (dk_at dksX5_readsFee_1 11 rfl rfl)
theorem dX5_readsFee_36 : decode cX5_readsFee 36 = .ok (.iload_n 1, 1) := dk_27 (dk_at dksX5_readsFee_1 12 rfl rfl)
theorem dX5_readsFee_37 : decode cX5_readsFee 37 = .ok (.if_icmp .ge 45, 3) := dk_162 0 45 (dk_at dksX5_readsFee_1 13 rfl rfl)
theorem dX5_readsFee_40 : decode cX5_readsFee 40 = .ok (.aload_n 0, 1) := dk_42 (dk_at dksX5_readsFee_1 16 rfl rfl)
theorem dX5_readsFee_41 : decode cX5_readsFee 41 = .ok (.invokevirtual 114, 3) := dk_182 0 114 (dk_at dksX5_readsFee_1 17 rfl rfl)
theorem dX5_readsFee_44 : decode cX5_readsFee 44 = .ok (.ifCond .eq 38, 3) := dk_153 0 38 (dk_at dksX5_readsFee_1 20 rfl rfl)
theorem dX5_readsFee_47 : decode cX5_readsFee 47 = .ok (.aload_n 0, 1) := dk_42 (dk_at dksX5_readsFee_1 23 rfl rfl)
theorem dX5_readsFee_48 : decode cX5_readsFee 48 = .ok (.getfield 17, 3) := dk_180 0 17 (dk_at dksX5_readsFee_2 0 rfl rfl)
theorem dX5_readsFee_51 : decode cX5_readsFee 51 = .ok (.bipush 110, 2) := dk_16 110 (dk_at dksX5_readsFee_2 3 rfl rfl)
theorem dX5_readsFee_53 : decode cX5_readsFee 53 = .ok (.iload_n 2, 1) := dk_28 (dk_at dksX5_readsFee_2 5 rfl rfl)
theorem dX5_readsFee_54 : decode cX5_readsFee 54 = .ok (.iadd, 1) := dk_96 (dk_at dksX5_readsFee_2 6 rfl rfl)
theorem dX5_readsFee_55 : decode cX5_readsFee 55 = .ok (.iaload, 1) := dk_46 (dk_at dksX5_readsFee_2 7 rfl rfl)
theorem dX5_readsFee_56 : decode cX5_readsFee 56 = .ok (.aload_n 0, 1) := dk_42 (dk_at dksX5_readsFee_2 8 rfl rfl)
theorem dX5_readsFee_57 : decode cX5_readsFee 57 = .ok (.getfield 17, 3) := dk_180 0 17 (dk_at dksX5_readsFee_2 9 rfl rfl)
theorem dX5_readsFee_60 : decode cX5_readsFee 60 = .ok (.bipush 110, 2) := dk_16 110 (dk_at dksX5_readsFee_2 12 rfl rfl)
theorem dX5_readsFee_62 : decode cX5_readsFee 62 = .ok (.iload_n 1, 1) := dk_27 (dk_at dksX5_readsFee_2 14 rfl rfl)
theorem dX5_readsFee_63 : decode cX5_readsFee 63 = .ok (.iadd, 1) := dk_96 (dk_at dksX5_readsFee_2 15 rfl rfl)
theorem dX5_readsFee_64 : decode cX5_readsFee 64 = .ok (.iaload, 1) := dk_46 (dk_at dksX5_readsFee_2 16 rfl rfl)
theorem dX5_readsFee_65 : decode cX5_readsFee 65 = .ok (.if_icmp .ne 11, 3) := dk_160 0 11 (dk_at dksX5_readsFee_2 17 rfl rfl)
theorem dX5_readsFee_68 : decode cX5_readsFee 68 = .ok (.aload_n 0, 1) := dk_42 (dk_at dksX5_readsFee_2 20 rfl rfl)
theorem dX5_readsFee_69 : decode cX5_readsFee 69 = .ok (.aload_n 0, 1) := dk_42 (dk_at dksX5_readsFee_2 21 rfl rfl)
theorem dX5_readsFee_70 : decode cX5_readsFee 70 = .ok (.getfield 101, 3) := dk_180 0 101 (dk_at dksX5_readsFee_3 0 rfl rfl)
theorem dX5_readsFee_73 : decode cX5_readsFee 73 = .ok (.invokevirtual 152, 3) := dk_182 0 152 (dk_at dksX5_readsFee_3 3 rfl rfl)
theorem dX5_readsFee_76 : decode cX5_readsFee 76 = .ok (.iinc 2 1, 3) := dk_132 2 1 (dk_at dksX5_readsFee_3 6 rfl rfl)
theorem dX5_readsFee_79 : decode cX5_readsFee 79 = .ok (.goto (-44), 3) := dk_167 255 212 (dk_at dksX5_readsFee_3 9 rfl rfl)
theorem dX5_readsFee_82 : decode cX5_readsFee 82 = .ok (.aload_n 0, 1) := dk_42 (dk_at dksX5_readsFee_3 12 rfl rfl)
theorem dX5_readsFee_83 : decode cX5_readsFee 83 = .ok (.bipush 114, 2) := dk_16 114 (dk_at dksX5_readsFee_3 13 rfl rfl)
theorem dX5_readsFee_85 : decode cX5_readsFee 85 = .ok (.iload_n 1, 1) := dk_27 (dk_at dksX5_readsFee_3 15 rfl rfl)
theorem dX5_readsFee_86 : decode cX5_readsFee 86 = .ok (.iadd, 1) := dk_96 (dk_at dksX5_readsFee_3 16 rfl rfl)
theorem dX5_readsFee_87 : decode cX5_readsFee 87 = .ok (.iconst 0, 1) := dk_3 (dk_at dksX5_readsFee_3 17 rfl rfl)
theorem dX5_readsFee_88 : decode cX5_readsFee 88 = .ok (.bipush 100, 2) := dk_16 100 (dk_at dksX5_readsFee_3 18 rfl rfl)
theorem dX5_readsFee_90 : decode cX5_readsFee 90 = .ok (.iconst 1, 1) := dk_4 (dk_at dksX5_readsFee_3 20 rfl rfl)
theorem dX5_readsFee_91 : decode cX5_readsFee 91 = .ok (.invokevirtual 174, 3) := dk_182 0 174 (dk_at dksX5_readsFee_3 21 rfl rfl)
theorem dX5_readsFee_94 : decode cX5_readsFee 94 = .ok (.aload_n 0, 1) := dk_42 (dk_at dksX5_readsFee_4 0 rfl rfl)
theorem dX5_readsFee_95 : decode cX5_readsFee 95 = .ok (.getfield 17, 3) := dk_180 0 17 (dk_at dksX5_readsFee_4 1 rfl rfl)
theorem dX5_readsFee_98 : decode cX5_readsFee 98 = .ok (.iconst 4, 1) := dk_7 (dk_at dksX5_readsFee_4 4 rfl rfl)
theorem dX5_readsFee_99 : decode cX5_readsFee 99 = .ok (.dup2, 1) := dk_92 (dk_at dksX5_readsFee_4 5 rfl rfl)
theorem dX5_readsFee_100 : decode cX5_readsFee 100 = .ok (.iaload, 1) := dk_46 (dk_at dksX5_readsFee_4 6 rfl rfl)
theorem dX5_readsFee_101 : decode cX5_readsFee 101 = .ok (.iconst 1, 1) := dk_4 (dk_at dksX5_readsFee_4 7 rfl rfl)
theorem dX5_readsFee_102 : decode cX5_readsFee 102 = .ok (.iadd, 1) := dk_96 (dk_at dksX5_readsFee_4 8 rfl rfl)
theorem dX5_readsFee_103 : decode cX5_readsFee 103 = .ok (.iastore, 1) := dk_79 (dk_at dksX5_readsFee_4 9 rfl rfl)
theorem dX5_readsFee_104 : decode cX5_readsFee 104 = .ok (.return_, 1) := dk_177 (dk_at dksX5_readsFee_4 10 rfl rfl)
abbrev cX5_readsWeekend : ByteArray := prog_17_method_34_code
def yX5_readsWeekend : MethodName := ⟨RX5, "readsWeekend", "()V"⟩
def dkwX5_readsWeekend_1 : List UInt8 := [17, 1, 44, 4, 182, 0, 174, 177]
abbrev dktX5_readsWeekend_1 : List UInt8 := dkwX5_readsWeekend_1 ++ []
def dkwX5_readsWeekend_0 : List UInt8 := [42, 180, 0, 183, 153, 0, 11, 42, 42, 180, 0, 101, 182, 0, 152, 42, 4, 181, 0, 183, 42, 8, 3]
abbrev dktX5_readsWeekend_0 : List UInt8 := dkwX5_readsWeekend_0 ++ dktX5_readsWeekend_1
theorem dksX5_readsWeekend_0 : cX5_readsWeekend.data.toList.drop 0 = dktX5_readsWeekend_0 := by decide +kernel
theorem dksX5_readsWeekend_1 : cX5_readsWeekend.data.toList.drop 23 = dktX5_readsWeekend_1 := dk_seg dksX5_readsWeekend_0 23 rfl rfl
theorem dX5_readsWeekend_0 : decode cX5_readsWeekend 0 = .ok (.aload_n 0, 1) := dk_42 (dk_at dksX5_readsWeekend_0 0 rfl rfl)
theorem dX5_readsWeekend_1 : decode cX5_readsWeekend 1 = .ok (.getfield 183, 3) := dk_180 0 183 (dk_at dksX5_readsWeekend_0 1 rfl rfl)
theorem dX5_readsWeekend_4 : decode cX5_readsWeekend 4 = .ok (.ifCond .eq 11, 3) := dk_153 0 11 (dk_at dksX5_readsWeekend_0 4 rfl rfl)
theorem dX5_readsWeekend_7 : decode cX5_readsWeekend 7 = .ok (.aload_n 0, 1) := dk_42 (dk_at dksX5_readsWeekend_0 7 rfl rfl)
theorem dX5_readsWeekend_8 : decode cX5_readsWeekend 8 = .ok (.aload_n 0, 1) := dk_42 (dk_at dksX5_readsWeekend_0 8 rfl rfl)
theorem dX5_readsWeekend_9 : decode cX5_readsWeekend 9 = .ok (.getfield 101, 3) := dk_180 0 101 (dk_at dksX5_readsWeekend_0 9 rfl rfl)
theorem dX5_readsWeekend_12 : decode cX5_readsWeekend 12 = .ok (.invokevirtual 152, 3) := dk_182 0 152 (dk_at dksX5_readsWeekend_0 12 rfl rfl)
theorem dX5_readsWeekend_15 : decode cX5_readsWeekend 15 = .ok (.aload_n 0, 1) := dk_42 (dk_at dksX5_readsWeekend_0 15 rfl rfl)
theorem dX5_readsWeekend_16 : decode cX5_readsWeekend 16 = .ok (.iconst 1, 1) := dk_4 (dk_at dksX5_readsWeekend_0 16 rfl rfl)
theorem dX5_readsWeekend_17 : decode cX5_readsWeekend 17 = .ok (.putfield 183, 3) := dk_181 0 183 (dk_at dksX5_readsWeekend_0 17 rfl rfl)
theorem dX5_readsWeekend_20 : decode cX5_readsWeekend 20 = .ok (.aload_n 0, 1) := dk_42 (dk_at dksX5_readsWeekend_0 20 rfl rfl)
theorem dX5_readsWeekend_21 : decode cX5_readsWeekend 21 = .ok (.iconst 5, 1) := dk_8 (dk_at dksX5_readsWeekend_0 21 rfl rfl)
theorem dX5_readsWeekend_22 : decode cX5_readsWeekend 22 = .ok (.iconst 0, 1) := dk_3 (dk_at dksX5_readsWeekend_0 22 rfl rfl)
theorem dX5_readsWeekend_23 : decode cX5_readsWeekend 23 = .ok (.sipush 300, 3) := dk_17 1 44 (dk_at dksX5_readsWeekend_1 0 rfl rfl)
theorem dX5_readsWeekend_26 : decode cX5_readsWeekend 26 = .ok (.iconst 1, 1) := dk_4 (dk_at dksX5_readsWeekend_1 3 rfl rfl)
theorem dX5_readsWeekend_27 : decode cX5_readsWeekend 27 = .ok (.invokevirtual 174, 3) := dk_182 0 174 (dk_at dksX5_readsWeekend_1 4 rfl rfl)
theorem dX5_readsWeekend_30 : decode cX5_readsWeekend 30 = .ok (.return_, 1) := dk_177 (dk_at dksX5_readsWeekend_1 7 rfl rfl)
abbrev cX5_load : ByteArray := prog_17_method_38_code
def yX5_load : MethodName := ⟨RX5, "load", "()I"⟩
def dkwX5_load_2 : List UInt8 := [167, 255, 234, 42, 182, 0, 70, 42, 3, 181, 0, 73, 42, 3, 181, 0, 220, 42, 180, 0, 13, 3, 46, 172]
abbrev dktX5_load_2 : List UInt8 := dkwX5_load_2 ++ []
def dkwX5_load_1 : List UInt8 := [3, 60, 27, 17, 0, 166, 162, 0, 21, 42, 180, 0, 13, 27, 42, 180, 0, 17, 27, 46, 79, 132, 1, 1]
abbrev dktX5_load_1 : List UInt8 := dkwX5_load_1 ++ dktX5_load_2
def dkwX5_load_0 : List UInt8 := [42, 3, 181, 0, 3, 42, 182, 0, 217, 2, 159, 0, 9, 42, 4, 182, 0, 83, 172, 42, 3, 181, 0, 76]
abbrev dktX5_load_0 : List UInt8 := dkwX5_load_0 ++ dktX5_load_1
theorem dksX5_load_0 : cX5_load.data.toList.drop 0 = dktX5_load_0 := by decide +kernel
theorem dksX5_load_1 : cX5_load.data.toList.drop 24 = dktX5_load_1 := dk_seg dksX5_load_0 24 rfl rfl
theorem dksX5_load_2 : cX5_load.data.toList.drop 48 = dktX5_load_2 := dk_seg dksX5_load_1 24 rfl rfl
theorem dX5_load_0 : decode cX5_load 0 = .ok (.aload_n 0, 1) := dk_42 (dk_at dksX5_load_0 0 rfl rfl)
theorem dX5_load_1 : decode cX5_load 1 = .ok (.iconst 0, 1) := dk_3 (dk_at dksX5_load_0 1 rfl rfl)
theorem dX5_load_2 : decode cX5_load 2 = .ok (.putfield 3, 3) := dk_181 0 3 (dk_at dksX5_load_0 2 rfl rfl)
theorem dX5_load_5 : decode cX5_load 5 = .ok (.aload_n 0, 1) := dk_42 (dk_at dksX5_load_0 5 rfl rfl)
theorem dX5_load_6 : decode cX5_load 6 = .ok (.invokevirtual 217, 3) := dk_182 0 217 (dk_at dksX5_load_0 6 rfl rfl)
theorem dX5_load_9 : decode cX5_load 9 = .ok (.iconst (-1), 1) := dk_2 (dk_at dksX5_load_0 9 rfl rfl)
theorem dX5_load_10 : decode cX5_load 10 = .ok (.if_icmp .eq 9, 3) := dk_159 0 9 (dk_at dksX5_load_0 10 rfl rfl)
theorem dX5_load_13 : decode cX5_load 13 = .ok (.aload_n 0, 1) := dk_42 (dk_at dksX5_load_0 13 rfl rfl)
theorem dX5_load_14 : decode cX5_load 14 = .ok (.iconst 1, 1) := dk_4 (dk_at dksX5_load_0 14 rfl rfl)
theorem dX5_load_15 : decode cX5_load 15 = .ok (.invokevirtual 83, 3) := dk_182 0 83 (dk_at dksX5_load_0 15 rfl rfl)
theorem dX5_load_18 : decode cX5_load 18 = .ok (.ireturn, 1) := dk_172 (dk_at dksX5_load_0 18 rfl rfl)
theorem dX5_load_19 : decode cX5_load 19 = .ok (.aload_n 0, 1) := dk_42 (dk_at dksX5_load_0 19 rfl rfl)
theorem dX5_load_20 : decode cX5_load 20 = .ok (.iconst 0, 1) := dk_3 (dk_at dksX5_load_0 20 rfl rfl)
theorem dX5_load_21 : decode cX5_load 21 = .ok (.putfield 76, 3) := dk_181 0 76 (dk_at dksX5_load_0 21 rfl rfl)
theorem dX5_load_24 : decode cX5_load 24 = .ok (.iconst 0, 1) := dk_3 (dk_at dksX5_load_1 0 rfl rfl)
theorem dX5_load_25 : decode cX5_load 25 = .ok (.istore_n 1, 1) := dk_60 (dk_at dksX5_load_1 1 rfl rfl)
theorem dX5_load_26 : decode cX5_load 26 = .ok (.iload_n 1, 1) := dk_27 (dk_at dksX5_load_1 2 rfl rfl)
theorem dX5_load_27 : decode cX5_load 27 = .ok (.sipush 166, 3) := dk_17 0 166 (dk_at dksX5_load_1 3 rfl rfl)
theorem dX5_load_30 : decode cX5_load 30 = .ok (.if_icmp .ge 21, 3) := dk_162 0 21 (dk_at dksX5_load_1 6 rfl rfl)
theorem dX5_load_33 : decode cX5_load 33 = .ok (.aload_n 0, 1) := dk_42 (dk_at dksX5_load_1 9 rfl rfl)
theorem dX5_load_34 : decode cX5_load 34 = .ok (.getfield 13, 3) := dk_180 0 13 (dk_at dksX5_load_1 10 rfl rfl)
theorem dX5_load_37 : decode cX5_load 37 = .ok (.iload_n 1, 1) := dk_27 (dk_at dksX5_load_1 13 rfl rfl)
theorem dX5_load_38 : decode cX5_load 38 = .ok (.aload_n 0, 1) := dk_42 (dk_at dksX5_load_1 14 rfl rfl)
theorem dX5_load_39 : decode cX5_load 39 = .ok (.getfield 17, 3) := dk_180 0 17 (dk_at dksX5_load_1 15 rfl rfl)
theorem dX5_load_42 : decode cX5_load 42 = .ok (.iload_n 1, 1) := dk_27 (dk_at dksX5_load_1 18 rfl rfl)
theorem dX5_load_43 : decode cX5_load 43 = .ok (.iaload, 1) := dk_46 (dk_at dksX5_load_1 19 rfl rfl)
theorem dX5_load_44 : decode cX5_load 44 = .ok (.iastore, 1) := dk_79 (dk_at dksX5_load_1 20 rfl rfl)
theorem dX5_load_45 : decode cX5_load 45 = .ok (.iinc 1 1, 3) := dk_132 1 1 (dk_at dksX5_load_1 21 rfl rfl)
theorem dX5_load_48 : decode cX5_load 48 = .ok (.goto (-22), 3) := dk_167 255 234 (dk_at dksX5_load_2 0 rfl rfl)
theorem dX5_load_51 : decode cX5_load 51 = .ok (.aload_n 0, 1) := dk_42 (dk_at dksX5_load_2 3 rfl rfl)
theorem dX5_load_52 : decode cX5_load 52 = .ok (.invokevirtual 70, 3) := dk_182 0 70 (dk_at dksX5_load_2 4 rfl rfl)
theorem dX5_load_55 : decode cX5_load 55 = .ok (.aload_n 0, 1) := dk_42 (dk_at dksX5_load_2 7 rfl rfl)
theorem dX5_load_56 : decode cX5_load 56 = .ok (.iconst 0, 1) := dk_3 (dk_at dksX5_load_2 8 rfl rfl)
theorem dX5_load_57 : decode cX5_load 57 = .ok (.putfield 73, 3) := dk_181 0 73 (dk_at dksX5_load_2 9 rfl rfl)
theorem dX5_load_60 : decode cX5_load 60 = .ok (.aload_n 0, 1) := dk_42 (dk_at dksX5_load_2 12 rfl rfl)
theorem dX5_load_61 : decode cX5_load 61 = .ok (.iconst 0, 1) := dk_3 (dk_at dksX5_load_2 13 rfl rfl)
theorem dX5_load_62 : decode cX5_load 62 = .ok (.putfield 220, 3) := dk_181 0 220 (dk_at dksX5_load_2 14 rfl rfl)
theorem dX5_load_65 : decode cX5_load 65 = .ok (.aload_n 0, 1) := dk_42 (dk_at dksX5_load_2 17 rfl rfl)
theorem dX5_load_66 : decode cX5_load 66 = .ok (.getfield 13, 3) := dk_180 0 13 (dk_at dksX5_load_2 18 rfl rfl)
theorem dX5_load_69 : decode cX5_load 69 = .ok (.iconst 0, 1) := dk_3 (dk_at dksX5_load_2 21 rfl rfl)
theorem dX5_load_70 : decode cX5_load 70 = .ok (.iaload, 1) := dk_46 (dk_at dksX5_load_2 22 rfl rfl)
theorem dX5_load_71 : decode cX5_load 71 = .ok (.ireturn, 1) := dk_172 (dk_at dksX5_load_2 23 rfl rfl)
abbrev cX5_draft : ByteArray := prog_17_method_64_code
def yX5_draft : MethodName := ⟨RX5, "draft", "(III)I"⟩
def dkwX5_draft_4 : List UInt8 := [180, 0, 30, 3, 27, 79, 42, 180, 0, 30, 4, 28, 79, 42, 180, 0, 30, 5, 29, 79, 21, 4, 172]
abbrev dktX5_draft_4 : List UInt8 := dkwX5_draft_4 ++ []
def dkwX5_draft_3 : List UInt8 := [21, 5, 16, 6, 162, 0, 19, 42, 180, 0, 30, 6, 21, 5, 96, 3, 79, 132, 5, 1, 167, 255, 236, 42]
abbrev dktX5_draft_3 : List UInt8 := dkwX5_draft_3 ++ dktX5_draft_4
def dkwX5_draft_2 : List UInt8 := [16, 15, 112, 153, 0, 9, 42, 5, 182, 0, 83, 172, 42, 180, 0, 30, 5, 46, 54, 4, 3, 54, 5]
abbrev dktX5_draft_2 : List UInt8 := dkwX5_draft_2 ++ dktX5_draft_3
def dkwX5_draft_1 : List UInt8 := [20, 1, 33, 184, 0, 90, 153, 0, 24, 29, 133, 20, 1, 35, 20, 1, 37, 184, 0, 90, 153, 0, 10, 29]
abbrev dktX5_draft_1 : List UInt8 := dkwX5_draft_1 ++ dktX5_draft_2
def dkwX5_draft_0 : List UInt8 := [42, 3, 181, 0, 3, 42, 27, 182, 1, 30, 154, 0, 9, 42, 4, 182, 0, 83, 172, 28, 133, 10]
abbrev dktX5_draft_0 : List UInt8 := dkwX5_draft_0 ++ dktX5_draft_1
theorem dksX5_draft_0 : cX5_draft.data.toList.drop 0 = dktX5_draft_0 := by decide +kernel
theorem dksX5_draft_1 : cX5_draft.data.toList.drop 22 = dktX5_draft_1 := dk_seg dksX5_draft_0 22 rfl rfl
theorem dksX5_draft_2 : cX5_draft.data.toList.drop 46 = dktX5_draft_2 := dk_seg dksX5_draft_1 24 rfl rfl
theorem dksX5_draft_3 : cX5_draft.data.toList.drop 69 = dktX5_draft_3 := dk_seg dksX5_draft_2 23 rfl rfl
theorem dksX5_draft_4 : cX5_draft.data.toList.drop 93 = dktX5_draft_4 := dk_seg dksX5_draft_3 24 rfl rfl
theorem dX5_draft_0 : decode cX5_draft 0 = .ok (.aload_n 0, 1) := dk_42 (dk_at dksX5_draft_0 0 rfl rfl)
theorem dX5_draft_1 : decode cX5_draft 1 = .ok (.iconst 0, 1) := dk_3 (dk_at dksX5_draft_0 1 rfl rfl)
theorem dX5_draft_2 : decode cX5_draft 2 = .ok (.putfield 3, 3) := dk_181 0 3 (dk_at dksX5_draft_0 2 rfl rfl)
theorem dX5_draft_5 : decode cX5_draft 5 = .ok (.aload_n 0, 1) := dk_42 (dk_at dksX5_draft_0 5 rfl rfl)
theorem dX5_draft_6 : decode cX5_draft 6 = .ok (.iload_n 1, 1) := dk_27 (dk_at dksX5_draft_0 6 rfl rfl)
theorem dX5_draft_7 : decode cX5_draft 7 = .ok (.invokevirtual 286, 3) := dk_182 1 30 (dk_at dksX5_draft_0 7 rfl rfl)
theorem dX5_draft_10 : decode cX5_draft 10 = .ok (.ifCond .ne 9, 3) := dk_154 0 9 (dk_at dksX5_draft_0 10 rfl rfl)
theorem dX5_draft_13 : decode cX5_draft 13 = .ok (.aload_n 0, 1) := dk_42 (dk_at dksX5_draft_0 13 rfl rfl)
theorem dX5_draft_14 : decode cX5_draft 14 = .ok (.iconst 1, 1) := dk_4 (dk_at dksX5_draft_0 14 rfl rfl)
theorem dX5_draft_15 : decode cX5_draft 15 = .ok (.invokevirtual 83, 3) := dk_182 0 83 (dk_at dksX5_draft_0 15 rfl rfl)
theorem dX5_draft_18 : decode cX5_draft 18 = .ok (.ireturn, 1) := dk_172 (dk_at dksX5_draft_0 18 rfl rfl)
theorem dX5_draft_19 : decode cX5_draft 19 = .ok (.iload_n 2, 1) := dk_28 (dk_at dksX5_draft_0 19 rfl rfl)
theorem dX5_draft_20 : decode cX5_draft 20 = .ok (.i2l, 1) := dk_133 (dk_at dksX5_draft_0 20 rfl rfl)
theorem dX5_draft_21 : decode cX5_draft 21 = .ok (.lconst 1, 1) := dk_10 (dk_at dksX5_draft_0 21 rfl rfl)
theorem dX5_draft_22 : decode cX5_draft 22 = .ok (.ldc2_w 289, 3) := dk_20 1 33 (dk_at dksX5_draft_1 0 rfl rfl)
theorem dX5_draft_25 : decode cX5_draft 25 = .ok (.invokestatic 90, 3) := dk_184 0 90 (dk_at dksX5_draft_1 3 rfl rfl)
theorem dX5_draft_28 : decode cX5_draft 28 = .ok (.ifCond .eq 24, 3) := dk_153 0 24 (dk_at dksX5_draft_1 6 rfl rfl)
theorem dX5_draft_31 : decode cX5_draft 31 = .ok (.iload_n 3, 1) := dk_29 (dk_at dksX5_draft_1 9 rfl rfl)
theorem dX5_draft_32 : decode cX5_draft 32 = .ok (.i2l, 1) := dk_133 (dk_at dksX5_draft_1 10 rfl rfl)
theorem dX5_draft_33 : decode cX5_draft 33 = .ok (.ldc2_w 291, 3) := dk_20 1 35 (dk_at dksX5_draft_1 11 rfl rfl)
theorem dX5_draft_36 : decode cX5_draft 36 = .ok (.ldc2_w 293, 3) := dk_20 1 37 (dk_at dksX5_draft_1 14 rfl rfl)
theorem dX5_draft_39 : decode cX5_draft 39 = .ok (.invokestatic 90, 3) := dk_184 0 90 (dk_at dksX5_draft_1 17 rfl rfl)
theorem dX5_draft_42 : decode cX5_draft 42 = .ok (.ifCond .eq 10, 3) := dk_153 0 10 (dk_at dksX5_draft_1 20 rfl rfl)
theorem dX5_draft_45 : decode cX5_draft 45 = .ok (.iload_n 3, 1) := dk_29 (dk_at dksX5_draft_1 23 rfl rfl)
theorem dX5_draft_46 : decode cX5_draft 46 = .ok (.bipush 15, 2) := dk_16 15 (dk_at dksX5_draft_2 0 rfl rfl)
theorem dX5_draft_48 : decode cX5_draft 48 = .ok (.irem, 1) := dk_112 (dk_at dksX5_draft_2 2 rfl rfl)
theorem dX5_draft_49 : decode cX5_draft 49 = .ok (.ifCond .eq 9, 3) := dk_153 0 9 (dk_at dksX5_draft_2 3 rfl rfl)
theorem dX5_draft_52 : decode cX5_draft 52 = .ok (.aload_n 0, 1) := dk_42 (dk_at dksX5_draft_2 6 rfl rfl)
theorem dX5_draft_53 : decode cX5_draft 53 = .ok (.iconst 2, 1) := dk_5 (dk_at dksX5_draft_2 7 rfl rfl)
theorem dX5_draft_54 : decode cX5_draft 54 = .ok (.invokevirtual 83, 3) := dk_182 0 83 (dk_at dksX5_draft_2 8 rfl rfl)
theorem dX5_draft_57 : decode cX5_draft 57 = .ok (.ireturn, 1) := dk_172 (dk_at dksX5_draft_2 11 rfl rfl)
theorem dX5_draft_58 : decode cX5_draft 58 = .ok (.aload_n 0, 1) := dk_42 (dk_at dksX5_draft_2 12 rfl rfl)
theorem dX5_draft_59 : decode cX5_draft 59 = .ok (.getfield 30, 3) := dk_180 0 30 (dk_at dksX5_draft_2 13 rfl rfl)
theorem dX5_draft_62 : decode cX5_draft 62 = .ok (.iconst 2, 1) := dk_5 (dk_at dksX5_draft_2 16 rfl rfl)
theorem dX5_draft_63 : decode cX5_draft 63 = .ok (.iaload, 1) := dk_46 (dk_at dksX5_draft_2 17 rfl rfl)
theorem dX5_draft_64 : decode cX5_draft 64 = .ok (.istore 4, 2) := dk_54 4 (dk_at dksX5_draft_2 18 rfl rfl)
theorem dX5_draft_66 : decode cX5_draft 66 = .ok (.iconst 0, 1) := dk_3 (dk_at dksX5_draft_2 20 rfl rfl)
theorem dX5_draft_67 : decode cX5_draft 67 = .ok (.istore 5, 2) := dk_54 5 (dk_at dksX5_draft_2 21 rfl rfl)
theorem dX5_draft_69 : decode cX5_draft 69 = .ok (.iload 5, 2) := dk_21 5 (dk_at dksX5_draft_3 0 rfl rfl)
theorem dX5_draft_71 : decode cX5_draft 71 = .ok (.bipush 6, 2) := dk_16 6 (dk_at dksX5_draft_3 2 rfl rfl)
theorem dX5_draft_73 : decode cX5_draft 73 = .ok (.if_icmp .ge 19, 3) := dk_162 0 19 (dk_at dksX5_draft_3 4 rfl rfl)
theorem dX5_draft_76 : decode cX5_draft 76 = .ok (.aload_n 0, 1) := dk_42 (dk_at dksX5_draft_3 7 rfl rfl)
theorem dX5_draft_77 : decode cX5_draft 77 = .ok (.getfield 30, 3) := dk_180 0 30 (dk_at dksX5_draft_3 8 rfl rfl)
theorem dX5_draft_80 : decode cX5_draft 80 = .ok (.iconst 3, 1) := dk_6 (dk_at dksX5_draft_3 11 rfl rfl)
theorem dX5_draft_81 : decode cX5_draft 81 = .ok (.iload 5, 2) := dk_21 5 (dk_at dksX5_draft_3 12 rfl rfl)
theorem dX5_draft_83 : decode cX5_draft 83 = .ok (.iadd, 1) := dk_96 (dk_at dksX5_draft_3 14 rfl rfl)
theorem dX5_draft_84 : decode cX5_draft 84 = .ok (.iconst 0, 1) := dk_3 (dk_at dksX5_draft_3 15 rfl rfl)
theorem dX5_draft_85 : decode cX5_draft 85 = .ok (.iastore, 1) := dk_79 (dk_at dksX5_draft_3 16 rfl rfl)
theorem dX5_draft_86 : decode cX5_draft 86 = .ok (.iinc 5 1, 3) := dk_132 5 1 (dk_at dksX5_draft_3 17 rfl rfl)
theorem dX5_draft_89 : decode cX5_draft 89 = .ok (.goto (-20), 3) := dk_167 255 236 (dk_at dksX5_draft_3 20 rfl rfl)
theorem dX5_draft_92 : decode cX5_draft 92 = .ok (.aload_n 0, 1) := dk_42 (dk_at dksX5_draft_3 23 rfl rfl)
theorem dX5_draft_93 : decode cX5_draft 93 = .ok (.getfield 30, 3) := dk_180 0 30 (dk_at dksX5_draft_4 0 rfl rfl)
theorem dX5_draft_96 : decode cX5_draft 96 = .ok (.iconst 0, 1) := dk_3 (dk_at dksX5_draft_4 3 rfl rfl)
theorem dX5_draft_97 : decode cX5_draft 97 = .ok (.iload_n 1, 1) := dk_27 (dk_at dksX5_draft_4 4 rfl rfl)
theorem dX5_draft_98 : decode cX5_draft 98 = .ok (.iastore, 1) := dk_79 (dk_at dksX5_draft_4 5 rfl rfl)
theorem dX5_draft_99 : decode cX5_draft 99 = .ok (.aload_n 0, 1) := dk_42 (dk_at dksX5_draft_4 6 rfl rfl)
theorem dX5_draft_100 : decode cX5_draft 100 = .ok (.getfield 30, 3) := dk_180 0 30 (dk_at dksX5_draft_4 7 rfl rfl)
theorem dX5_draft_103 : decode cX5_draft 103 = .ok (.iconst 1, 1) := dk_4 (dk_at dksX5_draft_4 10 rfl rfl)
theorem dX5_draft_104 : decode cX5_draft 104 = .ok (.iload_n 2, 1) := dk_28 (dk_at dksX5_draft_4 11 rfl rfl)
theorem dX5_draft_105 : decode cX5_draft 105 = .ok (.iastore, 1) := dk_79 (dk_at dksX5_draft_4 12 rfl rfl)
theorem dX5_draft_106 : decode cX5_draft 106 = .ok (.aload_n 0, 1) := dk_42 (dk_at dksX5_draft_4 13 rfl rfl)
theorem dX5_draft_107 : decode cX5_draft 107 = .ok (.getfield 30, 3) := dk_180 0 30 (dk_at dksX5_draft_4 14 rfl rfl)
theorem dX5_draft_110 : decode cX5_draft 110 = .ok (.iconst 2, 1) := dk_5 (dk_at dksX5_draft_4 17 rfl rfl)
theorem dX5_draft_111 : decode cX5_draft 111 = .ok (.iload_n 3, 1) := dk_29 (dk_at dksX5_draft_4 18 rfl rfl)
theorem dX5_draft_112 : decode cX5_draft 112 = .ok (.iastore, 1) := dk_79 (dk_at dksX5_draft_4 19 rfl rfl)
theorem dX5_draft_113 : decode cX5_draft 113 = .ok (.iload 4, 2) := dk_21 4 (dk_at dksX5_draft_4 20 rfl rfl)
theorem dX5_draft_115 : decode cX5_draft 115 = .ok (.ireturn, 1) := dk_172 (dk_at dksX5_draft_4 22 rfl rfl)
abbrev cX5_isType : ByteArray := prog_17_method_40_code
def yX5_isType : MethodName := ⟨RX5, "isType", "(I)Z"⟩
def dkwX5_isType_0 : List UInt8 := [27, 133, 9, 42, 180, 0, 13, 4, 46, 4, 100, 133, 184, 0, 90, 172]
abbrev dktX5_isType_0 : List UInt8 := dkwX5_isType_0 ++ []
theorem dksX5_isType_0 : cX5_isType.data.toList.drop 0 = dktX5_isType_0 := by decide +kernel
theorem dX5_isType_0 : decode cX5_isType 0 = .ok (.iload_n 1, 1) := dk_27 (dk_at dksX5_isType_0 0 rfl rfl)
theorem dX5_isType_1 : decode cX5_isType 1 = .ok (.i2l, 1) := dk_133 (dk_at dksX5_isType_0 1 rfl rfl)
theorem dX5_isType_2 : decode cX5_isType 2 = .ok (.lconst 0, 1) := dk_9 (dk_at dksX5_isType_0 2 rfl rfl)
theorem dX5_isType_3 : decode cX5_isType 3 = .ok (.aload_n 0, 1) := dk_42 (dk_at dksX5_isType_0 3 rfl rfl)
theorem dX5_isType_4 : decode cX5_isType 4 = .ok (.getfield 13, 3) := dk_180 0 13 (dk_at dksX5_isType_0 4 rfl rfl)
theorem dX5_isType_7 : decode cX5_isType 7 = .ok (.iconst 1, 1) := dk_4 (dk_at dksX5_isType_0 7 rfl rfl)
theorem dX5_isType_8 : decode cX5_isType 8 = .ok (.iaload, 1) := dk_46 (dk_at dksX5_isType_0 8 rfl rfl)
theorem dX5_isType_9 : decode cX5_isType 9 = .ok (.iconst 1, 1) := dk_4 (dk_at dksX5_isType_0 9 rfl rfl)
theorem dX5_isType_10 : decode cX5_isType 10 = .ok (.isub, 1) := dk_100 (dk_at dksX5_isType_0 10 rfl rfl)
theorem dX5_isType_11 : decode cX5_isType 11 = .ok (.i2l, 1) := dk_133 (dk_at dksX5_isType_0 11 rfl rfl)
theorem dX5_isType_12 : decode cX5_isType 12 = .ok (.invokestatic 90, 3) := dk_184 0 90 (dk_at dksX5_isType_0 12 rfl rfl)
theorem dX5_isType_15 : decode cX5_isType 15 = .ok (.ireturn, 1) := dk_172 (dk_at dksX5_isType_0 15 rfl rfl)
abbrev cX5_need : ByteArray := prog_17_method_65_code
def yX5_need : MethodName := ⟨RX5, "need", "(II)I"⟩
def dkwX5_need_2 : List UInt8 := [180, 0, 30, 6, 27, 96, 46, 62, 42, 180, 0, 30, 6, 27, 96, 28, 79, 29, 172]
abbrev dktX5_need_2 : List UInt8 := dkwX5_need_2 ++ []
def dkwX5_need_1 : List UInt8 := [180, 0, 13, 16, 32, 27, 96, 46, 133, 184, 0, 90, 154, 0, 9, 42, 5, 182, 0, 83, 172, 42]
abbrev dktX5_need_1 : List UInt8 := dkwX5_need_1 ++ dktX5_need_2
def dkwX5_need_0 : List UInt8 := [42, 3, 181, 0, 3, 42, 27, 182, 1, 39, 154, 0, 9, 42, 4, 182, 0, 83, 172, 28, 133, 9, 42]
abbrev dktX5_need_0 : List UInt8 := dkwX5_need_0 ++ dktX5_need_1
theorem dksX5_need_0 : cX5_need.data.toList.drop 0 = dktX5_need_0 := by decide +kernel
theorem dksX5_need_1 : cX5_need.data.toList.drop 23 = dktX5_need_1 := dk_seg dksX5_need_0 23 rfl rfl
theorem dksX5_need_2 : cX5_need.data.toList.drop 45 = dktX5_need_2 := dk_seg dksX5_need_1 22 rfl rfl
theorem dX5_need_0 : decode cX5_need 0 = .ok (.aload_n 0, 1) := dk_42 (dk_at dksX5_need_0 0 rfl rfl)
theorem dX5_need_1 : decode cX5_need 1 = .ok (.iconst 0, 1) := dk_3 (dk_at dksX5_need_0 1 rfl rfl)
theorem dX5_need_2 : decode cX5_need 2 = .ok (.putfield 3, 3) := dk_181 0 3 (dk_at dksX5_need_0 2 rfl rfl)
theorem dX5_need_5 : decode cX5_need 5 = .ok (.aload_n 0, 1) := dk_42 (dk_at dksX5_need_0 5 rfl rfl)
theorem dX5_need_6 : decode cX5_need 6 = .ok (.iload_n 1, 1) := dk_27 (dk_at dksX5_need_0 6 rfl rfl)
theorem dX5_need_7 : decode cX5_need 7 = .ok (.invokevirtual 295, 3) := dk_182 1 39 (dk_at dksX5_need_0 7 rfl rfl)
theorem dX5_need_10 : decode cX5_need 10 = .ok (.ifCond .ne 9, 3) := dk_154 0 9 (dk_at dksX5_need_0 10 rfl rfl)
theorem dX5_need_13 : decode cX5_need 13 = .ok (.aload_n 0, 1) := dk_42 (dk_at dksX5_need_0 13 rfl rfl)
theorem dX5_need_14 : decode cX5_need 14 = .ok (.iconst 1, 1) := dk_4 (dk_at dksX5_need_0 14 rfl rfl)
theorem dX5_need_15 : decode cX5_need 15 = .ok (.invokevirtual 83, 3) := dk_182 0 83 (dk_at dksX5_need_0 15 rfl rfl)
theorem dX5_need_18 : decode cX5_need 18 = .ok (.ireturn, 1) := dk_172 (dk_at dksX5_need_0 18 rfl rfl)
theorem dX5_need_19 : decode cX5_need 19 = .ok (.iload_n 2, 1) := dk_28 (dk_at dksX5_need_0 19 rfl rfl)
theorem dX5_need_20 : decode cX5_need 20 = .ok (.i2l, 1) := dk_133 (dk_at dksX5_need_0 20 rfl rfl)
theorem dX5_need_21 : decode cX5_need 21 = .ok (.lconst 0, 1) := dk_9 (dk_at dksX5_need_0 21 rfl rfl)
theorem dX5_need_22 : decode cX5_need 22 = .ok (.aload_n 0, 1) := dk_42 (dk_at dksX5_need_0 22 rfl rfl)
theorem dX5_need_23 : decode cX5_need 23 = .ok (.getfield 13, 3) := dk_180 0 13 (dk_at dksX5_need_1 0 rfl rfl)
theorem dX5_need_26 : decode cX5_need 26 = .ok (.bipush 32, 2) := dk_16 32 (dk_at dksX5_need_1 3 rfl rfl)
theorem dX5_need_28 : decode cX5_need 28 = .ok (.iload_n 1, 1) := dk_27 (dk_at dksX5_need_1 5 rfl rfl)
theorem dX5_need_29 : decode cX5_need 29 = .ok (.iadd, 1) := dk_96 (dk_at dksX5_need_1 6 rfl rfl)
theorem dX5_need_30 : decode cX5_need 30 = .ok (.iaload, 1) := dk_46 (dk_at dksX5_need_1 7 rfl rfl)
theorem dX5_need_31 : decode cX5_need 31 = .ok (.i2l, 1) := dk_133 (dk_at dksX5_need_1 8 rfl rfl)
theorem dX5_need_32 : decode cX5_need 32 = .ok (.invokestatic 90, 3) := dk_184 0 90 (dk_at dksX5_need_1 9 rfl rfl)
theorem dX5_need_35 : decode cX5_need 35 = .ok (.ifCond .ne 9, 3) := dk_154 0 9 (dk_at dksX5_need_1 12 rfl rfl)
theorem dX5_need_38 : decode cX5_need 38 = .ok (.aload_n 0, 1) := dk_42 (dk_at dksX5_need_1 15 rfl rfl)
theorem dX5_need_39 : decode cX5_need 39 = .ok (.iconst 2, 1) := dk_5 (dk_at dksX5_need_1 16 rfl rfl)
theorem dX5_need_40 : decode cX5_need 40 = .ok (.invokevirtual 83, 3) := dk_182 0 83 (dk_at dksX5_need_1 17 rfl rfl)
theorem dX5_need_43 : decode cX5_need 43 = .ok (.ireturn, 1) := dk_172 (dk_at dksX5_need_1 20 rfl rfl)
theorem dX5_need_44 : decode cX5_need 44 = .ok (.aload_n 0, 1) := dk_42 (dk_at dksX5_need_1 21 rfl rfl)
theorem dX5_need_45 : decode cX5_need 45 = .ok (.getfield 30, 3) := dk_180 0 30 (dk_at dksX5_need_2 0 rfl rfl)
theorem dX5_need_48 : decode cX5_need 48 = .ok (.iconst 3, 1) := dk_6 (dk_at dksX5_need_2 3 rfl rfl)
theorem dX5_need_49 : decode cX5_need 49 = .ok (.iload_n 1, 1) := dk_27 (dk_at dksX5_need_2 4 rfl rfl)
theorem dX5_need_50 : decode cX5_need 50 = .ok (.iadd, 1) := dk_96 (dk_at dksX5_need_2 5 rfl rfl)
theorem dX5_need_51 : decode cX5_need 51 = .ok (.iaload, 1) := dk_46 (dk_at dksX5_need_2 6 rfl rfl)
theorem dX5_need_52 : decode cX5_need 52 = .ok (.istore_n 3, 1) := dk_62 (dk_at dksX5_need_2 7 rfl rfl)
theorem dX5_need_53 : decode cX5_need 53 = .ok (.aload_n 0, 1) := dk_42 (dk_at dksX5_need_2 8 rfl rfl)
theorem dX5_need_54 : decode cX5_need 54 = .ok (.getfield 30, 3) := dk_180 0 30 (dk_at dksX5_need_2 9 rfl rfl)
theorem dX5_need_57 : decode cX5_need 57 = .ok (.iconst 3, 1) := dk_6 (dk_at dksX5_need_2 12 rfl rfl)
theorem dX5_need_58 : decode cX5_need 58 = .ok (.iload_n 1, 1) := dk_27 (dk_at dksX5_need_2 13 rfl rfl)
theorem dX5_need_59 : decode cX5_need 59 = .ok (.iadd, 1) := dk_96 (dk_at dksX5_need_2 14 rfl rfl)
theorem dX5_need_60 : decode cX5_need 60 = .ok (.iload_n 2, 1) := dk_28 (dk_at dksX5_need_2 15 rfl rfl)
theorem dX5_need_61 : decode cX5_need 61 = .ok (.iastore, 1) := dk_79 (dk_at dksX5_need_2 16 rfl rfl)
theorem dX5_need_62 : decode cX5_need 62 = .ok (.iload_n 3, 1) := dk_29 (dk_at dksX5_need_2 17 rfl rfl)
theorem dX5_need_63 : decode cX5_need 63 = .ok (.ireturn, 1) := dk_172 (dk_at dksX5_need_2 18 rfl rfl)
abbrev cX5_isKind : ByteArray := prog_17_method_41_code
def yX5_isKind : MethodName := ⟨RX5, "isKind", "(I)Z"⟩
def dkwX5_isKind_0 : List UInt8 := [27, 133, 9, 42, 180, 0, 13, 5, 46, 4, 100, 133, 184, 0, 90, 172]
abbrev dktX5_isKind_0 : List UInt8 := dkwX5_isKind_0 ++ []
theorem dksX5_isKind_0 : cX5_isKind.data.toList.drop 0 = dktX5_isKind_0 := by decide +kernel
theorem dX5_isKind_0 : decode cX5_isKind 0 = .ok (.iload_n 1, 1) := dk_27 (dk_at dksX5_isKind_0 0 rfl rfl)
theorem dX5_isKind_1 : decode cX5_isKind 1 = .ok (.i2l, 1) := dk_133 (dk_at dksX5_isKind_0 1 rfl rfl)
theorem dX5_isKind_2 : decode cX5_isKind 2 = .ok (.lconst 0, 1) := dk_9 (dk_at dksX5_isKind_0 2 rfl rfl)
theorem dX5_isKind_3 : decode cX5_isKind 3 = .ok (.aload_n 0, 1) := dk_42 (dk_at dksX5_isKind_0 3 rfl rfl)
theorem dX5_isKind_4 : decode cX5_isKind 4 = .ok (.getfield 13, 3) := dk_180 0 13 (dk_at dksX5_isKind_0 4 rfl rfl)
theorem dX5_isKind_7 : decode cX5_isKind 7 = .ok (.iconst 2, 1) := dk_5 (dk_at dksX5_isKind_0 7 rfl rfl)
theorem dX5_isKind_8 : decode cX5_isKind 8 = .ok (.iaload, 1) := dk_46 (dk_at dksX5_isKind_0 8 rfl rfl)
theorem dX5_isKind_9 : decode cX5_isKind 9 = .ok (.iconst 1, 1) := dk_4 (dk_at dksX5_isKind_0 9 rfl rfl)
theorem dX5_isKind_10 : decode cX5_isKind 10 = .ok (.isub, 1) := dk_100 (dk_at dksX5_isKind_0 10 rfl rfl)
theorem dX5_isKind_11 : decode cX5_isKind 11 = .ok (.i2l, 1) := dk_133 (dk_at dksX5_isKind_0 11 rfl rfl)
theorem dX5_isKind_12 : decode cX5_isKind 12 = .ok (.invokestatic 90, 3) := dk_184 0 90 (dk_at dksX5_isKind_0 12 rfl rfl)
theorem dX5_isKind_15 : decode cX5_isKind 15 = .ok (.ireturn, 1) := dk_172 (dk_at dksX5_isKind_0 15 rfl rfl)
abbrev cX5_book : ByteArray := prog_17_method_69_code
def yX5_book : MethodName := ⟨RX5, "book", "(II)I"⟩
def dkwX5_book_2 : List UInt8 := [42, 6, 182, 0, 83, 172, 42, 182, 1, 58, 42, 42, 180, 0, 30, 3, 27, 28, 182, 1, 61, 172]
abbrev dktX5_book_2 : List UInt8 := dkwX5_book_2 ++ []
def dkwX5_book_1 : List UInt8 := [46, 153, 0, 23, 42, 180, 0, 36, 4, 46, 16, 60, 159, 0, 12, 42, 27, 28, 182, 1, 55, 153, 0, 9]
abbrev dktX5_book_1 : List UInt8 := dkwX5_book_1 ++ dktX5_book_2
def dkwX5_book_0 : List UInt8 := [42, 42, 27, 28, 182, 1, 52, 181, 0, 3, 42, 180, 0, 3, 158, 0, 5, 3, 172, 42, 180, 0, 13, 4]
abbrev dktX5_book_0 : List UInt8 := dkwX5_book_0 ++ dktX5_book_1
theorem dksX5_book_0 : cX5_book.data.toList.drop 0 = dktX5_book_0 := by decide +kernel
theorem dksX5_book_1 : cX5_book.data.toList.drop 24 = dktX5_book_1 := dk_seg dksX5_book_0 24 rfl rfl
theorem dksX5_book_2 : cX5_book.data.toList.drop 48 = dktX5_book_2 := dk_seg dksX5_book_1 24 rfl rfl
theorem dX5_book_0 : decode cX5_book 0 = .ok (.aload_n 0, 1) := dk_42 (dk_at dksX5_book_0 0 rfl rfl)
theorem dX5_book_1 : decode cX5_book 1 = .ok (.aload_n 0, 1) := dk_42 (dk_at dksX5_book_0 1 rfl rfl)
theorem dX5_book_2 : decode cX5_book 2 = .ok (.iload_n 1, 1) := dk_27 (dk_at dksX5_book_0 2 rfl rfl)
theorem dX5_book_3 : decode cX5_book 3 = .ok (.iload_n 2, 1) := dk_28 (dk_at dksX5_book_0 3 rfl rfl)
theorem dX5_book_4 : decode cX5_book 4 = .ok (.invokevirtual 308, 3) := dk_182 1 52 (dk_at dksX5_book_0 4 rfl rfl)
theorem dX5_book_7 : decode cX5_book 7 = .ok (.putfield 3, 3) := dk_181 0 3 (dk_at dksX5_book_0 7 rfl rfl)
theorem dX5_book_10 : decode cX5_book 10 = .ok (.aload_n 0, 1) := dk_42 (dk_at dksX5_book_0 10 rfl rfl)
theorem dX5_book_11 : decode cX5_book 11 = .ok (.getfield 3, 3) := dk_180 0 3 (dk_at dksX5_book_0 11 rfl rfl)
theorem dX5_book_14 : decode cX5_book 14 = .ok (.ifCond .le 5, 3) := dk_158 0 5 (dk_at dksX5_book_0 14 rfl rfl)
theorem dX5_book_17 : decode cX5_book 17 = .ok (.iconst 0, 1) := dk_3 (dk_at dksX5_book_0 17 rfl rfl)
theorem dX5_book_18 : decode cX5_book 18 = .ok (.ireturn, 1) := dk_172 (dk_at dksX5_book_0 18 rfl rfl)
theorem dX5_book_19 : decode cX5_book 19 = .ok (.aload_n 0, 1) := dk_42 (dk_at dksX5_book_0 19 rfl rfl)
theorem dX5_book_20 : decode cX5_book 20 = .ok (.getfield 13, 3) := dk_180 0 13 (dk_at dksX5_book_0 20 rfl rfl)
theorem dX5_book_23 : decode cX5_book 23 = .ok (.iconst 1, 1) := dk_4 (dk_at dksX5_book_0 23 rfl rfl)
theorem dX5_book_24 : decode cX5_book 24 = .ok (.iaload, 1) := dk_46 (dk_at dksX5_book_1 0 rfl rfl)
theorem dX5_book_25 : decode cX5_book 25 = .ok (.ifCond .eq 23, 3) := dk_153 0 23 (dk_at dksX5_book_1 1 rfl rfl)
theorem dX5_book_28 : decode cX5_book 28 = .ok (.aload_n 0, 1) := dk_42 (dk_at dksX5_book_1 4 rfl rfl)
theorem dX5_book_29 : decode cX5_book 29 = .ok (.getfield 36, 3) := dk_180 0 36 (dk_at dksX5_book_1 5 rfl rfl)
theorem dX5_book_32 : decode cX5_book 32 = .ok (.iconst 1, 1) := dk_4 (dk_at dksX5_book_1 8 rfl rfl)
theorem dX5_book_33 : decode cX5_book 33 = .ok (.iaload, 1) := dk_46 (dk_at dksX5_book_1 9 rfl rfl)
theorem dX5_book_34 : decode cX5_book 34 = .ok (.bipush 60, 2) := dk_16 60 (dk_at dksX5_book_1 10 rfl rfl)
theorem dX5_book_36 : decode cX5_book 36 = .ok (.if_icmp .eq 12, 3) := dk_159 0 12 (dk_at dksX5_book_1 12 rfl rfl)
theorem dX5_book_39 : decode cX5_book 39 = .ok (.aload_n 0, 1) := dk_42 (dk_at dksX5_book_1 15 rfl rfl)
theorem dX5_book_40 : decode cX5_book 40 = .ok (.iload_n 1, 1) := dk_27 (dk_at dksX5_book_1 16 rfl rfl)
theorem dX5_book_41 : decode cX5_book 41 = .ok (.iload_n 2, 1) := dk_28 (dk_at dksX5_book_1 17 rfl rfl)
theorem dX5_book_42 : decode cX5_book 42 = .ok (.invokevirtual 311, 3) := dk_182 1 55 (dk_at dksX5_book_1 18 rfl rfl)
theorem dX5_book_45 : decode cX5_book 45 = .ok (.ifCond .eq 9, 3) := dk_153 0 9 (dk_at dksX5_book_1 21 rfl rfl)
theorem dX5_book_48 : decode cX5_book 48 = .ok (.aload_n 0, 1) := dk_42 (dk_at dksX5_book_2 0 rfl rfl)
theorem dX5_book_49 : decode cX5_book 49 = .ok (.iconst 3, 1) := dk_6 (dk_at dksX5_book_2 1 rfl rfl)
theorem dX5_book_50 : decode cX5_book 50 = .ok (.invokevirtual 83, 3) := dk_182 0 83 (dk_at dksX5_book_2 2 rfl rfl)
theorem dX5_book_53 : decode cX5_book 53 = .ok (.ireturn, 1) := dk_172 (dk_at dksX5_book_2 5 rfl rfl)
theorem dX5_book_54 : decode cX5_book 54 = .ok (.aload_n 0, 1) := dk_42 (dk_at dksX5_book_2 6 rfl rfl)
theorem dX5_book_55 : decode cX5_book 55 = .ok (.invokevirtual 314, 3) := dk_182 1 58 (dk_at dksX5_book_2 7 rfl rfl)
theorem dX5_book_58 : decode cX5_book 58 = .ok (.aload_n 0, 1) := dk_42 (dk_at dksX5_book_2 10 rfl rfl)
theorem dX5_book_59 : decode cX5_book 59 = .ok (.aload_n 0, 1) := dk_42 (dk_at dksX5_book_2 11 rfl rfl)
theorem dX5_book_60 : decode cX5_book 60 = .ok (.getfield 30, 3) := dk_180 0 30 (dk_at dksX5_book_2 12 rfl rfl)
theorem dX5_book_63 : decode cX5_book 63 = .ok (.iconst 0, 1) := dk_3 (dk_at dksX5_book_2 15 rfl rfl)
theorem dX5_book_64 : decode cX5_book 64 = .ok (.iload_n 1, 1) := dk_27 (dk_at dksX5_book_2 16 rfl rfl)
theorem dX5_book_65 : decode cX5_book 65 = .ok (.iload_n 2, 1) := dk_28 (dk_at dksX5_book_2 17 rfl rfl)
theorem dX5_book_66 : decode cX5_book 66 = .ok (.invokevirtual 317, 3) := dk_182 1 61 (dk_at dksX5_book_2 18 rfl rfl)
theorem dX5_book_69 : decode cX5_book 69 = .ok (.ireturn, 1) := dk_172 (dk_at dksX5_book_2 21 rfl rfl)
abbrev cX5_whyNotSlot : ByteArray := prog_17_method_66_code
def yX5_whyNotSlot : MethodName := ⟨RX5, "whyNotSlot", "(II)I"⟩
def dkwX5_whyNotSlot_1 : List UInt8 := [172]
abbrev dktX5_whyNotSlot_1 : List UInt8 := dkwX5_whyNotSlot_1 ++ []
def dkwX5_whyNotSlot_0 : List UInt8 := [42, 27, 182, 1, 42, 154, 0, 7, 4, 167, 0, 15, 28, 184, 1, 45, 154, 0, 7, 5, 167, 0, 4, 3]
abbrev dktX5_whyNotSlot_0 : List UInt8 := dkwX5_whyNotSlot_0 ++ dktX5_whyNotSlot_1
theorem dksX5_whyNotSlot_0 : cX5_whyNotSlot.data.toList.drop 0 = dktX5_whyNotSlot_0 := by decide +kernel
theorem dksX5_whyNotSlot_1 : cX5_whyNotSlot.data.toList.drop 24 = dktX5_whyNotSlot_1 := dk_seg dksX5_whyNotSlot_0 24 rfl rfl
theorem dX5_whyNotSlot_0 : decode cX5_whyNotSlot 0 = .ok (.aload_n 0, 1) := dk_42 (dk_at dksX5_whyNotSlot_0 0 rfl rfl)
theorem dX5_whyNotSlot_1 : decode cX5_whyNotSlot 1 = .ok (.iload_n 1, 1) := dk_27 (dk_at dksX5_whyNotSlot_0 1 rfl rfl)
theorem dX5_whyNotSlot_2 : decode cX5_whyNotSlot 2 = .ok (.invokevirtual 298, 3) := dk_182 1 42 (dk_at dksX5_whyNotSlot_0 2 rfl rfl)
theorem dX5_whyNotSlot_5 : decode cX5_whyNotSlot 5 = .ok (.ifCond .ne 7, 3) := dk_154 0 7 (dk_at dksX5_whyNotSlot_0 5 rfl rfl)
theorem dX5_whyNotSlot_8 : decode cX5_whyNotSlot 8 = .ok (.iconst 1, 1) := dk_4 (dk_at dksX5_whyNotSlot_0 8 rfl rfl)
theorem dX5_whyNotSlot_9 : decode cX5_whyNotSlot 9 = .ok (.goto 15, 3) := dk_167 0 15 (dk_at dksX5_whyNotSlot_0 9 rfl rfl)
theorem dX5_whyNotSlot_12 : decode cX5_whyNotSlot 12 = .ok (.iload_n 2, 1) := dk_28 (dk_at dksX5_whyNotSlot_0 12 rfl rfl)
theorem dX5_whyNotSlot_13 : decode cX5_whyNotSlot 13 = .ok (.invokestatic 301, 3) := dk_184 1 45 (dk_at dksX5_whyNotSlot_0 13 rfl rfl)
theorem dX5_whyNotSlot_16 : decode cX5_whyNotSlot 16 = .ok (.ifCond .ne 7, 3) := dk_154 0 7 (dk_at dksX5_whyNotSlot_0 16 rfl rfl)
theorem dX5_whyNotSlot_19 : decode cX5_whyNotSlot 19 = .ok (.iconst 2, 1) := dk_5 (dk_at dksX5_whyNotSlot_0 19 rfl rfl)
theorem dX5_whyNotSlot_20 : decode cX5_whyNotSlot 20 = .ok (.goto 4, 3) := dk_167 0 4 (dk_at dksX5_whyNotSlot_0 20 rfl rfl)
theorem dX5_whyNotSlot_23 : decode cX5_whyNotSlot 23 = .ok (.iconst 0, 1) := dk_3 (dk_at dksX5_whyNotSlot_0 23 rfl rfl)
theorem dX5_whyNotSlot_24 : decode cX5_whyNotSlot 24 = .ok (.ireturn, 1) := dk_172 (dk_at dksX5_whyNotSlot_1 0 rfl rfl)
abbrev cX5_isHall : ByteArray := prog_17_method_39_code
def yX5_isHall : MethodName := ⟨RX5, "isHall", "(I)Z"⟩
def dkwX5_isHall_0 : List UInt8 := [27, 133, 9, 42, 180, 0, 13, 3, 46, 4, 100, 133, 184, 0, 90, 172]
abbrev dktX5_isHall_0 : List UInt8 := dkwX5_isHall_0 ++ []
theorem dksX5_isHall_0 : cX5_isHall.data.toList.drop 0 = dktX5_isHall_0 := by decide +kernel
theorem dX5_isHall_0 : decode cX5_isHall 0 = .ok (.iload_n 1, 1) := dk_27 (dk_at dksX5_isHall_0 0 rfl rfl)
theorem dX5_isHall_1 : decode cX5_isHall 1 = .ok (.i2l, 1) := dk_133 (dk_at dksX5_isHall_0 1 rfl rfl)
theorem dX5_isHall_2 : decode cX5_isHall 2 = .ok (.lconst 0, 1) := dk_9 (dk_at dksX5_isHall_0 2 rfl rfl)
theorem dX5_isHall_3 : decode cX5_isHall 3 = .ok (.aload_n 0, 1) := dk_42 (dk_at dksX5_isHall_0 3 rfl rfl)
theorem dX5_isHall_4 : decode cX5_isHall 4 = .ok (.getfield 13, 3) := dk_180 0 13 (dk_at dksX5_isHall_0 4 rfl rfl)
theorem dX5_isHall_7 : decode cX5_isHall 7 = .ok (.iconst 0, 1) := dk_3 (dk_at dksX5_isHall_0 7 rfl rfl)
theorem dX5_isHall_8 : decode cX5_isHall 8 = .ok (.iaload, 1) := dk_46 (dk_at dksX5_isHall_0 8 rfl rfl)
theorem dX5_isHall_9 : decode cX5_isHall 9 = .ok (.iconst 1, 1) := dk_4 (dk_at dksX5_isHall_0 9 rfl rfl)
theorem dX5_isHall_10 : decode cX5_isHall 10 = .ok (.isub, 1) := dk_100 (dk_at dksX5_isHall_0 10 rfl rfl)
theorem dX5_isHall_11 : decode cX5_isHall 11 = .ok (.i2l, 1) := dk_133 (dk_at dksX5_isHall_0 11 rfl rfl)
theorem dX5_isHall_12 : decode cX5_isHall 12 = .ok (.invokestatic 90, 3) := dk_184 0 90 (dk_at dksX5_isHall_0 12 rfl rfl)
theorem dX5_isHall_15 : decode cX5_isHall 15 = .ok (.ireturn, 1) := dk_172 (dk_at dksX5_isHall_0 15 rfl rfl)
abbrev cX5_isStart : ByteArray := prog_17_method_43_code
def yX5_isStart : MethodName := ⟨RX5, "isStart", "(I)Z"⟩
def dkwX5_isStart_1 : List UInt8 := [172]
abbrev dktX5_isStart_1 : List UInt8 := dkwX5_isStart_1 ++ []
def dkwX5_isStart_0 : List UInt8 := [26, 133, 9, 20, 0, 223, 184, 0, 90, 153, 0, 14, 26, 16, 15, 112, 154, 0, 7, 4, 167, 0, 4, 3]
abbrev dktX5_isStart_0 : List UInt8 := dkwX5_isStart_0 ++ dktX5_isStart_1
theorem dksX5_isStart_0 : cX5_isStart.data.toList.drop 0 = dktX5_isStart_0 := by decide +kernel
theorem dksX5_isStart_1 : cX5_isStart.data.toList.drop 24 = dktX5_isStart_1 := dk_seg dksX5_isStart_0 24 rfl rfl
theorem dX5_isStart_0 : decode cX5_isStart 0 = .ok (.iload_n 0, 1) := dk_26 (dk_at dksX5_isStart_0 0 rfl rfl)
theorem dX5_isStart_1 : decode cX5_isStart 1 = .ok (.i2l, 1) := dk_133 (dk_at dksX5_isStart_0 1 rfl rfl)
theorem dX5_isStart_2 : decode cX5_isStart 2 = .ok (.lconst 0, 1) := dk_9 (dk_at dksX5_isStart_0 2 rfl rfl)
theorem dX5_isStart_3 : decode cX5_isStart 3 = .ok (.ldc2_w 223, 3) := dk_20 0 223 (dk_at dksX5_isStart_0 3 rfl rfl)
theorem dX5_isStart_6 : decode cX5_isStart 6 = .ok (.invokestatic 90, 3) := dk_184 0 90 (dk_at dksX5_isStart_0 6 rfl rfl)
theorem dX5_isStart_9 : decode cX5_isStart 9 = .ok (.ifCond .eq 14, 3) := dk_153 0 14 (dk_at dksX5_isStart_0 9 rfl rfl)
theorem dX5_isStart_12 : decode cX5_isStart 12 = .ok (.iload_n 0, 1) := dk_26 (dk_at dksX5_isStart_0 12 rfl rfl)
theorem dX5_isStart_13 : decode cX5_isStart 13 = .ok (.bipush 15, 2) := dk_16 15 (dk_at dksX5_isStart_0 13 rfl rfl)
theorem dX5_isStart_15 : decode cX5_isStart 15 = .ok (.irem, 1) := dk_112 (dk_at dksX5_isStart_0 15 rfl rfl)
theorem dX5_isStart_16 : decode cX5_isStart 16 = .ok (.ifCond .ne 7, 3) := dk_154 0 7 (dk_at dksX5_isStart_0 16 rfl rfl)
theorem dX5_isStart_19 : decode cX5_isStart 19 = .ok (.iconst 1, 1) := dk_4 (dk_at dksX5_isStart_0 19 rfl rfl)
theorem dX5_isStart_20 : decode cX5_isStart 20 = .ok (.goto 4, 3) := dk_167 0 4 (dk_at dksX5_isStart_0 20 rfl rfl)
theorem dX5_isStart_23 : decode cX5_isStart 23 = .ok (.iconst 0, 1) := dk_3 (dk_at dksX5_isStart_0 23 rfl rfl)
theorem dX5_isStart_24 : decode cX5_isStart 24 = .ok (.ireturn, 1) := dk_172 (dk_at dksX5_isStart_1 0 rfl rfl)
abbrev cX5_draftProblem : ByteArray := prog_17_method_62_code
def yX5_draftProblem : MethodName := ⟨RX5, "draftProblem", "(II)I"⟩
def dkwX5_draftProblem_0 : List UInt8 := [42, 42, 180, 0, 30, 3, 182, 1, 23, 42, 27, 28, 182, 1, 27, 172]
abbrev dktX5_draftProblem_0 : List UInt8 := dkwX5_draftProblem_0 ++ []
theorem dksX5_draftProblem_0 : cX5_draftProblem.data.toList.drop 0 = dktX5_draftProblem_0 := by decide +kernel
theorem dX5_draftProblem_0 : decode cX5_draftProblem 0 = .ok (.aload_n 0, 1) := dk_42 (dk_at dksX5_draftProblem_0 0 rfl rfl)
theorem dX5_draftProblem_1 : decode cX5_draftProblem 1 = .ok (.aload_n 0, 1) := dk_42 (dk_at dksX5_draftProblem_0 1 rfl rfl)
theorem dX5_draftProblem_2 : decode cX5_draftProblem 2 = .ok (.getfield 30, 3) := dk_180 0 30 (dk_at dksX5_draftProblem_0 2 rfl rfl)
theorem dX5_draftProblem_5 : decode cX5_draftProblem 5 = .ok (.iconst 0, 1) := dk_3 (dk_at dksX5_draftProblem_0 5 rfl rfl)
theorem dX5_draftProblem_6 : decode cX5_draftProblem 6 = .ok (.invokevirtual 279, 3) := dk_182 1 23 (dk_at dksX5_draftProblem_0 6 rfl rfl)
theorem dX5_draftProblem_9 : decode cX5_draftProblem 9 = .ok (.aload_n 0, 1) := dk_42 (dk_at dksX5_draftProblem_0 9 rfl rfl)
theorem dX5_draftProblem_10 : decode cX5_draftProblem 10 = .ok (.iload_n 1, 1) := dk_27 (dk_at dksX5_draftProblem_0 10 rfl rfl)
theorem dX5_draftProblem_11 : decode cX5_draftProblem 11 = .ok (.iload_n 2, 1) := dk_28 (dk_at dksX5_draftProblem_0 11 rfl rfl)
theorem dX5_draftProblem_12 : decode cX5_draftProblem 12 = .ok (.invokevirtual 283, 3) := dk_182 1 27 (dk_at dksX5_draftProblem_0 12 rfl rfl)
theorem dX5_draftProblem_15 : decode cX5_draftProblem 15 = .ok (.ireturn, 1) := dk_172 (dk_at dksX5_draftProblem_0 15 rfl rfl)
abbrev cX5_asks : ByteArray := prog_17_method_48_code
def yX5_asks : MethodName := ⟨RX5, "asks", "([II)V"⟩
def dkwX5_asks_1 : List UInt8 := [167, 255, 236, 177]
abbrev dktX5_asks_1 : List UInt8 := dkwX5_asks_1 ++ []
def dkwX5_asks_0 : List UInt8 := [3, 62, 29, 16, 9, 162, 0, 20, 42, 180, 0, 33, 29, 43, 28, 29, 96, 46, 79, 132, 3, 1]
abbrev dktX5_asks_0 : List UInt8 := dkwX5_asks_0 ++ dktX5_asks_1
theorem dksX5_asks_0 : cX5_asks.data.toList.drop 0 = dktX5_asks_0 := by decide +kernel
theorem dksX5_asks_1 : cX5_asks.data.toList.drop 22 = dktX5_asks_1 := dk_seg dksX5_asks_0 22 rfl rfl
theorem dX5_asks_0 : decode cX5_asks 0 = .ok (.iconst 0, 1) := dk_3 (dk_at dksX5_asks_0 0 rfl rfl)
theorem dX5_asks_1 : decode cX5_asks 1 = .ok (.istore_n 3, 1) := dk_62 (dk_at dksX5_asks_0 1 rfl rfl)
theorem dX5_asks_2 : decode cX5_asks 2 = .ok (.iload_n 3, 1) := dk_29 (dk_at dksX5_asks_0 2 rfl rfl)
theorem dX5_asks_3 : decode cX5_asks 3 = .ok (.bipush 9, 2) := dk_16 9 (dk_at dksX5_asks_0 3 rfl rfl)
theorem dX5_asks_5 : decode cX5_asks 5 = .ok (.if_icmp .ge 20, 3) := dk_162 0 20 (dk_at dksX5_asks_0 5 rfl rfl)
theorem dX5_asks_8 : decode cX5_asks 8 = .ok (.aload_n 0, 1) := dk_42 (dk_at dksX5_asks_0 8 rfl rfl)
theorem dX5_asks_9 : decode cX5_asks 9 = .ok (.getfield 33, 3) := dk_180 0 33 (dk_at dksX5_asks_0 9 rfl rfl)
theorem dX5_asks_12 : decode cX5_asks 12 = .ok (.iload_n 3, 1) := dk_29 (dk_at dksX5_asks_0 12 rfl rfl)
theorem dX5_asks_13 : decode cX5_asks 13 = .ok (.aload_n 1, 1) := dk_43 (dk_at dksX5_asks_0 13 rfl rfl)
theorem dX5_asks_14 : decode cX5_asks 14 = .ok (.iload_n 2, 1) := dk_28 (dk_at dksX5_asks_0 14 rfl rfl)
theorem dX5_asks_15 : decode cX5_asks 15 = .ok (.iload_n 3, 1) := dk_29 (dk_at dksX5_asks_0 15 rfl rfl)
theorem dX5_asks_16 : decode cX5_asks 16 = .ok (.iadd, 1) := dk_96 (dk_at dksX5_asks_0 16 rfl rfl)
theorem dX5_asks_17 : decode cX5_asks 17 = .ok (.iaload, 1) := dk_46 (dk_at dksX5_asks_0 17 rfl rfl)
theorem dX5_asks_18 : decode cX5_asks 18 = .ok (.iastore, 1) := dk_79 (dk_at dksX5_asks_0 18 rfl rfl)
theorem dX5_asks_19 : decode cX5_asks 19 = .ok (.iinc 3 1, 3) := dk_132 3 1 (dk_at dksX5_asks_0 19 rfl rfl)
theorem dX5_asks_22 : decode cX5_asks 22 = .ok (.goto (-20), 3) := dk_167 255 236 (dk_at dksX5_asks_1 0 rfl rfl)
theorem dX5_asks_25 : decode cX5_asks 25 = .ok (.return_, 1) := dk_177 (dk_at dksX5_asks_1 3 rfl rfl)
abbrev cX5_problemOf : ByteArray := prog_17_method_61_code
def yX5_problemOf : MethodName := ⟨RX5, "problemOf", "(II)I"⟩
def dkwX5_problemOf_5 : List UInt8 := [172, 42, 28, 182, 1, 20, 153, 0, 8, 16, 6, 167, 0, 4, 3, 172]
abbrev dktX5_problemOf_5 : List UInt8 := dkwX5_problemOf_5 ++ []
def dkwX5_problemOf_4 : List UInt8 := [154, 0, 12, 42, 28, 29, 182, 1, 13, 153, 0, 5, 7, 172, 42, 27, 28, 182, 1, 17, 153, 0, 5, 8]
abbrev dktX5_problemOf_4 : List UInt8 := dkwX5_problemOf_4 ++ dktX5_problemOf_5
def dkwX5_problemOf_3 : List UInt8 := [4, 46, 42, 180, 0, 13, 16, 8, 27, 96, 46, 164, 0, 5, 6, 172, 42, 27, 28, 29, 182, 1, 10]
abbrev dktX5_problemOf_3 : List UInt8 := dkwX5_problemOf_3 ++ dktX5_problemOf_4
def dkwX5_problemOf_2 : List UInt8 := [180, 0, 33, 5, 46, 96, 42, 180, 0, 13, 16, 20, 27, 96, 46, 164, 0, 5, 5, 172, 42, 180, 0, 33]
abbrev dktX5_problemOf_2 : List UInt8 := dkwX5_problemOf_2 ++ dktX5_problemOf_3
def dkwX5_problemOf_1 : List UInt8 := [17, 5, 160, 112, 42, 180, 0, 13, 16, 14, 27, 96, 46, 161, 0, 27, 28, 17, 5, 160, 112, 42]
abbrev dktX5_problemOf_1 : List UInt8 := dkwX5_problemOf_1 ++ dktX5_problemOf_2
def dkwX5_problemOf_0 : List UInt8 := [28, 42, 180, 0, 33, 5, 46, 96, 62, 28, 42, 180, 0, 36, 3, 46, 162, 0, 5, 4, 172, 28]
abbrev dktX5_problemOf_0 : List UInt8 := dkwX5_problemOf_0 ++ dktX5_problemOf_1
theorem dksX5_problemOf_0 : cX5_problemOf.data.toList.drop 0 = dktX5_problemOf_0 := by decide +kernel
theorem dksX5_problemOf_1 : cX5_problemOf.data.toList.drop 22 = dktX5_problemOf_1 := dk_seg dksX5_problemOf_0 22 rfl rfl
theorem dksX5_problemOf_2 : cX5_problemOf.data.toList.drop 44 = dktX5_problemOf_2 := dk_seg dksX5_problemOf_1 22 rfl rfl
theorem dksX5_problemOf_3 : cX5_problemOf.data.toList.drop 68 = dktX5_problemOf_3 := dk_seg dksX5_problemOf_2 24 rfl rfl
theorem dksX5_problemOf_4 : cX5_problemOf.data.toList.drop 91 = dktX5_problemOf_4 := dk_seg dksX5_problemOf_3 23 rfl rfl
theorem dksX5_problemOf_5 : cX5_problemOf.data.toList.drop 115 = dktX5_problemOf_5 := dk_seg dksX5_problemOf_4 24 rfl rfl
theorem dX5_problemOf_0 : decode cX5_problemOf 0 = .ok (.iload_n 2, 1) := dk_28 (dk_at dksX5_problemOf_0 0 rfl rfl)
theorem dX5_problemOf_1 : decode cX5_problemOf 1 = .ok (.aload_n 0, 1) := dk_42 (dk_at dksX5_problemOf_0 1 rfl rfl)
theorem dX5_problemOf_2 : decode cX5_problemOf 2 = .ok (.getfield 33, 3) := dk_180 0 33 (dk_at dksX5_problemOf_0 2 rfl rfl)
theorem dX5_problemOf_5 : decode cX5_problemOf 5 = .ok (.iconst 2, 1) := dk_5 (dk_at dksX5_problemOf_0 5 rfl rfl)
theorem dX5_problemOf_6 : decode cX5_problemOf 6 = .ok (.iaload, 1) := dk_46 (dk_at dksX5_problemOf_0 6 rfl rfl)
theorem dX5_problemOf_7 : decode cX5_problemOf 7 = .ok (.iadd, 1) := dk_96 (dk_at dksX5_problemOf_0 7 rfl rfl)
theorem dX5_problemOf_8 : decode cX5_problemOf 8 = .ok (.istore_n 3, 1) := dk_62 (dk_at dksX5_problemOf_0 8 rfl rfl)
theorem dX5_problemOf_9 : decode cX5_problemOf 9 = .ok (.iload_n 2, 1) := dk_28 (dk_at dksX5_problemOf_0 9 rfl rfl)
theorem dX5_problemOf_10 : decode cX5_problemOf 10 = .ok (.aload_n 0, 1) := dk_42 (dk_at dksX5_problemOf_0 10 rfl rfl)
theorem dX5_problemOf_11 : decode cX5_problemOf 11 = .ok (.getfield 36, 3) := dk_180 0 36 (dk_at dksX5_problemOf_0 11 rfl rfl)
theorem dX5_problemOf_14 : decode cX5_problemOf 14 = .ok (.iconst 0, 1) := dk_3 (dk_at dksX5_problemOf_0 14 rfl rfl)
theorem dX5_problemOf_15 : decode cX5_problemOf 15 = .ok (.iaload, 1) := dk_46 (dk_at dksX5_problemOf_0 15 rfl rfl)
theorem dX5_problemOf_16 : decode cX5_problemOf 16 = .ok (.if_icmp .ge 5, 3) := dk_162 0 5 (dk_at dksX5_problemOf_0 16 rfl rfl)
theorem dX5_problemOf_19 : decode cX5_problemOf 19 = .ok (.iconst 1, 1) := dk_4 (dk_at dksX5_problemOf_0 19 rfl rfl)
theorem dX5_problemOf_20 : decode cX5_problemOf 20 = .ok (.ireturn, 1) := dk_172 (dk_at dksX5_problemOf_0 20 rfl rfl)
theorem dX5_problemOf_21 : decode cX5_problemOf 21 = .ok (.iload_n 2, 1) := dk_28 (dk_at dksX5_problemOf_0 21 rfl rfl)
theorem dX5_problemOf_22 : decode cX5_problemOf 22 = .ok (.sipush 1440, 3) := dk_17 5 160 (dk_at dksX5_problemOf_1 0 rfl rfl)
theorem dX5_problemOf_25 : decode cX5_problemOf 25 = .ok (.irem, 1) := dk_112 (dk_at dksX5_problemOf_1 3 rfl rfl)
theorem dX5_problemOf_26 : decode cX5_problemOf 26 = .ok (.aload_n 0, 1) := dk_42 (dk_at dksX5_problemOf_1 4 rfl rfl)
theorem dX5_problemOf_27 : decode cX5_problemOf 27 = .ok (.getfield 13, 3) := dk_180 0 13 (dk_at dksX5_problemOf_1 5 rfl rfl)
theorem dX5_problemOf_30 : decode cX5_problemOf 30 = .ok (.bipush 14, 2) := dk_16 14 (dk_at dksX5_problemOf_1 8 rfl rfl)
theorem dX5_problemOf_32 : decode cX5_problemOf 32 = .ok (.iload_n 1, 1) := dk_27 (dk_at dksX5_problemOf_1 10 rfl rfl)
theorem dX5_problemOf_33 : decode cX5_problemOf 33 = .ok (.iadd, 1) := dk_96 (dk_at dksX5_problemOf_1 11 rfl rfl)
theorem dX5_problemOf_34 : decode cX5_problemOf 34 = .ok (.iaload, 1) := dk_46 (dk_at dksX5_problemOf_1 12 rfl rfl)
theorem dX5_problemOf_35 : decode cX5_problemOf 35 = .ok (.if_icmp .lt 27, 3) := dk_161 0 27 (dk_at dksX5_problemOf_1 13 rfl rfl)
theorem dX5_problemOf_38 : decode cX5_problemOf 38 = .ok (.iload_n 2, 1) := dk_28 (dk_at dksX5_problemOf_1 16 rfl rfl)
theorem dX5_problemOf_39 : decode cX5_problemOf 39 = .ok (.sipush 1440, 3) := dk_17 5 160 (dk_at dksX5_problemOf_1 17 rfl rfl)
theorem dX5_problemOf_42 : decode cX5_problemOf 42 = .ok (.irem, 1) := dk_112 (dk_at dksX5_problemOf_1 20 rfl rfl)
theorem dX5_problemOf_43 : decode cX5_problemOf 43 = .ok (.aload_n 0, 1) := dk_42 (dk_at dksX5_problemOf_1 21 rfl rfl)
theorem dX5_problemOf_44 : decode cX5_problemOf 44 = .ok (.getfield 33, 3) := dk_180 0 33 (dk_at dksX5_problemOf_2 0 rfl rfl)
theorem dX5_problemOf_47 : decode cX5_problemOf 47 = .ok (.iconst 2, 1) := dk_5 (dk_at dksX5_problemOf_2 3 rfl rfl)
theorem dX5_problemOf_48 : decode cX5_problemOf 48 = .ok (.iaload, 1) := dk_46 (dk_at dksX5_problemOf_2 4 rfl rfl)
theorem dX5_problemOf_49 : decode cX5_problemOf 49 = .ok (.iadd, 1) := dk_96 (dk_at dksX5_problemOf_2 5 rfl rfl)
theorem dX5_problemOf_50 : decode cX5_problemOf 50 = .ok (.aload_n 0, 1) := dk_42 (dk_at dksX5_problemOf_2 6 rfl rfl)
theorem dX5_problemOf_51 : decode cX5_problemOf 51 = .ok (.getfield 13, 3) := dk_180 0 13 (dk_at dksX5_problemOf_2 7 rfl rfl)
theorem dX5_problemOf_54 : decode cX5_problemOf 54 = .ok (.bipush 20, 2) := dk_16 20 (dk_at dksX5_problemOf_2 10 rfl rfl)
theorem dX5_problemOf_56 : decode cX5_problemOf 56 = .ok (.iload_n 1, 1) := dk_27 (dk_at dksX5_problemOf_2 12 rfl rfl)
theorem dX5_problemOf_57 : decode cX5_problemOf 57 = .ok (.iadd, 1) := dk_96 (dk_at dksX5_problemOf_2 13 rfl rfl)
theorem dX5_problemOf_58 : decode cX5_problemOf 58 = .ok (.iaload, 1) := dk_46 (dk_at dksX5_problemOf_2 14 rfl rfl)
theorem dX5_problemOf_59 : decode cX5_problemOf 59 = .ok (.if_icmp .le 5, 3) := dk_164 0 5 (dk_at dksX5_problemOf_2 15 rfl rfl)
theorem dX5_problemOf_62 : decode cX5_problemOf 62 = .ok (.iconst 2, 1) := dk_5 (dk_at dksX5_problemOf_2 18 rfl rfl)
theorem dX5_problemOf_63 : decode cX5_problemOf 63 = .ok (.ireturn, 1) := dk_172 (dk_at dksX5_problemOf_2 19 rfl rfl)
theorem dX5_problemOf_64 : decode cX5_problemOf 64 = .ok (.aload_n 0, 1) := dk_42 (dk_at dksX5_problemOf_2 20 rfl rfl)
theorem dX5_problemOf_65 : decode cX5_problemOf 65 = .ok (.getfield 33, 3) := dk_180 0 33 (dk_at dksX5_problemOf_2 21 rfl rfl)
theorem dX5_problemOf_68 : decode cX5_problemOf 68 = .ok (.iconst 1, 1) := dk_4 (dk_at dksX5_problemOf_3 0 rfl rfl)
theorem dX5_problemOf_69 : decode cX5_problemOf 69 = .ok (.iaload, 1) := dk_46 (dk_at dksX5_problemOf_3 1 rfl rfl)
theorem dX5_problemOf_70 : decode cX5_problemOf 70 = .ok (.aload_n 0, 1) := dk_42 (dk_at dksX5_problemOf_3 2 rfl rfl)
theorem dX5_problemOf_71 : decode cX5_problemOf 71 = .ok (.getfield 13, 3) := dk_180 0 13 (dk_at dksX5_problemOf_3 3 rfl rfl)
theorem dX5_problemOf_74 : decode cX5_problemOf 74 = .ok (.bipush 8, 2) := dk_16 8 (dk_at dksX5_problemOf_3 6 rfl rfl)
theorem dX5_problemOf_76 : decode cX5_problemOf 76 = .ok (.iload_n 1, 1) := dk_27 (dk_at dksX5_problemOf_3 8 rfl rfl)
theorem dX5_problemOf_77 : decode cX5_problemOf 77 = .ok (.iadd, 1) := dk_96 (dk_at dksX5_problemOf_3 9 rfl rfl)
theorem dX5_problemOf_78 : decode cX5_problemOf 78 = .ok (.iaload, 1) := dk_46 (dk_at dksX5_problemOf_3 10 rfl rfl)
theorem dX5_problemOf_79 : decode cX5_problemOf 79 = .ok (.if_icmp .le 5, 3) := dk_164 0 5 (dk_at dksX5_problemOf_3 11 rfl rfl)
theorem dX5_problemOf_82 : decode cX5_problemOf 82 = .ok (.iconst 3, 1) := dk_6 (dk_at dksX5_problemOf_3 14 rfl rfl)
theorem dX5_problemOf_83 : decode cX5_problemOf 83 = .ok (.ireturn, 1) := dk_172 (dk_at dksX5_problemOf_3 15 rfl rfl)
theorem dX5_problemOf_84 : decode cX5_problemOf 84 = .ok (.aload_n 0, 1) := dk_42 (dk_at dksX5_problemOf_3 16 rfl rfl)
theorem dX5_problemOf_85 : decode cX5_problemOf 85 = .ok (.iload_n 1, 1) := dk_27 (dk_at dksX5_problemOf_3 17 rfl rfl)
theorem dX5_problemOf_86 : decode cX5_problemOf 86 = .ok (.iload_n 2, 1) := dk_28 (dk_at dksX5_problemOf_3 18 rfl rfl)
theorem dX5_problemOf_87 : decode cX5_problemOf 87 = .ok (.iload_n 3, 1) := dk_29 (dk_at dksX5_problemOf_3 19 rfl rfl)
theorem dX5_problemOf_88 : decode cX5_problemOf 88 = .ok (.invokevirtual 266, 3) := dk_182 1 10 (dk_at dksX5_problemOf_3 20 rfl rfl)
theorem dX5_problemOf_91 : decode cX5_problemOf 91 = .ok (.ifCond .ne 12, 3) := dk_154 0 12 (dk_at dksX5_problemOf_4 0 rfl rfl)
theorem dX5_problemOf_94 : decode cX5_problemOf 94 = .ok (.aload_n 0, 1) := dk_42 (dk_at dksX5_problemOf_4 3 rfl rfl)
theorem dX5_problemOf_95 : decode cX5_problemOf 95 = .ok (.iload_n 2, 1) := dk_28 (dk_at dksX5_problemOf_4 4 rfl rfl)
theorem dX5_problemOf_96 : decode cX5_problemOf 96 = .ok (.iload_n 3, 1) := dk_29 (dk_at dksX5_problemOf_4 5 rfl rfl)
theorem dX5_problemOf_97 : decode cX5_problemOf 97 = .ok (.invokevirtual 269, 3) := dk_182 1 13 (dk_at dksX5_problemOf_4 6 rfl rfl)
theorem dX5_problemOf_100 : decode cX5_problemOf 100 = .ok (.ifCond .eq 5, 3) := dk_153 0 5 (dk_at dksX5_problemOf_4 9 rfl rfl)
theorem dX5_problemOf_103 : decode cX5_problemOf 103 = .ok (.iconst 4, 1) := dk_7 (dk_at dksX5_problemOf_4 12 rfl rfl)
theorem dX5_problemOf_104 : decode cX5_problemOf 104 = .ok (.ireturn, 1) := dk_172 (dk_at dksX5_problemOf_4 13 rfl rfl)
theorem dX5_problemOf_105 : decode cX5_problemOf 105 = .ok (.aload_n 0, 1) := dk_42 (dk_at dksX5_problemOf_4 14 rfl rfl)
theorem dX5_problemOf_106 : decode cX5_problemOf 106 = .ok (.iload_n 1, 1) := dk_27 (dk_at dksX5_problemOf_4 15 rfl rfl)
theorem dX5_problemOf_107 : decode cX5_problemOf 107 = .ok (.iload_n 2, 1) := dk_28 (dk_at dksX5_problemOf_4 16 rfl rfl)
theorem dX5_problemOf_108 : decode cX5_problemOf 108 = .ok (.invokevirtual 273, 3) := dk_182 1 17 (dk_at dksX5_problemOf_4 17 rfl rfl)
theorem dX5_problemOf_111 : decode cX5_problemOf 111 = .ok (.ifCond .eq 5, 3) := dk_153 0 5 (dk_at dksX5_problemOf_4 20 rfl rfl)
theorem dX5_problemOf_114 : decode cX5_problemOf 114 = .ok (.iconst 5, 1) := dk_8 (dk_at dksX5_problemOf_4 23 rfl rfl)
theorem dX5_problemOf_115 : decode cX5_problemOf 115 = .ok (.ireturn, 1) := dk_172 (dk_at dksX5_problemOf_5 0 rfl rfl)
theorem dX5_problemOf_116 : decode cX5_problemOf 116 = .ok (.aload_n 0, 1) := dk_42 (dk_at dksX5_problemOf_5 1 rfl rfl)
theorem dX5_problemOf_117 : decode cX5_problemOf 117 = .ok (.iload_n 2, 1) := dk_28 (dk_at dksX5_problemOf_5 2 rfl rfl)
theorem dX5_problemOf_118 : decode cX5_problemOf 118 = .ok (.invokevirtual 276, 3) := dk_182 1 20 (dk_at dksX5_problemOf_5 3 rfl rfl)
theorem dX5_problemOf_121 : decode cX5_problemOf 121 = .ok (.ifCond .eq 8, 3) := dk_153 0 8 (dk_at dksX5_problemOf_5 6 rfl rfl)
theorem dX5_problemOf_124 : decode cX5_problemOf 124 = .ok (.bipush 6, 2) := dk_16 6 (dk_at dksX5_problemOf_5 9 rfl rfl)
theorem dX5_problemOf_126 : decode cX5_problemOf 126 = .ok (.goto 4, 3) := dk_167 0 4 (dk_at dksX5_problemOf_5 11 rfl rfl)
theorem dX5_problemOf_129 : decode cX5_problemOf 129 = .ok (.iconst 0, 1) := dk_3 (dk_at dksX5_problemOf_5 14 rfl rfl)
theorem dX5_problemOf_130 : decode cX5_problemOf 130 = .ok (.ireturn, 1) := dk_172 (dk_at dksX5_problemOf_5 15 rfl rfl)
abbrev cX5_isShutIn : ByteArray := prog_17_method_53_code
def yX5_isShutIn : MethodName := ⟨RX5, "isShutIn", "(III)Z"⟩
def dkwX5_isShutIn_2 : List UInt8 := [42, 180, 0, 36, 21, 5, 5, 96, 46, 28, 164, 0, 5, 4, 172, 132, 4, 1, 167, 255, 193, 3, 172]
abbrev dktX5_isShutIn_2 : List UInt8 := dkwX5_isShutIn_2 ++ []
def dkwX5_isShutIn_1 : List UInt8 := [42, 180, 0, 36, 21, 5, 46, 27, 160, 0, 31, 42, 180, 0, 36, 21, 5, 4, 96, 46, 29, 162, 0, 18]
abbrev dktX5_isShutIn_1 : List UInt8 := dkwX5_isShutIn_1 ++ dktX5_isShutIn_2
def dkwX5_isShutIn_0 : List UInt8 := [3, 54, 4, 21, 4, 42, 180, 0, 36, 6, 46, 162, 0, 58, 17, 3, 236, 6, 21, 4, 104, 96, 54, 5]
abbrev dktX5_isShutIn_0 : List UInt8 := dkwX5_isShutIn_0 ++ dktX5_isShutIn_1
theorem dksX5_isShutIn_0 : cX5_isShutIn.data.toList.drop 0 = dktX5_isShutIn_0 := by decide +kernel
theorem dksX5_isShutIn_1 : cX5_isShutIn.data.toList.drop 24 = dktX5_isShutIn_1 := dk_seg dksX5_isShutIn_0 24 rfl rfl
theorem dksX5_isShutIn_2 : cX5_isShutIn.data.toList.drop 48 = dktX5_isShutIn_2 := dk_seg dksX5_isShutIn_1 24 rfl rfl
theorem dX5_isShutIn_0 : decode cX5_isShutIn 0 = .ok (.iconst 0, 1) := dk_3 (dk_at dksX5_isShutIn_0 0 rfl rfl)
theorem dX5_isShutIn_1 : decode cX5_isShutIn 1 = .ok (.istore 4, 2) := dk_54 4 (dk_at dksX5_isShutIn_0 1 rfl rfl)
theorem dX5_isShutIn_3 : decode cX5_isShutIn 3 = .ok (.iload 4, 2) := dk_21 4 (dk_at dksX5_isShutIn_0 3 rfl rfl)
theorem dX5_isShutIn_5 : decode cX5_isShutIn 5 = .ok (.aload_n 0, 1) := dk_42 (dk_at dksX5_isShutIn_0 5 rfl rfl)
theorem dX5_isShutIn_6 : decode cX5_isShutIn 6 = .ok (.getfield 36, 3) := dk_180 0 36 (dk_at dksX5_isShutIn_0 6 rfl rfl)
theorem dX5_isShutIn_9 : decode cX5_isShutIn 9 = .ok (.iconst 3, 1) := dk_6 (dk_at dksX5_isShutIn_0 9 rfl rfl)
theorem dX5_isShutIn_10 : decode cX5_isShutIn 10 = .ok (.iaload, 1) := dk_46 (dk_at dksX5_isShutIn_0 10 rfl rfl)
theorem dX5_isShutIn_11 : decode cX5_isShutIn 11 = .ok (.if_icmp .ge 58, 3) := dk_162 0 58 (dk_at dksX5_isShutIn_0 11 rfl rfl)
theorem dX5_isShutIn_14 : decode cX5_isShutIn 14 = .ok (.sipush 1004, 3) := dk_17 3 236 (dk_at dksX5_isShutIn_0 14 rfl rfl)
theorem dX5_isShutIn_17 : decode cX5_isShutIn 17 = .ok (.iconst 3, 1) := dk_6 (dk_at dksX5_isShutIn_0 17 rfl rfl)
theorem dX5_isShutIn_18 : decode cX5_isShutIn 18 = .ok (.iload 4, 2) := dk_21 4 (dk_at dksX5_isShutIn_0 18 rfl rfl)
theorem dX5_isShutIn_20 : decode cX5_isShutIn 20 = .ok (.imul, 1) := dk_104 (dk_at dksX5_isShutIn_0 20 rfl rfl)
theorem dX5_isShutIn_21 : decode cX5_isShutIn 21 = .ok (.iadd, 1) := dk_96 (dk_at dksX5_isShutIn_0 21 rfl rfl)
theorem dX5_isShutIn_22 : decode cX5_isShutIn 22 = .ok (.istore 5, 2) := dk_54 5 (dk_at dksX5_isShutIn_0 22 rfl rfl)
theorem dX5_isShutIn_24 : decode cX5_isShutIn 24 = .ok (.aload_n 0, 1) := dk_42 (dk_at dksX5_isShutIn_1 0 rfl rfl)
theorem dX5_isShutIn_25 : decode cX5_isShutIn 25 = .ok (.getfield 36, 3) := dk_180 0 36 (dk_at dksX5_isShutIn_1 1 rfl rfl)
theorem dX5_isShutIn_28 : decode cX5_isShutIn 28 = .ok (.iload 5, 2) := dk_21 5 (dk_at dksX5_isShutIn_1 4 rfl rfl)
theorem dX5_isShutIn_30 : decode cX5_isShutIn 30 = .ok (.iaload, 1) := dk_46 (dk_at dksX5_isShutIn_1 6 rfl rfl)
theorem dX5_isShutIn_31 : decode cX5_isShutIn 31 = .ok (.iload_n 1, 1) := dk_27 (dk_at dksX5_isShutIn_1 7 rfl rfl)
theorem dX5_isShutIn_32 : decode cX5_isShutIn 32 = .ok (.if_icmp .ne 31, 3) := dk_160 0 31 (dk_at dksX5_isShutIn_1 8 rfl rfl)
theorem dX5_isShutIn_35 : decode cX5_isShutIn 35 = .ok (.aload_n 0, 1) := dk_42 (dk_at dksX5_isShutIn_1 11 rfl rfl)
theorem dX5_isShutIn_36 : decode cX5_isShutIn 36 = .ok (.getfield 36, 3) := dk_180 0 36 (dk_at dksX5_isShutIn_1 12 rfl rfl)
theorem dX5_isShutIn_39 : decode cX5_isShutIn 39 = .ok (.iload 5, 2) := dk_21 5 (dk_at dksX5_isShutIn_1 15 rfl rfl)
theorem dX5_isShutIn_41 : decode cX5_isShutIn 41 = .ok (.iconst 1, 1) := dk_4 (dk_at dksX5_isShutIn_1 17 rfl rfl)
theorem dX5_isShutIn_42 : decode cX5_isShutIn 42 = .ok (.iadd, 1) := dk_96 (dk_at dksX5_isShutIn_1 18 rfl rfl)
theorem dX5_isShutIn_43 : decode cX5_isShutIn 43 = .ok (.iaload, 1) := dk_46 (dk_at dksX5_isShutIn_1 19 rfl rfl)
theorem dX5_isShutIn_44 : decode cX5_isShutIn 44 = .ok (.iload_n 3, 1) := dk_29 (dk_at dksX5_isShutIn_1 20 rfl rfl)
theorem dX5_isShutIn_45 : decode cX5_isShutIn 45 = .ok (.if_icmp .ge 18, 3) := dk_162 0 18 (dk_at dksX5_isShutIn_1 21 rfl rfl)
theorem dX5_isShutIn_48 : decode cX5_isShutIn 48 = .ok (.aload_n 0, 1) := dk_42 (dk_at dksX5_isShutIn_2 0 rfl rfl)
theorem dX5_isShutIn_49 : decode cX5_isShutIn 49 = .ok (.getfield 36, 3) := dk_180 0 36 (dk_at dksX5_isShutIn_2 1 rfl rfl)
theorem dX5_isShutIn_52 : decode cX5_isShutIn 52 = .ok (.iload 5, 2) := dk_21 5 (dk_at dksX5_isShutIn_2 4 rfl rfl)
theorem dX5_isShutIn_54 : decode cX5_isShutIn 54 = .ok (.iconst 2, 1) := dk_5 (dk_at dksX5_isShutIn_2 6 rfl rfl)
theorem dX5_isShutIn_55 : decode cX5_isShutIn 55 = .ok (.iadd, 1) := dk_96 (dk_at dksX5_isShutIn_2 7 rfl rfl)
theorem dX5_isShutIn_56 : decode cX5_isShutIn 56 = .ok (.iaload, 1) := dk_46 (dk_at dksX5_isShutIn_2 8 rfl rfl)
theorem dX5_isShutIn_57 : decode cX5_isShutIn 57 = .ok (.iload_n 2, 1) := dk_28 (dk_at dksX5_isShutIn_2 9 rfl rfl)
theorem dX5_isShutIn_58 : decode cX5_isShutIn 58 = .ok (.if_icmp .le 5, 3) := dk_164 0 5 (dk_at dksX5_isShutIn_2 10 rfl rfl)
theorem dX5_isShutIn_61 : decode cX5_isShutIn 61 = .ok (.iconst 1, 1) := dk_4 (dk_at dksX5_isShutIn_2 13 rfl rfl)
theorem dX5_isShutIn_62 : decode cX5_isShutIn 62 = .ok (.ireturn, 1) := dk_172 (dk_at dksX5_isShutIn_2 14 rfl rfl)
theorem dX5_isShutIn_63 : decode cX5_isShutIn 63 = .ok (.iinc 4 1, 3) := dk_132 4 1 (dk_at dksX5_isShutIn_2 15 rfl rfl)
theorem dX5_isShutIn_66 : decode cX5_isShutIn 66 = .ok (.goto (-63), 3) := dk_167 255 193 (dk_at dksX5_isShutIn_2 18 rfl rfl)
theorem dX5_isShutIn_69 : decode cX5_isShutIn 69 = .ok (.iconst 0, 1) := dk_3 (dk_at dksX5_isShutIn_2 21 rfl rfl)
theorem dX5_isShutIn_70 : decode cX5_isShutIn 70 = .ok (.ireturn, 1) := dk_172 (dk_at dksX5_isShutIn_2 22 rfl rfl)
abbrev cX5_isWeeklyIn : ByteArray := prog_17_method_54_code
def yX5_isWeeklyIn : MethodName := ⟨RX5, "isWeeklyIn", "(II)Z"⟩
def dkwX5_isWeeklyIn_4 : List UInt8 := [132, 4, 1, 167, 255, 171, 3, 172]
abbrev dktX5_isWeeklyIn_4 : List UInt8 := dkwX5_isWeeklyIn_4 ++ []
def dkwX5_isWeeklyIn_3 : List UInt8 := [17, 5, 160, 29, 104, 42, 180, 0, 13, 16, 102, 21, 4, 96, 46, 96, 27, 164, 0, 5, 4, 172]
abbrev dktX5_isWeeklyIn_3 : List UInt8 := dkwX5_isWeeklyIn_3 ++ dktX5_isWeeklyIn_4
def dkwX5_isWeeklyIn_2 : List UInt8 := [153, 0, 45, 17, 5, 160, 29, 104, 42, 180, 0, 13, 16, 94, 21, 4, 96, 46, 96, 28, 162, 0, 25]
abbrev dktX5_isWeeklyIn_2 : List UInt8 := dkwX5_isWeeklyIn_2 ++ dktX5_isWeeklyIn_3
def dkwX5_isWeeklyIn_1 : List UInt8 := [16, 86, 21, 4, 96, 46, 29, 16, 7, 112, 160, 0, 7, 4, 167, 0, 4, 3, 54, 5, 21, 5]
abbrev dktX5_isWeeklyIn_1 : List UInt8 := dkwX5_isWeeklyIn_1 ++ dktX5_isWeeklyIn_2
def dkwX5_isWeeklyIn_0 : List UInt8 := [27, 17, 5, 160, 108, 62, 3, 54, 4, 21, 4, 42, 180, 0, 13, 6, 46, 162, 0, 80, 42, 180, 0, 13]
abbrev dktX5_isWeeklyIn_0 : List UInt8 := dkwX5_isWeeklyIn_0 ++ dktX5_isWeeklyIn_1
theorem dksX5_isWeeklyIn_0 : cX5_isWeeklyIn.data.toList.drop 0 = dktX5_isWeeklyIn_0 := by decide +kernel
theorem dksX5_isWeeklyIn_1 : cX5_isWeeklyIn.data.toList.drop 24 = dktX5_isWeeklyIn_1 := dk_seg dksX5_isWeeklyIn_0 24 rfl rfl
theorem dksX5_isWeeklyIn_2 : cX5_isWeeklyIn.data.toList.drop 46 = dktX5_isWeeklyIn_2 := dk_seg dksX5_isWeeklyIn_1 22 rfl rfl
theorem dksX5_isWeeklyIn_3 : cX5_isWeeklyIn.data.toList.drop 69 = dktX5_isWeeklyIn_3 := dk_seg dksX5_isWeeklyIn_2 23 rfl rfl
theorem dksX5_isWeeklyIn_4 : cX5_isWeeklyIn.data.toList.drop 91 = dktX5_isWeeklyIn_4 := dk_seg dksX5_isWeeklyIn_3 22 rfl rfl
theorem dX5_isWeeklyIn_0 : decode cX5_isWeeklyIn 0 = .ok (.iload_n 1, 1) := dk_27 (dk_at dksX5_isWeeklyIn_0 0 rfl rfl)
theorem dX5_isWeeklyIn_1 : decode cX5_isWeeklyIn 1 = .ok (.sipush 1440, 3) := dk_17 5 160 (dk_at dksX5_isWeeklyIn_0 1 rfl rfl)
theorem dX5_isWeeklyIn_4 : decode cX5_isWeeklyIn 4 = .ok (.idiv, 1) := dk_108 (dk_at dksX5_isWeeklyIn_0 4 rfl rfl)
theorem dX5_isWeeklyIn_5 : decode cX5_isWeeklyIn 5 = .ok (.istore_n 3, 1) := dk_62 (dk_at dksX5_isWeeklyIn_0 5 rfl rfl)
theorem dX5_isWeeklyIn_6 : decode cX5_isWeeklyIn 6 = .ok (.iconst 0, 1) := dk_3 (dk_at dksX5_isWeeklyIn_0 6 rfl rfl)
theorem dX5_isWeeklyIn_7 : decode cX5_isWeeklyIn 7 = .ok (.istore 4, 2) := dk_54 4 (dk_at dksX5_isWeeklyIn_0 7 rfl rfl)
theorem dX5_isWeeklyIn_9 : decode cX5_isWeeklyIn 9 = .ok (.iload 4, 2) := dk_21 4 (dk_at dksX5_isWeeklyIn_0 9 rfl rfl)
theorem dX5_isWeeklyIn_11 : decode cX5_isWeeklyIn 11 = .ok (.aload_n 0, 1) := dk_42 (dk_at dksX5_isWeeklyIn_0 11 rfl rfl)
theorem dX5_isWeeklyIn_12 : decode cX5_isWeeklyIn 12 = .ok (.getfield 13, 3) := dk_180 0 13 (dk_at dksX5_isWeeklyIn_0 12 rfl rfl)
theorem dX5_isWeeklyIn_15 : decode cX5_isWeeklyIn 15 = .ok (.iconst 3, 1) := dk_6 (dk_at dksX5_isWeeklyIn_0 15 rfl rfl)
theorem dX5_isWeeklyIn_16 : decode cX5_isWeeklyIn 16 = .ok (.iaload, 1) := dk_46 (dk_at dksX5_isWeeklyIn_0 16 rfl rfl)
theorem dX5_isWeeklyIn_17 : decode cX5_isWeeklyIn 17 = .ok (.if_icmp .ge 80, 3) := dk_162 0 80 (dk_at dksX5_isWeeklyIn_0 17 rfl rfl)
theorem dX5_isWeeklyIn_20 : decode cX5_isWeeklyIn 20 = .ok (.aload_n 0, 1) := dk_42 (dk_at dksX5_isWeeklyIn_0 20 rfl rfl)
theorem dX5_isWeeklyIn_21 : decode cX5_isWeeklyIn 21 = .ok (.getfield 13, 3) := dk_180 0 13 (dk_at dksX5_isWeeklyIn_0 21 rfl rfl)
theorem dX5_isWeeklyIn_24 : decode cX5_isWeeklyIn 24 = .ok (.bipush 86, 2) := dk_16 86 (dk_at dksX5_isWeeklyIn_1 0 rfl rfl)
theorem dX5_isWeeklyIn_26 : decode cX5_isWeeklyIn 26 = .ok (.iload 4, 2) := dk_21 4 (dk_at dksX5_isWeeklyIn_1 2 rfl rfl)
theorem dX5_isWeeklyIn_28 : decode cX5_isWeeklyIn 28 = .ok (.iadd, 1) := dk_96 (dk_at dksX5_isWeeklyIn_1 4 rfl rfl)
theorem dX5_isWeeklyIn_29 : decode cX5_isWeeklyIn 29 = .ok (.iaload, 1) := dk_46 (dk_at dksX5_isWeeklyIn_1 5 rfl rfl)
theorem dX5_isWeeklyIn_30 : decode cX5_isWeeklyIn 30 = .ok (.iload_n 3, 1) := dk_29 (dk_at dksX5_isWeeklyIn_1 6 rfl rfl)
theorem dX5_isWeeklyIn_31 : decode cX5_isWeeklyIn 31 = .ok (.bipush 7, 2) := dk_16 7 (dk_at dksX5_isWeeklyIn_1 7 rfl rfl)
theorem dX5_isWeeklyIn_33 : decode cX5_isWeeklyIn 33 = .ok (.irem, 1) := dk_112 (dk_at dksX5_isWeeklyIn_1 9 rfl rfl)
theorem dX5_isWeeklyIn_34 : decode cX5_isWeeklyIn 34 = .ok (.if_icmp .ne 7, 3) := dk_160 0 7 (dk_at dksX5_isWeeklyIn_1 10 rfl rfl)
theorem dX5_isWeeklyIn_37 : decode cX5_isWeeklyIn 37 = .ok (.iconst 1, 1) := dk_4 (dk_at dksX5_isWeeklyIn_1 13 rfl rfl)
theorem dX5_isWeeklyIn_38 : decode cX5_isWeeklyIn 38 = .ok (.goto 4, 3) := dk_167 0 4 (dk_at dksX5_isWeeklyIn_1 14 rfl rfl)
theorem dX5_isWeeklyIn_41 : decode cX5_isWeeklyIn 41 = .ok (.iconst 0, 1) := dk_3 (dk_at dksX5_isWeeklyIn_1 17 rfl rfl)
theorem dX5_isWeeklyIn_42 : decode cX5_isWeeklyIn 42 = .ok (.istore 5, 2) := dk_54 5 (dk_at dksX5_isWeeklyIn_1 18 rfl rfl)
theorem dX5_isWeeklyIn_44 : decode cX5_isWeeklyIn 44 = .ok (.iload 5, 2) := dk_21 5 (dk_at dksX5_isWeeklyIn_1 20 rfl rfl)
theorem dX5_isWeeklyIn_46 : decode cX5_isWeeklyIn 46 = .ok (.ifCond .eq 45, 3) := dk_153 0 45 (dk_at dksX5_isWeeklyIn_2 0 rfl rfl)
theorem dX5_isWeeklyIn_49 : decode cX5_isWeeklyIn 49 = .ok (.sipush 1440, 3) := dk_17 5 160 (dk_at dksX5_isWeeklyIn_2 3 rfl rfl)
theorem dX5_isWeeklyIn_52 : decode cX5_isWeeklyIn 52 = .ok (.iload_n 3, 1) := dk_29 (dk_at dksX5_isWeeklyIn_2 6 rfl rfl)
theorem dX5_isWeeklyIn_53 : decode cX5_isWeeklyIn 53 = .ok (.imul, 1) := dk_104 (dk_at dksX5_isWeeklyIn_2 7 rfl rfl)
theorem dX5_isWeeklyIn_54 : decode cX5_isWeeklyIn 54 = .ok (.aload_n 0, 1) := dk_42 (dk_at dksX5_isWeeklyIn_2 8 rfl rfl)
theorem dX5_isWeeklyIn_55 : decode cX5_isWeeklyIn 55 = .ok (.getfield 13, 3) := dk_180 0 13 (dk_at dksX5_isWeeklyIn_2 9 rfl rfl)
theorem dX5_isWeeklyIn_58 : decode cX5_isWeeklyIn 58 = .ok (.bipush 94, 2) := dk_16 94 (dk_at dksX5_isWeeklyIn_2 12 rfl rfl)
theorem dX5_isWeeklyIn_60 : decode cX5_isWeeklyIn 60 = .ok (.iload 4, 2) := dk_21 4 (dk_at dksX5_isWeeklyIn_2 14 rfl rfl)
theorem dX5_isWeeklyIn_62 : decode cX5_isWeeklyIn 62 = .ok (.iadd, 1) := dk_96 (dk_at dksX5_isWeeklyIn_2 16 rfl rfl)
theorem dX5_isWeeklyIn_63 : decode cX5_isWeeklyIn 63 = .ok (.iaload, 1) := dk_46 (dk_at dksX5_isWeeklyIn_2 17 rfl rfl)
theorem dX5_isWeeklyIn_64 : decode cX5_isWeeklyIn 64 = .ok (.iadd, 1) := dk_96 (dk_at dksX5_isWeeklyIn_2 18 rfl rfl)
theorem dX5_isWeeklyIn_65 : decode cX5_isWeeklyIn 65 = .ok (.iload_n 2, 1) := dk_28 (dk_at dksX5_isWeeklyIn_2 19 rfl rfl)
theorem dX5_isWeeklyIn_66 : decode cX5_isWeeklyIn 66 = .ok (.if_icmp .ge 25, 3) := dk_162 0 25 (dk_at dksX5_isWeeklyIn_2 20 rfl rfl)
theorem dX5_isWeeklyIn_69 : decode cX5_isWeeklyIn 69 = .ok (.sipush 1440, 3) := dk_17 5 160 (dk_at dksX5_isWeeklyIn_3 0 rfl rfl)
theorem dX5_isWeeklyIn_72 : decode cX5_isWeeklyIn 72 = .ok (.iload_n 3, 1) := dk_29 (dk_at dksX5_isWeeklyIn_3 3 rfl rfl)
theorem dX5_isWeeklyIn_73 : decode cX5_isWeeklyIn 73 = .ok (.imul, 1) := dk_104 (dk_at dksX5_isWeeklyIn_3 4 rfl rfl)
theorem dX5_isWeeklyIn_74 : decode cX5_isWeeklyIn 74 = .ok (.aload_n 0, 1) := dk_42 (dk_at dksX5_isWeeklyIn_3 5 rfl rfl)
theorem dX5_isWeeklyIn_75 : decode cX5_isWeeklyIn 75 = .ok (.getfield 13, 3) := dk_180 0 13 (dk_at dksX5_isWeeklyIn_3 6 rfl rfl)
theorem dX5_isWeeklyIn_78 : decode cX5_isWeeklyIn 78 = .ok (.bipush 102, 2) := dk_16 102 (dk_at dksX5_isWeeklyIn_3 9 rfl rfl)
theorem dX5_isWeeklyIn_80 : decode cX5_isWeeklyIn 80 = .ok (.iload 4, 2) := dk_21 4 (dk_at dksX5_isWeeklyIn_3 11 rfl rfl)
theorem dX5_isWeeklyIn_82 : decode cX5_isWeeklyIn 82 = .ok (.iadd, 1) := dk_96 (dk_at dksX5_isWeeklyIn_3 13 rfl rfl)
theorem dX5_isWeeklyIn_83 : decode cX5_isWeeklyIn 83 = .ok (.iaload, 1) := dk_46 (dk_at dksX5_isWeeklyIn_3 14 rfl rfl)
theorem dX5_isWeeklyIn_84 : decode cX5_isWeeklyIn 84 = .ok (.iadd, 1) := dk_96 (dk_at dksX5_isWeeklyIn_3 15 rfl rfl)
theorem dX5_isWeeklyIn_85 : decode cX5_isWeeklyIn 85 = .ok (.iload_n 1, 1) := dk_27 (dk_at dksX5_isWeeklyIn_3 16 rfl rfl)
theorem dX5_isWeeklyIn_86 : decode cX5_isWeeklyIn 86 = .ok (.if_icmp .le 5, 3) := dk_164 0 5 (dk_at dksX5_isWeeklyIn_3 17 rfl rfl)
theorem dX5_isWeeklyIn_89 : decode cX5_isWeeklyIn 89 = .ok (.iconst 1, 1) := dk_4 (dk_at dksX5_isWeeklyIn_3 20 rfl rfl)
theorem dX5_isWeeklyIn_90 : decode cX5_isWeeklyIn 90 = .ok (.ireturn, 1) := dk_172 (dk_at dksX5_isWeeklyIn_3 21 rfl rfl)
theorem dX5_isWeeklyIn_91 : decode cX5_isWeeklyIn 91 = .ok (.iinc 4 1, 3) := dk_132 4 1 (dk_at dksX5_isWeeklyIn_4 0 rfl rfl)
theorem dX5_isWeeklyIn_94 : decode cX5_isWeeklyIn 94 = .ok (.goto (-85), 3) := dk_167 255 171 (dk_at dksX5_isWeeklyIn_4 3 rfl rfl)
theorem dX5_isWeeklyIn_97 : decode cX5_isWeeklyIn 97 = .ok (.iconst 0, 1) := dk_3 (dk_at dksX5_isWeeklyIn_4 6 rfl rfl)
theorem dX5_isWeeklyIn_98 : decode cX5_isWeeklyIn 98 = .ok (.ireturn, 1) := dk_172 (dk_at dksX5_isWeeklyIn_4 7 rfl rfl)
abbrev cX5_isAnyNear : ByteArray := prog_17_method_56_code
def yX5_isAnyNear : MethodName := ⟨RX5, "isAnyNear", "(II)Z"⟩
def dkwX5_isAnyNear_1 : List UInt8 := [132, 3, 1, 167, 255, 231, 3, 172]
abbrev dktX5_isAnyNear_1 : List UInt8 := dkwX5_isAnyNear_1 ++ []
def dkwX5_isAnyNear_0 : List UInt8 := [3, 62, 29, 42, 180, 0, 36, 4, 46, 162, 0, 21, 42, 29, 27, 28, 182, 0, 248, 153, 0, 5, 4, 172]
abbrev dktX5_isAnyNear_0 : List UInt8 := dkwX5_isAnyNear_0 ++ dktX5_isAnyNear_1
theorem dksX5_isAnyNear_0 : cX5_isAnyNear.data.toList.drop 0 = dktX5_isAnyNear_0 := by decide +kernel
theorem dksX5_isAnyNear_1 : cX5_isAnyNear.data.toList.drop 24 = dktX5_isAnyNear_1 := dk_seg dksX5_isAnyNear_0 24 rfl rfl
theorem dX5_isAnyNear_0 : decode cX5_isAnyNear 0 = .ok (.iconst 0, 1) := dk_3 (dk_at dksX5_isAnyNear_0 0 rfl rfl)
theorem dX5_isAnyNear_1 : decode cX5_isAnyNear 1 = .ok (.istore_n 3, 1) := dk_62 (dk_at dksX5_isAnyNear_0 1 rfl rfl)
theorem dX5_isAnyNear_2 : decode cX5_isAnyNear 2 = .ok (.iload_n 3, 1) := dk_29 (dk_at dksX5_isAnyNear_0 2 rfl rfl)
theorem dX5_isAnyNear_3 : decode cX5_isAnyNear 3 = .ok (.aload_n 0, 1) := dk_42 (dk_at dksX5_isAnyNear_0 3 rfl rfl)
theorem dX5_isAnyNear_4 : decode cX5_isAnyNear 4 = .ok (.getfield 36, 3) := dk_180 0 36 (dk_at dksX5_isAnyNear_0 4 rfl rfl)
theorem dX5_isAnyNear_7 : decode cX5_isAnyNear 7 = .ok (.iconst 1, 1) := dk_4 (dk_at dksX5_isAnyNear_0 7 rfl rfl)
theorem dX5_isAnyNear_8 : decode cX5_isAnyNear 8 = .ok (.iaload, 1) := dk_46 (dk_at dksX5_isAnyNear_0 8 rfl rfl)
theorem dX5_isAnyNear_9 : decode cX5_isAnyNear 9 = .ok (.if_icmp .ge 21, 3) := dk_162 0 21 (dk_at dksX5_isAnyNear_0 9 rfl rfl)
theorem dX5_isAnyNear_12 : decode cX5_isAnyNear 12 = .ok (.aload_n 0, 1) := dk_42 (dk_at dksX5_isAnyNear_0 12 rfl rfl)
theorem dX5_isAnyNear_13 : decode cX5_isAnyNear 13 = .ok (.iload_n 3, 1) := dk_29 (dk_at dksX5_isAnyNear_0 13 rfl rfl)
theorem dX5_isAnyNear_14 : decode cX5_isAnyNear 14 = .ok (.iload_n 1, 1) := dk_27 (dk_at dksX5_isAnyNear_0 14 rfl rfl)
theorem dX5_isAnyNear_15 : decode cX5_isAnyNear 15 = .ok (.iload_n 2, 1) := dk_28 (dk_at dksX5_isAnyNear_0 15 rfl rfl)
theorem dX5_isAnyNear_16 : decode cX5_isAnyNear 16 = .ok (.invokevirtual 248, 3) := dk_182 0 248 (dk_at dksX5_isAnyNear_0 16 rfl rfl)
theorem dX5_isAnyNear_19 : decode cX5_isAnyNear 19 = .ok (.ifCond .eq 5, 3) := dk_153 0 5 (dk_at dksX5_isAnyNear_0 19 rfl rfl)
theorem dX5_isAnyNear_22 : decode cX5_isAnyNear 22 = .ok (.iconst 1, 1) := dk_4 (dk_at dksX5_isAnyNear_0 22 rfl rfl)
theorem dX5_isAnyNear_23 : decode cX5_isAnyNear 23 = .ok (.ireturn, 1) := dk_172 (dk_at dksX5_isAnyNear_0 23 rfl rfl)
theorem dX5_isAnyNear_24 : decode cX5_isAnyNear 24 = .ok (.iinc 3 1, 3) := dk_132 3 1 (dk_at dksX5_isAnyNear_1 0 rfl rfl)
theorem dX5_isAnyNear_27 : decode cX5_isAnyNear 27 = .ok (.goto (-25), 3) := dk_167 255 231 (dk_at dksX5_isAnyNear_1 3 rfl rfl)
theorem dX5_isAnyNear_30 : decode cX5_isAnyNear 30 = .ok (.iconst 0, 1) := dk_3 (dk_at dksX5_isAnyNear_1 6 rfl rfl)
theorem dX5_isAnyNear_31 : decode cX5_isAnyNear 31 = .ok (.ireturn, 1) := dk_172 (dk_at dksX5_isAnyNear_1 7 rfl rfl)
abbrev cX5_isNear : ByteArray := prog_17_method_55_code
def yX5_isNear : MethodName := ⟨RX5, "isNear", "(III)Z"⟩
def dkwX5_isNear_4 : List UInt8 := [21, 5, 154, 0, 12, 21, 6, 154, 0, 7, 4, 167, 0, 4, 3, 172]
abbrev dktX5_isNear_4 : List UInt8 := dkwX5_isNear_4 ++ []
def dkwX5_isNear_3 : List UInt8 := [46, 21, 4, 182, 0, 245, 96, 42, 27, 16, 10, 182, 0, 228, 163, 0, 7, 4, 167, 0, 4, 3, 54, 6]
abbrev dktX5_isNear_3 : List UInt8 := dkwX5_isNear_3 ++ dktX5_isNear_4
def dkwX5_isNear_2 : List UInt8 := [163, 0, 7, 4, 167, 0, 4, 3, 54, 5, 29, 42, 180, 0, 33, 5, 46, 96, 42, 42, 180, 0, 33, 3]
abbrev dktX5_isNear_2 : List UInt8 := dkwX5_isNear_2 ++ dktX5_isNear_3
def dkwX5_isNear_1 : List UInt8 := [182, 0, 228, 54, 4, 42, 27, 182, 0, 242, 42, 21, 4, 42, 180, 0, 33, 3, 46, 182, 0, 245, 96, 29]
abbrev dktX5_isNear_1 : List UInt8 := dkwX5_isNear_1 ++ dktX5_isNear_2
def dkwX5_isNear_0 : List UInt8 := [42, 27, 182, 0, 239, 153, 0, 14, 42, 27, 16, 9, 182, 0, 228, 28, 159, 0, 5, 3, 172, 42, 27, 3]
abbrev dktX5_isNear_0 : List UInt8 := dkwX5_isNear_0 ++ dktX5_isNear_1
theorem dksX5_isNear_0 : cX5_isNear.data.toList.drop 0 = dktX5_isNear_0 := by decide +kernel
theorem dksX5_isNear_1 : cX5_isNear.data.toList.drop 24 = dktX5_isNear_1 := dk_seg dksX5_isNear_0 24 rfl rfl
theorem dksX5_isNear_2 : cX5_isNear.data.toList.drop 48 = dktX5_isNear_2 := dk_seg dksX5_isNear_1 24 rfl rfl
theorem dksX5_isNear_3 : cX5_isNear.data.toList.drop 72 = dktX5_isNear_3 := dk_seg dksX5_isNear_2 24 rfl rfl
theorem dksX5_isNear_4 : cX5_isNear.data.toList.drop 96 = dktX5_isNear_4 := dk_seg dksX5_isNear_3 24 rfl rfl
theorem dX5_isNear_0 : decode cX5_isNear 0 = .ok (.aload_n 0, 1) := dk_42 (dk_at dksX5_isNear_0 0 rfl rfl)
theorem dX5_isNear_1 : decode cX5_isNear 1 = .ok (.iload_n 1, 1) := dk_27 (dk_at dksX5_isNear_0 1 rfl rfl)
theorem dX5_isNear_2 : decode cX5_isNear 2 = .ok (.invokevirtual 239, 3) := dk_182 0 239 (dk_at dksX5_isNear_0 2 rfl rfl)
theorem dX5_isNear_5 : decode cX5_isNear 5 = .ok (.ifCond .eq 14, 3) := dk_153 0 14 (dk_at dksX5_isNear_0 5 rfl rfl)
theorem dX5_isNear_8 : decode cX5_isNear 8 = .ok (.aload_n 0, 1) := dk_42 (dk_at dksX5_isNear_0 8 rfl rfl)
theorem dX5_isNear_9 : decode cX5_isNear 9 = .ok (.iload_n 1, 1) := dk_27 (dk_at dksX5_isNear_0 9 rfl rfl)
theorem dX5_isNear_10 : decode cX5_isNear 10 = .ok (.bipush 9, 2) := dk_16 9 (dk_at dksX5_isNear_0 10 rfl rfl)
theorem dX5_isNear_12 : decode cX5_isNear 12 = .ok (.invokevirtual 228, 3) := dk_182 0 228 (dk_at dksX5_isNear_0 12 rfl rfl)
theorem dX5_isNear_15 : decode cX5_isNear 15 = .ok (.iload_n 2, 1) := dk_28 (dk_at dksX5_isNear_0 15 rfl rfl)
theorem dX5_isNear_16 : decode cX5_isNear 16 = .ok (.if_icmp .eq 5, 3) := dk_159 0 5 (dk_at dksX5_isNear_0 16 rfl rfl)
theorem dX5_isNear_19 : decode cX5_isNear 19 = .ok (.iconst 0, 1) := dk_3 (dk_at dksX5_isNear_0 19 rfl rfl)
theorem dX5_isNear_20 : decode cX5_isNear 20 = .ok (.ireturn, 1) := dk_172 (dk_at dksX5_isNear_0 20 rfl rfl)
theorem dX5_isNear_21 : decode cX5_isNear 21 = .ok (.aload_n 0, 1) := dk_42 (dk_at dksX5_isNear_0 21 rfl rfl)
theorem dX5_isNear_22 : decode cX5_isNear 22 = .ok (.iload_n 1, 1) := dk_27 (dk_at dksX5_isNear_0 22 rfl rfl)
theorem dX5_isNear_23 : decode cX5_isNear 23 = .ok (.iconst 0, 1) := dk_3 (dk_at dksX5_isNear_0 23 rfl rfl)
theorem dX5_isNear_24 : decode cX5_isNear 24 = .ok (.invokevirtual 228, 3) := dk_182 0 228 (dk_at dksX5_isNear_1 0 rfl rfl)
theorem dX5_isNear_27 : decode cX5_isNear 27 = .ok (.istore 4, 2) := dk_54 4 (dk_at dksX5_isNear_1 3 rfl rfl)
theorem dX5_isNear_29 : decode cX5_isNear 29 = .ok (.aload_n 0, 1) := dk_42 (dk_at dksX5_isNear_1 5 rfl rfl)
theorem dX5_isNear_30 : decode cX5_isNear 30 = .ok (.iload_n 1, 1) := dk_27 (dk_at dksX5_isNear_1 6 rfl rfl)
theorem dX5_isNear_31 : decode cX5_isNear 31 = .ok (.invokevirtual 242, 3) := dk_182 0 242 (dk_at dksX5_isNear_1 7 rfl rfl)
theorem dX5_isNear_34 : decode cX5_isNear 34 = .ok (.aload_n 0, 1) := dk_42 (dk_at dksX5_isNear_1 10 rfl rfl)
theorem dX5_isNear_35 : decode cX5_isNear 35 = .ok (.iload 4, 2) := dk_21 4 (dk_at dksX5_isNear_1 11 rfl rfl)
theorem dX5_isNear_37 : decode cX5_isNear 37 = .ok (.aload_n 0, 1) := dk_42 (dk_at dksX5_isNear_1 13 rfl rfl)
theorem dX5_isNear_38 : decode cX5_isNear 38 = .ok (.getfield 33, 3) := dk_180 0 33 (dk_at dksX5_isNear_1 14 rfl rfl)
theorem dX5_isNear_41 : decode cX5_isNear 41 = .ok (.iconst 0, 1) := dk_3 (dk_at dksX5_isNear_1 17 rfl rfl)
theorem dX5_isNear_42 : decode cX5_isNear 42 = .ok (.iaload, 1) := dk_46 (dk_at dksX5_isNear_1 18 rfl rfl)
theorem dX5_isNear_43 : decode cX5_isNear 43 = .ok (.invokevirtual 245, 3) := dk_182 0 245 (dk_at dksX5_isNear_1 19 rfl rfl)
theorem dX5_isNear_46 : decode cX5_isNear 46 = .ok (.iadd, 1) := dk_96 (dk_at dksX5_isNear_1 22 rfl rfl)
theorem dX5_isNear_47 : decode cX5_isNear 47 = .ok (.iload_n 3, 1) := dk_29 (dk_at dksX5_isNear_1 23 rfl rfl)
theorem dX5_isNear_48 : decode cX5_isNear 48 = .ok (.if_icmp .gt 7, 3) := dk_163 0 7 (dk_at dksX5_isNear_2 0 rfl rfl)
theorem dX5_isNear_51 : decode cX5_isNear 51 = .ok (.iconst 1, 1) := dk_4 (dk_at dksX5_isNear_2 3 rfl rfl)
theorem dX5_isNear_52 : decode cX5_isNear 52 = .ok (.goto 4, 3) := dk_167 0 4 (dk_at dksX5_isNear_2 4 rfl rfl)
theorem dX5_isNear_55 : decode cX5_isNear 55 = .ok (.iconst 0, 1) := dk_3 (dk_at dksX5_isNear_2 7 rfl rfl)
theorem dX5_isNear_56 : decode cX5_isNear 56 = .ok (.istore 5, 2) := dk_54 5 (dk_at dksX5_isNear_2 8 rfl rfl)
theorem dX5_isNear_58 : decode cX5_isNear 58 = .ok (.iload_n 3, 1) := dk_29 (dk_at dksX5_isNear_2 10 rfl rfl)
theorem dX5_isNear_59 : decode cX5_isNear 59 = .ok (.aload_n 0, 1) := dk_42 (dk_at dksX5_isNear_2 11 rfl rfl)
theorem dX5_isNear_60 : decode cX5_isNear 60 = .ok (.getfield 33, 3) := dk_180 0 33 (dk_at dksX5_isNear_2 12 rfl rfl)
theorem dX5_isNear_63 : decode cX5_isNear 63 = .ok (.iconst 2, 1) := dk_5 (dk_at dksX5_isNear_2 15 rfl rfl)
theorem dX5_isNear_64 : decode cX5_isNear 64 = .ok (.iaload, 1) := dk_46 (dk_at dksX5_isNear_2 16 rfl rfl)
theorem dX5_isNear_65 : decode cX5_isNear 65 = .ok (.iadd, 1) := dk_96 (dk_at dksX5_isNear_2 17 rfl rfl)
theorem dX5_isNear_66 : decode cX5_isNear 66 = .ok (.aload_n 0, 1) := dk_42 (dk_at dksX5_isNear_2 18 rfl rfl)
theorem dX5_isNear_67 : decode cX5_isNear 67 = .ok (.aload_n 0, 1) := dk_42 (dk_at dksX5_isNear_2 19 rfl rfl)
theorem dX5_isNear_68 : decode cX5_isNear 68 = .ok (.getfield 33, 3) := dk_180 0 33 (dk_at dksX5_isNear_2 20 rfl rfl)
theorem dX5_isNear_71 : decode cX5_isNear 71 = .ok (.iconst 0, 1) := dk_3 (dk_at dksX5_isNear_2 23 rfl rfl)
theorem dX5_isNear_72 : decode cX5_isNear 72 = .ok (.iaload, 1) := dk_46 (dk_at dksX5_isNear_3 0 rfl rfl)
theorem dX5_isNear_73 : decode cX5_isNear 73 = .ok (.iload 4, 2) := dk_21 4 (dk_at dksX5_isNear_3 1 rfl rfl)
theorem dX5_isNear_75 : decode cX5_isNear 75 = .ok (.invokevirtual 245, 3) := dk_182 0 245 (dk_at dksX5_isNear_3 3 rfl rfl)
theorem dX5_isNear_78 : decode cX5_isNear 78 = .ok (.iadd, 1) := dk_96 (dk_at dksX5_isNear_3 6 rfl rfl)
theorem dX5_isNear_79 : decode cX5_isNear 79 = .ok (.aload_n 0, 1) := dk_42 (dk_at dksX5_isNear_3 7 rfl rfl)
theorem dX5_isNear_80 : decode cX5_isNear 80 = .ok (.iload_n 1, 1) := dk_27 (dk_at dksX5_isNear_3 8 rfl rfl)
theorem dX5_isNear_81 : decode cX5_isNear 81 = .ok (.bipush 10, 2) := dk_16 10 (dk_at dksX5_isNear_3 9 rfl rfl)
theorem dX5_isNear_83 : decode cX5_isNear 83 = .ok (.invokevirtual 228, 3) := dk_182 0 228 (dk_at dksX5_isNear_3 11 rfl rfl)
theorem dX5_isNear_86 : decode cX5_isNear 86 = .ok (.if_icmp .gt 7, 3) := dk_163 0 7 (dk_at dksX5_isNear_3 14 rfl rfl)
theorem dX5_isNear_89 : decode cX5_isNear 89 = .ok (.iconst 1, 1) := dk_4 (dk_at dksX5_isNear_3 17 rfl rfl)
theorem dX5_isNear_90 : decode cX5_isNear 90 = .ok (.goto 4, 3) := dk_167 0 4 (dk_at dksX5_isNear_3 18 rfl rfl)
theorem dX5_isNear_93 : decode cX5_isNear 93 = .ok (.iconst 0, 1) := dk_3 (dk_at dksX5_isNear_3 21 rfl rfl)
theorem dX5_isNear_94 : decode cX5_isNear 94 = .ok (.istore 6, 2) := dk_54 6 (dk_at dksX5_isNear_3 22 rfl rfl)
theorem dX5_isNear_96 : decode cX5_isNear 96 = .ok (.iload 5, 2) := dk_21 5 (dk_at dksX5_isNear_4 0 rfl rfl)
theorem dX5_isNear_98 : decode cX5_isNear 98 = .ok (.ifCond .ne 12, 3) := dk_154 0 12 (dk_at dksX5_isNear_4 2 rfl rfl)
theorem dX5_isNear_101 : decode cX5_isNear 101 = .ok (.iload 6, 2) := dk_21 6 (dk_at dksX5_isNear_4 5 rfl rfl)
theorem dX5_isNear_103 : decode cX5_isNear 103 = .ok (.ifCond .ne 7, 3) := dk_154 0 7 (dk_at dksX5_isNear_4 7 rfl rfl)
theorem dX5_isNear_106 : decode cX5_isNear 106 = .ok (.iconst 1, 1) := dk_4 (dk_at dksX5_isNear_4 10 rfl rfl)
theorem dX5_isNear_107 : decode cX5_isNear 107 = .ok (.goto 4, 3) := dk_167 0 4 (dk_at dksX5_isNear_4 11 rfl rfl)
theorem dX5_isNear_110 : decode cX5_isNear 110 = .ok (.iconst 0, 1) := dk_3 (dk_at dksX5_isNear_4 14 rfl rfl)
theorem dX5_isNear_111 : decode cX5_isNear 111 = .ok (.ireturn, 1) := dk_172 (dk_at dksX5_isNear_4 15 rfl rfl)
abbrev cX5_counts : ByteArray := prog_17_method_52_code
def yX5_counts : MethodName := ⟨RX5, "counts", "(I)Z"⟩
def dkwX5_counts_0 : List UInt8 := [42, 27, 182, 0, 236, 153, 0, 16, 42, 180, 0, 48, 27, 51, 154, 0, 7, 4, 167, 0, 4, 3, 172]
abbrev dktX5_counts_0 : List UInt8 := dkwX5_counts_0 ++ []
theorem dksX5_counts_0 : cX5_counts.data.toList.drop 0 = dktX5_counts_0 := by decide +kernel
theorem dX5_counts_0 : decode cX5_counts 0 = .ok (.aload_n 0, 1) := dk_42 (dk_at dksX5_counts_0 0 rfl rfl)
theorem dX5_counts_1 : decode cX5_counts 1 = .ok (.iload_n 1, 1) := dk_27 (dk_at dksX5_counts_0 1 rfl rfl)
theorem dX5_counts_2 : decode cX5_counts 2 = .ok (.invokevirtual 236, 3) := dk_182 0 236 (dk_at dksX5_counts_0 2 rfl rfl)
theorem dX5_counts_5 : decode cX5_counts 5 = .ok (.ifCond .eq 16, 3) := dk_153 0 16 (dk_at dksX5_counts_0 5 rfl rfl)
theorem dX5_counts_8 : decode cX5_counts 8 = .ok (.aload_n 0, 1) := dk_42 (dk_at dksX5_counts_0 8 rfl rfl)
theorem dX5_counts_9 : decode cX5_counts 9 = .ok (.getfield 48, 3) := dk_180 0 48 (dk_at dksX5_counts_0 9 rfl rfl)
theorem dX5_counts_12 : decode cX5_counts 12 = .ok (.iload_n 1, 1) := dk_27 (dk_at dksX5_counts_0 12 rfl rfl)
theorem dX5_counts_13 : decode cX5_counts 13 = .ok (.baload, 1) := dk_51 (dk_at dksX5_counts_0 13 rfl rfl)
theorem dX5_counts_14 : decode cX5_counts 14 = .ok (.ifCond .ne 7, 3) := dk_154 0 7 (dk_at dksX5_counts_0 14 rfl rfl)
theorem dX5_counts_17 : decode cX5_counts 17 = .ok (.iconst 1, 1) := dk_4 (dk_at dksX5_counts_0 17 rfl rfl)
theorem dX5_counts_18 : decode cX5_counts 18 = .ok (.goto 4, 3) := dk_167 0 4 (dk_at dksX5_counts_0 18 rfl rfl)
theorem dX5_counts_21 : decode cX5_counts 21 = .ok (.iconst 0, 1) := dk_3 (dk_at dksX5_counts_0 21 rfl rfl)
theorem dX5_counts_22 : decode cX5_counts 22 = .ok (.ireturn, 1) := dk_172 (dk_at dksX5_counts_0 22 rfl rfl)
abbrev cX5_isActive : ByteArray := prog_17_method_46_code
def yX5_isActive : MethodName := ⟨RX5, "isActive", "(I)Z"⟩
def dkwX5_isActive_0 : List UInt8 := [42, 27, 16, 11, 182, 0, 228, 4, 160, 0, 7, 4, 167, 0, 4, 3, 172]
abbrev dktX5_isActive_0 : List UInt8 := dkwX5_isActive_0 ++ []
theorem dksX5_isActive_0 : cX5_isActive.data.toList.drop 0 = dktX5_isActive_0 := by decide +kernel
theorem dX5_isActive_0 : decode cX5_isActive 0 = .ok (.aload_n 0, 1) := dk_42 (dk_at dksX5_isActive_0 0 rfl rfl)
theorem dX5_isActive_1 : decode cX5_isActive 1 = .ok (.iload_n 1, 1) := dk_27 (dk_at dksX5_isActive_0 1 rfl rfl)
theorem dX5_isActive_2 : decode cX5_isActive 2 = .ok (.bipush 11, 2) := dk_16 11 (dk_at dksX5_isActive_0 2 rfl rfl)
theorem dX5_isActive_4 : decode cX5_isActive 4 = .ok (.invokevirtual 228, 3) := dk_182 0 228 (dk_at dksX5_isActive_0 4 rfl rfl)
theorem dX5_isActive_7 : decode cX5_isActive 7 = .ok (.iconst 1, 1) := dk_4 (dk_at dksX5_isActive_0 7 rfl rfl)
theorem dX5_isActive_8 : decode cX5_isActive 8 = .ok (.if_icmp .ne 7, 3) := dk_160 0 7 (dk_at dksX5_isActive_0 8 rfl rfl)
theorem dX5_isActive_11 : decode cX5_isActive 11 = .ok (.iconst 1, 1) := dk_4 (dk_at dksX5_isActive_0 11 rfl rfl)
theorem dX5_isActive_12 : decode cX5_isActive 12 = .ok (.goto 4, 3) := dk_167 0 4 (dk_at dksX5_isActive_0 12 rfl rfl)
theorem dX5_isActive_15 : decode cX5_isActive 15 = .ok (.iconst 0, 1) := dk_3 (dk_at dksX5_isActive_0 15 rfl rfl)
theorem dX5_isActive_16 : decode cX5_isActive 16 = .ok (.ireturn, 1) := dk_172 (dk_at dksX5_isActive_0 16 rfl rfl)
abbrev cX5_of : ByteArray := prog_17_method_45_code
def yX5_of : MethodName := ⟨RX5, "of", "(II)I"⟩
def dkwX5_of_0 : List UInt8 := [42, 180, 0, 36, 27, 184, 0, 225, 28, 96, 46, 172]
abbrev dktX5_of_0 : List UInt8 := dkwX5_of_0 ++ []
theorem dksX5_of_0 : cX5_of.data.toList.drop 0 = dktX5_of_0 := by decide +kernel
theorem dX5_of_0 : decode cX5_of 0 = .ok (.aload_n 0, 1) := dk_42 (dk_at dksX5_of_0 0 rfl rfl)
theorem dX5_of_1 : decode cX5_of 1 = .ok (.getfield 36, 3) := dk_180 0 36 (dk_at dksX5_of_0 1 rfl rfl)
theorem dX5_of_4 : decode cX5_of 4 = .ok (.iload_n 1, 1) := dk_27 (dk_at dksX5_of_0 4 rfl rfl)
theorem dX5_of_5 : decode cX5_of 5 = .ok (.invokestatic 225, 3) := dk_184 0 225 (dk_at dksX5_of_0 5 rfl rfl)
theorem dX5_of_8 : decode cX5_of 8 = .ok (.iload_n 2, 1) := dk_28 (dk_at dksX5_of_0 8 rfl rfl)
theorem dX5_of_9 : decode cX5_of 9 = .ok (.iadd, 1) := dk_96 (dk_at dksX5_of_0 9 rfl rfl)
theorem dX5_of_10 : decode cX5_of 10 = .ok (.iaload, 1) := dk_46 (dk_at dksX5_of_0 10 rfl rfl)
theorem dX5_of_11 : decode cX5_of 11 = .ok (.ireturn, 1) := dk_172 (dk_at dksX5_of_0 11 rfl rfl)
abbrev cX5_rowOf : ByteArray := prog_17_method_44_code
def yX5_rowOf : MethodName := ⟨RX5, "rowOf", "(I)I"⟩
def dkwX5_rowOf_0 : List UInt8 := [7, 16, 13, 26, 104, 96, 172]
abbrev dktX5_rowOf_0 : List UInt8 := dkwX5_rowOf_0 ++ []
theorem dksX5_rowOf_0 : cX5_rowOf.data.toList.drop 0 = dktX5_rowOf_0 := by decide +kernel
theorem dX5_rowOf_0 : decode cX5_rowOf 0 = .ok (.iconst 4, 1) := dk_7 (dk_at dksX5_rowOf_0 0 rfl rfl)
theorem dX5_rowOf_1 : decode cX5_rowOf 1 = .ok (.bipush 13, 2) := dk_16 13 (dk_at dksX5_rowOf_0 1 rfl rfl)
theorem dX5_rowOf_3 : decode cX5_rowOf 3 = .ok (.iload_n 0, 1) := dk_26 (dk_at dksX5_rowOf_0 3 rfl rfl)
theorem dX5_rowOf_4 : decode cX5_rowOf 4 = .ok (.imul, 1) := dk_104 (dk_at dksX5_rowOf_0 4 rfl rfl)
theorem dX5_rowOf_5 : decode cX5_rowOf 5 = .ok (.iadd, 1) := dk_96 (dk_at dksX5_rowOf_0 5 rfl rfl)
theorem dX5_rowOf_6 : decode cX5_rowOf 6 = .ok (.ireturn, 1) := dk_172 (dk_at dksX5_rowOf_0 6 rfl rfl)
abbrev cX5_endOf : ByteArray := prog_17_method_47_code
def yX5_endOf : MethodName := ⟨RX5, "endOf", "(I)I"⟩
def dkwX5_endOf_0 : List UInt8 := [42, 27, 16, 10, 182, 0, 228, 42, 27, 5, 182, 0, 228, 96, 172]
abbrev dktX5_endOf_0 : List UInt8 := dkwX5_endOf_0 ++ []
theorem dksX5_endOf_0 : cX5_endOf.data.toList.drop 0 = dktX5_endOf_0 := by decide +kernel
theorem dX5_endOf_0 : decode cX5_endOf 0 = .ok (.aload_n 0, 1) := dk_42 (dk_at dksX5_endOf_0 0 rfl rfl)
theorem dX5_endOf_1 : decode cX5_endOf 1 = .ok (.iload_n 1, 1) := dk_27 (dk_at dksX5_endOf_0 1 rfl rfl)
theorem dX5_endOf_2 : decode cX5_endOf 2 = .ok (.bipush 10, 2) := dk_16 10 (dk_at dksX5_endOf_0 2 rfl rfl)
theorem dX5_endOf_4 : decode cX5_endOf 4 = .ok (.invokevirtual 228, 3) := dk_182 0 228 (dk_at dksX5_endOf_0 4 rfl rfl)
theorem dX5_endOf_7 : decode cX5_endOf 7 = .ok (.aload_n 0, 1) := dk_42 (dk_at dksX5_endOf_0 7 rfl rfl)
theorem dX5_endOf_8 : decode cX5_endOf 8 = .ok (.iload_n 1, 1) := dk_27 (dk_at dksX5_endOf_0 8 rfl rfl)
theorem dX5_endOf_9 : decode cX5_endOf 9 = .ok (.iconst 2, 1) := dk_5 (dk_at dksX5_endOf_0 9 rfl rfl)
theorem dX5_endOf_10 : decode cX5_endOf 10 = .ok (.invokevirtual 228, 3) := dk_182 0 228 (dk_at dksX5_endOf_0 10 rfl rfl)
theorem dX5_endOf_13 : decode cX5_endOf 13 = .ok (.iadd, 1) := dk_96 (dk_at dksX5_endOf_0 13 rfl rfl)
theorem dX5_endOf_14 : decode cX5_endOf 14 = .ok (.ireturn, 1) := dk_172 (dk_at dksX5_endOf_0 14 rfl rfl)
abbrev cX5_between : ByteArray := prog_17_method_49_code
def yX5_between : MethodName := ⟨RX5, "between", "(II)I"⟩
def dkwX5_between_0 : List UInt8 := [42, 180, 0, 13, 16, 50, 16, 6, 27, 104, 96, 28, 96, 46, 172]
abbrev dktX5_between_0 : List UInt8 := dkwX5_between_0 ++ []
theorem dksX5_between_0 : cX5_between.data.toList.drop 0 = dktX5_between_0 := by decide +kernel
theorem dX5_between_0 : decode cX5_between 0 = .ok (.aload_n 0, 1) := dk_42 (dk_at dksX5_between_0 0 rfl rfl)
theorem dX5_between_1 : decode cX5_between 1 = .ok (.getfield 13, 3) := dk_180 0 13 (dk_at dksX5_between_0 1 rfl rfl)
theorem dX5_between_4 : decode cX5_between 4 = .ok (.bipush 50, 2) := dk_16 50 (dk_at dksX5_between_0 4 rfl rfl)
theorem dX5_between_6 : decode cX5_between 6 = .ok (.bipush 6, 2) := dk_16 6 (dk_at dksX5_between_0 6 rfl rfl)
theorem dX5_between_8 : decode cX5_between 8 = .ok (.iload_n 1, 1) := dk_27 (dk_at dksX5_between_0 8 rfl rfl)
theorem dX5_between_9 : decode cX5_between 9 = .ok (.imul, 1) := dk_104 (dk_at dksX5_between_0 9 rfl rfl)
theorem dX5_between_10 : decode cX5_between 10 = .ok (.iadd, 1) := dk_96 (dk_at dksX5_between_0 10 rfl rfl)
theorem dX5_between_11 : decode cX5_between 11 = .ok (.iload_n 2, 1) := dk_28 (dk_at dksX5_between_0 11 rfl rfl)
theorem dX5_between_12 : decode cX5_between 12 = .ok (.iadd, 1) := dk_96 (dk_at dksX5_between_0 12 rfl rfl)
theorem dX5_between_13 : decode cX5_between 13 = .ok (.iaload, 1) := dk_46 (dk_at dksX5_between_0 13 rfl rfl)
theorem dX5_between_14 : decode cX5_between 14 = .ok (.ireturn, 1) := dk_172 (dk_at dksX5_between_0 14 rfl rfl)
abbrev cX5_isShort : ByteArray := prog_17_method_60_code
def yX5_isShort : MethodName := ⟨RX5, "isShort", "(I)Z"⟩
def dkwX5_isShort_3 : List UInt8 := [164, 0, 5, 4, 172, 132, 2, 1, 167, 255, 183, 3, 172]
abbrev dktX5_isShort_3 : List UInt8 := dkwX5_isShort_3 ++ []
def dkwX5_isShort_2 : List UInt8 := [180, 0, 33, 5, 46, 96, 21, 4, 96, 182, 1, 7, 96, 42, 180, 0, 13, 16, 32, 28, 96, 46]
abbrev dktX5_isShort_2 : List UInt8 := dkwX5_isShort_2 ++ dktX5_isShort_3
def dkwX5_isShort_1 : List UInt8 := [180, 0, 13, 16, 44, 28, 96, 46, 54, 4, 29, 158, 0, 39, 29, 42, 28, 27, 21, 4, 100, 27, 42]
abbrev dktX5_isShort_1 : List UInt8 := dkwX5_isShort_1 ++ dktX5_isShort_2
def dkwX5_isShort_0 : List UInt8 := [3, 61, 28, 42, 180, 0, 13, 5, 46, 162, 0, 69, 42, 180, 0, 33, 6, 28, 96, 46, 62, 42]
abbrev dktX5_isShort_0 : List UInt8 := dkwX5_isShort_0 ++ dktX5_isShort_1
theorem dksX5_isShort_0 : cX5_isShort.data.toList.drop 0 = dktX5_isShort_0 := by decide +kernel
theorem dksX5_isShort_1 : cX5_isShort.data.toList.drop 22 = dktX5_isShort_1 := dk_seg dksX5_isShort_0 22 rfl rfl
theorem dksX5_isShort_2 : cX5_isShort.data.toList.drop 45 = dktX5_isShort_2 := dk_seg dksX5_isShort_1 23 rfl rfl
theorem dksX5_isShort_3 : cX5_isShort.data.toList.drop 67 = dktX5_isShort_3 := dk_seg dksX5_isShort_2 22 rfl rfl
theorem dX5_isShort_0 : decode cX5_isShort 0 = .ok (.iconst 0, 1) := dk_3 (dk_at dksX5_isShort_0 0 rfl rfl)
theorem dX5_isShort_1 : decode cX5_isShort 1 = .ok (.istore_n 2, 1) := dk_61 (dk_at dksX5_isShort_0 1 rfl rfl)
theorem dX5_isShort_2 : decode cX5_isShort 2 = .ok (.iload_n 2, 1) := dk_28 (dk_at dksX5_isShort_0 2 rfl rfl)
theorem dX5_isShort_3 : decode cX5_isShort 3 = .ok (.aload_n 0, 1) := dk_42 (dk_at dksX5_isShort_0 3 rfl rfl)
theorem dX5_isShort_4 : decode cX5_isShort 4 = .ok (.getfield 13, 3) := dk_180 0 13 (dk_at dksX5_isShort_0 4 rfl rfl)
theorem dX5_isShort_7 : decode cX5_isShort 7 = .ok (.iconst 2, 1) := dk_5 (dk_at dksX5_isShort_0 7 rfl rfl)
theorem dX5_isShort_8 : decode cX5_isShort 8 = .ok (.iaload, 1) := dk_46 (dk_at dksX5_isShort_0 8 rfl rfl)
theorem dX5_isShort_9 : decode cX5_isShort 9 = .ok (.if_icmp .ge 69, 3) := dk_162 0 69 (dk_at dksX5_isShort_0 9 rfl rfl)
theorem dX5_isShort_12 : decode cX5_isShort 12 = .ok (.aload_n 0, 1) := dk_42 (dk_at dksX5_isShort_0 12 rfl rfl)
theorem dX5_isShort_13 : decode cX5_isShort 13 = .ok (.getfield 33, 3) := dk_180 0 33 (dk_at dksX5_isShort_0 13 rfl rfl)
theorem dX5_isShort_16 : decode cX5_isShort 16 = .ok (.iconst 3, 1) := dk_6 (dk_at dksX5_isShort_0 16 rfl rfl)
theorem dX5_isShort_17 : decode cX5_isShort 17 = .ok (.iload_n 2, 1) := dk_28 (dk_at dksX5_isShort_0 17 rfl rfl)
theorem dX5_isShort_18 : decode cX5_isShort 18 = .ok (.iadd, 1) := dk_96 (dk_at dksX5_isShort_0 18 rfl rfl)
theorem dX5_isShort_19 : decode cX5_isShort 19 = .ok (.iaload, 1) := dk_46 (dk_at dksX5_isShort_0 19 rfl rfl)
theorem dX5_isShort_20 : decode cX5_isShort 20 = .ok (.istore_n 3, 1) := dk_62 (dk_at dksX5_isShort_0 20 rfl rfl)
theorem dX5_isShort_21 : decode cX5_isShort 21 = .ok (.aload_n 0, 1) := dk_42 (dk_at dksX5_isShort_0 21 rfl rfl)
theorem dX5_isShort_22 : decode cX5_isShort 22 = .ok (.getfield 13, 3) := dk_180 0 13 (dk_at dksX5_isShort_1 0 rfl rfl)
theorem dX5_isShort_25 : decode cX5_isShort 25 = .ok (.bipush 44, 2) := dk_16 44 (dk_at dksX5_isShort_1 3 rfl rfl)
theorem dX5_isShort_27 : decode cX5_isShort 27 = .ok (.iload_n 2, 1) := dk_28 (dk_at dksX5_isShort_1 5 rfl rfl)
theorem dX5_isShort_28 : decode cX5_isShort 28 = .ok (.iadd, 1) := dk_96 (dk_at dksX5_isShort_1 6 rfl rfl)
theorem dX5_isShort_29 : decode cX5_isShort 29 = .ok (.iaload, 1) := dk_46 (dk_at dksX5_isShort_1 7 rfl rfl)
theorem dX5_isShort_30 : decode cX5_isShort 30 = .ok (.istore 4, 2) := dk_54 4 (dk_at dksX5_isShort_1 8 rfl rfl)
theorem dX5_isShort_32 : decode cX5_isShort 32 = .ok (.iload_n 3, 1) := dk_29 (dk_at dksX5_isShort_1 10 rfl rfl)
theorem dX5_isShort_33 : decode cX5_isShort 33 = .ok (.ifCond .le 39, 3) := dk_158 0 39 (dk_at dksX5_isShort_1 11 rfl rfl)
theorem dX5_isShort_36 : decode cX5_isShort 36 = .ok (.iload_n 3, 1) := dk_29 (dk_at dksX5_isShort_1 14 rfl rfl)
theorem dX5_isShort_37 : decode cX5_isShort 37 = .ok (.aload_n 0, 1) := dk_42 (dk_at dksX5_isShort_1 15 rfl rfl)
theorem dX5_isShort_38 : decode cX5_isShort 38 = .ok (.iload_n 2, 1) := dk_28 (dk_at dksX5_isShort_1 16 rfl rfl)
theorem dX5_isShort_39 : decode cX5_isShort 39 = .ok (.iload_n 1, 1) := dk_27 (dk_at dksX5_isShort_1 17 rfl rfl)
theorem dX5_isShort_40 : decode cX5_isShort 40 = .ok (.iload 4, 2) := dk_21 4 (dk_at dksX5_isShort_1 18 rfl rfl)
theorem dX5_isShort_42 : decode cX5_isShort 42 = .ok (.isub, 1) := dk_100 (dk_at dksX5_isShort_1 20 rfl rfl)
theorem dX5_isShort_43 : decode cX5_isShort 43 = .ok (.iload_n 1, 1) := dk_27 (dk_at dksX5_isShort_1 21 rfl rfl)
theorem dX5_isShort_44 : decode cX5_isShort 44 = .ok (.aload_n 0, 1) := dk_42 (dk_at dksX5_isShort_1 22 rfl rfl)
theorem dX5_isShort_45 : decode cX5_isShort 45 = .ok (.getfield 33, 3) := dk_180 0 33 (dk_at dksX5_isShort_2 0 rfl rfl)
theorem dX5_isShort_48 : decode cX5_isShort 48 = .ok (.iconst 2, 1) := dk_5 (dk_at dksX5_isShort_2 3 rfl rfl)
theorem dX5_isShort_49 : decode cX5_isShort 49 = .ok (.iaload, 1) := dk_46 (dk_at dksX5_isShort_2 4 rfl rfl)
theorem dX5_isShort_50 : decode cX5_isShort 50 = .ok (.iadd, 1) := dk_96 (dk_at dksX5_isShort_2 5 rfl rfl)
theorem dX5_isShort_51 : decode cX5_isShort 51 = .ok (.iload 4, 2) := dk_21 4 (dk_at dksX5_isShort_2 6 rfl rfl)
theorem dX5_isShort_53 : decode cX5_isShort 53 = .ok (.iadd, 1) := dk_96 (dk_at dksX5_isShort_2 8 rfl rfl)
theorem dX5_isShort_54 : decode cX5_isShort 54 = .ok (.invokevirtual 263, 3) := dk_182 1 7 (dk_at dksX5_isShort_2 9 rfl rfl)
theorem dX5_isShort_57 : decode cX5_isShort 57 = .ok (.iadd, 1) := dk_96 (dk_at dksX5_isShort_2 12 rfl rfl)
theorem dX5_isShort_58 : decode cX5_isShort 58 = .ok (.aload_n 0, 1) := dk_42 (dk_at dksX5_isShort_2 13 rfl rfl)
theorem dX5_isShort_59 : decode cX5_isShort 59 = .ok (.getfield 13, 3) := dk_180 0 13 (dk_at dksX5_isShort_2 14 rfl rfl)
theorem dX5_isShort_62 : decode cX5_isShort 62 = .ok (.bipush 32, 2) := dk_16 32 (dk_at dksX5_isShort_2 17 rfl rfl)
theorem dX5_isShort_64 : decode cX5_isShort 64 = .ok (.iload_n 2, 1) := dk_28 (dk_at dksX5_isShort_2 19 rfl rfl)
theorem dX5_isShort_65 : decode cX5_isShort 65 = .ok (.iadd, 1) := dk_96 (dk_at dksX5_isShort_2 20 rfl rfl)
theorem dX5_isShort_66 : decode cX5_isShort 66 = .ok (.iaload, 1) := dk_46 (dk_at dksX5_isShort_2 21 rfl rfl)
theorem dX5_isShort_67 : decode cX5_isShort 67 = .ok (.if_icmp .le 5, 3) := dk_164 0 5 (dk_at dksX5_isShort_3 0 rfl rfl)
theorem dX5_isShort_70 : decode cX5_isShort 70 = .ok (.iconst 1, 1) := dk_4 (dk_at dksX5_isShort_3 3 rfl rfl)
theorem dX5_isShort_71 : decode cX5_isShort 71 = .ok (.ireturn, 1) := dk_172 (dk_at dksX5_isShort_3 4 rfl rfl)
theorem dX5_isShort_72 : decode cX5_isShort 72 = .ok (.iinc 2 1, 3) := dk_132 2 1 (dk_at dksX5_isShort_3 5 rfl rfl)
theorem dX5_isShort_75 : decode cX5_isShort 75 = .ok (.goto (-73), 3) := dk_167 255 183 (dk_at dksX5_isShort_3 8 rfl rfl)
theorem dX5_isShort_78 : decode cX5_isShort 78 = .ok (.iconst 0, 1) := dk_3 (dk_at dksX5_isShort_3 11 rfl rfl)
theorem dX5_isShort_79 : decode cX5_isShort 79 = .ok (.ireturn, 1) := dk_172 (dk_at dksX5_isShort_3 12 rfl rfl)
abbrev cX5_peakBy : ByteArray := prog_17_method_59_code
def yX5_peakBy : MethodName := ⟨RX5, "peakBy", "(III)I"⟩
def dkwX5_peakBy_8 : List UInt8 := [21, 7, 184, 0, 255, 54, 6, 132, 8, 1, 167, 255, 225, 21, 6, 172]
abbrev dktX5_peakBy_8 : List UInt8 := dkwX5_peakBy_8 ++ []
def dkwX5_peakBy_7 : List UInt8 := [54, 8, 21, 8, 21, 4, 162, 0, 30, 21, 7, 42, 180, 0, 52, 21, 8, 46, 96, 54, 7, 21, 6]
abbrev dktX5_peakBy_7 : List UInt8 := dkwX5_peakBy_7 ++ dktX5_peakBy_8
def dkwX5_peakBy_6 : List UInt8 := [21, 6, 6, 27, 96, 182, 0, 228, 100, 79, 132, 6, 1, 167, 255, 146, 3, 54, 6, 3, 54, 7, 3]
abbrev dktX5_peakBy_6 : List UInt8 := dkwX5_peakBy_6 ++ dktX5_peakBy_7
def dkwX5_peakBy_5 : List UInt8 := [21, 6, 6, 27, 96, 182, 0, 228, 96, 79, 42, 180, 0, 52, 21, 8, 28, 100, 16, 15, 108, 92, 46, 42]
abbrev dktX5_peakBy_5 : List UInt8 := dkwX5_peakBy_5 ++ dktX5_peakBy_6
def dkwX5_peakBy_4 : List UInt8 := [42, 21, 6, 182, 0, 239, 153, 0, 51, 42, 180, 0, 52, 21, 7, 28, 100, 16, 15, 108, 92, 46, 42]
abbrev dktX5_peakBy_4 : List UInt8 := dkwX5_peakBy_4 ++ dktX5_peakBy_5
def dkwX5_peakBy_3 : List UInt8 := [54, 7, 29, 42, 21, 6, 182, 0, 242, 21, 5, 96, 184, 1, 4, 54, 8, 21, 7, 21, 8, 162, 0, 60]
abbrev dktX5_peakBy_3 : List UInt8 := dkwX5_peakBy_3 ++ dktX5_peakBy_4
def dkwX5_peakBy_2 : List UInt8 := [42, 180, 0, 36, 4, 46, 162, 0, 105, 28, 42, 21, 6, 16, 10, 182, 0, 228, 21, 5, 100, 184, 0, 255]
abbrev dktX5_peakBy_2 : List UInt8 := dkwX5_peakBy_2 ++ dktX5_peakBy_3
def dkwX5_peakBy_1 : List UInt8 := [21, 4, 163, 0, 17, 42, 180, 0, 52, 21, 6, 3, 79, 132, 6, 1, 167, 255, 238, 3, 54, 6, 21, 6]
abbrev dktX5_peakBy_1 : List UInt8 := dkwX5_peakBy_1 ++ dktX5_peakBy_2
def dkwX5_peakBy_0 : List UInt8 := [29, 28, 100, 16, 15, 108, 54, 4, 42, 180, 0, 13, 16, 44, 27, 96, 46, 54, 5, 3, 54, 6, 21, 6]
abbrev dktX5_peakBy_0 : List UInt8 := dkwX5_peakBy_0 ++ dktX5_peakBy_1
theorem dksX5_peakBy_0 : cX5_peakBy.data.toList.drop 0 = dktX5_peakBy_0 := by decide +kernel
theorem dksX5_peakBy_1 : cX5_peakBy.data.toList.drop 24 = dktX5_peakBy_1 := dk_seg dksX5_peakBy_0 24 rfl rfl
theorem dksX5_peakBy_2 : cX5_peakBy.data.toList.drop 48 = dktX5_peakBy_2 := dk_seg dksX5_peakBy_1 24 rfl rfl
theorem dksX5_peakBy_3 : cX5_peakBy.data.toList.drop 72 = dktX5_peakBy_3 := dk_seg dksX5_peakBy_2 24 rfl rfl
theorem dksX5_peakBy_4 : cX5_peakBy.data.toList.drop 96 = dktX5_peakBy_4 := dk_seg dksX5_peakBy_3 24 rfl rfl
theorem dksX5_peakBy_5 : cX5_peakBy.data.toList.drop 119 = dktX5_peakBy_5 := dk_seg dksX5_peakBy_4 23 rfl rfl
theorem dksX5_peakBy_6 : cX5_peakBy.data.toList.drop 143 = dktX5_peakBy_6 := dk_seg dksX5_peakBy_5 24 rfl rfl
theorem dksX5_peakBy_7 : cX5_peakBy.data.toList.drop 166 = dktX5_peakBy_7 := dk_seg dksX5_peakBy_6 23 rfl rfl
theorem dksX5_peakBy_8 : cX5_peakBy.data.toList.drop 189 = dktX5_peakBy_8 := dk_seg dksX5_peakBy_7 23 rfl rfl
theorem dX5_peakBy_0 : decode cX5_peakBy 0 = .ok (.iload_n 3, 1) := dk_29 (dk_at dksX5_peakBy_0 0 rfl rfl)
theorem dX5_peakBy_1 : decode cX5_peakBy 1 = .ok (.iload_n 2, 1) := dk_28 (dk_at dksX5_peakBy_0 1 rfl rfl)
theorem dX5_peakBy_2 : decode cX5_peakBy 2 = .ok (.isub, 1) := dk_100 (dk_at dksX5_peakBy_0 2 rfl rfl)
theorem dX5_peakBy_3 : decode cX5_peakBy 3 = .ok (.bipush 15, 2) := dk_16 15 (dk_at dksX5_peakBy_0 3 rfl rfl)
theorem dX5_peakBy_5 : decode cX5_peakBy 5 = .ok (.idiv, 1) := dk_108 (dk_at dksX5_peakBy_0 5 rfl rfl)
theorem dX5_peakBy_6 : decode cX5_peakBy 6 = .ok (.istore 4, 2) := dk_54 4 (dk_at dksX5_peakBy_0 6 rfl rfl)
theorem dX5_peakBy_8 : decode cX5_peakBy 8 = .ok (.aload_n 0, 1) := dk_42 (dk_at dksX5_peakBy_0 8 rfl rfl)
theorem dX5_peakBy_9 : decode cX5_peakBy 9 = .ok (.getfield 13, 3) := dk_180 0 13 (dk_at dksX5_peakBy_0 9 rfl rfl)
theorem dX5_peakBy_12 : decode cX5_peakBy 12 = .ok (.bipush 44, 2) := dk_16 44 (dk_at dksX5_peakBy_0 12 rfl rfl)
theorem dX5_peakBy_14 : decode cX5_peakBy 14 = .ok (.iload_n 1, 1) := dk_27 (dk_at dksX5_peakBy_0 14 rfl rfl)
theorem dX5_peakBy_15 : decode cX5_peakBy 15 = .ok (.iadd, 1) := dk_96 (dk_at dksX5_peakBy_0 15 rfl rfl)
theorem dX5_peakBy_16 : decode cX5_peakBy 16 = .ok (.iaload, 1) := dk_46 (dk_at dksX5_peakBy_0 16 rfl rfl)
theorem dX5_peakBy_17 : decode cX5_peakBy 17 = .ok (.istore 5, 2) := dk_54 5 (dk_at dksX5_peakBy_0 17 rfl rfl)
theorem dX5_peakBy_19 : decode cX5_peakBy 19 = .ok (.iconst 0, 1) := dk_3 (dk_at dksX5_peakBy_0 19 rfl rfl)
theorem dX5_peakBy_20 : decode cX5_peakBy 20 = .ok (.istore 6, 2) := dk_54 6 (dk_at dksX5_peakBy_0 20 rfl rfl)
theorem dX5_peakBy_22 : decode cX5_peakBy 22 = .ok (.iload 6, 2) := dk_21 6 (dk_at dksX5_peakBy_0 22 rfl rfl)
theorem dX5_peakBy_24 : decode cX5_peakBy 24 = .ok (.iload 4, 2) := dk_21 4 (dk_at dksX5_peakBy_1 0 rfl rfl)
theorem dX5_peakBy_26 : decode cX5_peakBy 26 = .ok (.if_icmp .gt 17, 3) := dk_163 0 17 (dk_at dksX5_peakBy_1 2 rfl rfl)
theorem dX5_peakBy_29 : decode cX5_peakBy 29 = .ok (.aload_n 0, 1) := dk_42 (dk_at dksX5_peakBy_1 5 rfl rfl)
theorem dX5_peakBy_30 : decode cX5_peakBy 30 = .ok (.getfield 52, 3) := dk_180 0 52 (dk_at dksX5_peakBy_1 6 rfl rfl)
theorem dX5_peakBy_33 : decode cX5_peakBy 33 = .ok (.iload 6, 2) := dk_21 6 (dk_at dksX5_peakBy_1 9 rfl rfl)
theorem dX5_peakBy_35 : decode cX5_peakBy 35 = .ok (.iconst 0, 1) := dk_3 (dk_at dksX5_peakBy_1 11 rfl rfl)
theorem dX5_peakBy_36 : decode cX5_peakBy 36 = .ok (.iastore, 1) := dk_79 (dk_at dksX5_peakBy_1 12 rfl rfl)
theorem dX5_peakBy_37 : decode cX5_peakBy 37 = .ok (.iinc 6 1, 3) := dk_132 6 1 (dk_at dksX5_peakBy_1 13 rfl rfl)
theorem dX5_peakBy_40 : decode cX5_peakBy 40 = .ok (.goto (-18), 3) := dk_167 255 238 (dk_at dksX5_peakBy_1 16 rfl rfl)
theorem dX5_peakBy_43 : decode cX5_peakBy 43 = .ok (.iconst 0, 1) := dk_3 (dk_at dksX5_peakBy_1 19 rfl rfl)
theorem dX5_peakBy_44 : decode cX5_peakBy 44 = .ok (.istore 6, 2) := dk_54 6 (dk_at dksX5_peakBy_1 20 rfl rfl)
theorem dX5_peakBy_46 : decode cX5_peakBy 46 = .ok (.iload 6, 2) := dk_21 6 (dk_at dksX5_peakBy_1 22 rfl rfl)
theorem dX5_peakBy_48 : decode cX5_peakBy 48 = .ok (.aload_n 0, 1) := dk_42 (dk_at dksX5_peakBy_2 0 rfl rfl)
theorem dX5_peakBy_49 : decode cX5_peakBy 49 = .ok (.getfield 36, 3) := dk_180 0 36 (dk_at dksX5_peakBy_2 1 rfl rfl)
theorem dX5_peakBy_52 : decode cX5_peakBy 52 = .ok (.iconst 1, 1) := dk_4 (dk_at dksX5_peakBy_2 4 rfl rfl)
theorem dX5_peakBy_53 : decode cX5_peakBy 53 = .ok (.iaload, 1) := dk_46 (dk_at dksX5_peakBy_2 5 rfl rfl)
theorem dX5_peakBy_54 : decode cX5_peakBy 54 = .ok (.if_icmp .ge 105, 3) := dk_162 0 105 (dk_at dksX5_peakBy_2 6 rfl rfl)
theorem dX5_peakBy_57 : decode cX5_peakBy 57 = .ok (.iload_n 2, 1) := dk_28 (dk_at dksX5_peakBy_2 9 rfl rfl)
theorem dX5_peakBy_58 : decode cX5_peakBy 58 = .ok (.aload_n 0, 1) := dk_42 (dk_at dksX5_peakBy_2 10 rfl rfl)
theorem dX5_peakBy_59 : decode cX5_peakBy 59 = .ok (.iload 6, 2) := dk_21 6 (dk_at dksX5_peakBy_2 11 rfl rfl)
theorem dX5_peakBy_61 : decode cX5_peakBy 61 = .ok (.bipush 10, 2) := dk_16 10 (dk_at dksX5_peakBy_2 13 rfl rfl)
theorem dX5_peakBy_63 : decode cX5_peakBy 63 = .ok (.invokevirtual 228, 3) := dk_182 0 228 (dk_at dksX5_peakBy_2 15 rfl rfl)
theorem dX5_peakBy_66 : decode cX5_peakBy 66 = .ok (.iload 5, 2) := dk_21 5 (dk_at dksX5_peakBy_2 18 rfl rfl)
theorem dX5_peakBy_68 : decode cX5_peakBy 68 = .ok (.isub, 1) := dk_100 (dk_at dksX5_peakBy_2 20 rfl rfl)
theorem dX5_peakBy_69 : decode cX5_peakBy 69 = .ok (.invokestatic 255, 3) := dk_184 0 255 (dk_at dksX5_peakBy_2 21 rfl rfl)
theorem dX5_peakBy_72 : decode cX5_peakBy 72 = .ok (.istore 7, 2) := dk_54 7 (dk_at dksX5_peakBy_3 0 rfl rfl)
theorem dX5_peakBy_74 : decode cX5_peakBy 74 = .ok (.iload_n 3, 1) := dk_29 (dk_at dksX5_peakBy_3 2 rfl rfl)
theorem dX5_peakBy_75 : decode cX5_peakBy 75 = .ok (.aload_n 0, 1) := dk_42 (dk_at dksX5_peakBy_3 3 rfl rfl)
theorem dX5_peakBy_76 : decode cX5_peakBy 76 = .ok (.iload 6, 2) := dk_21 6 (dk_at dksX5_peakBy_3 4 rfl rfl)
theorem dX5_peakBy_78 : decode cX5_peakBy 78 = .ok (.invokevirtual 242, 3) := dk_182 0 242 (dk_at dksX5_peakBy_3 6 rfl rfl)
theorem dX5_peakBy_81 : decode cX5_peakBy 81 = .ok (.iload 5, 2) := dk_21 5 (dk_at dksX5_peakBy_3 9 rfl rfl)
theorem dX5_peakBy_83 : decode cX5_peakBy 83 = .ok (.iadd, 1) := dk_96 (dk_at dksX5_peakBy_3 11 rfl rfl)
theorem dX5_peakBy_84 : decode cX5_peakBy 84 = .ok (.invokestatic 260, 3) := dk_184 1 4 (dk_at dksX5_peakBy_3 12 rfl rfl)
theorem dX5_peakBy_87 : decode cX5_peakBy 87 = .ok (.istore 8, 2) := dk_54 8 (dk_at dksX5_peakBy_3 15 rfl rfl)
theorem dX5_peakBy_89 : decode cX5_peakBy 89 = .ok (.iload 7, 2) := dk_21 7 (dk_at dksX5_peakBy_3 17 rfl rfl)
theorem dX5_peakBy_91 : decode cX5_peakBy 91 = .ok (.iload 8, 2) := dk_21 8 (dk_at dksX5_peakBy_3 19 rfl rfl)
theorem dX5_peakBy_93 : decode cX5_peakBy 93 = .ok (.if_icmp .ge 60, 3) := dk_162 0 60 (dk_at dksX5_peakBy_3 21 rfl rfl)
theorem dX5_peakBy_96 : decode cX5_peakBy 96 = .ok (.aload_n 0, 1) := dk_42 (dk_at dksX5_peakBy_4 0 rfl rfl)
theorem dX5_peakBy_97 : decode cX5_peakBy 97 = .ok (.iload 6, 2) := dk_21 6 (dk_at dksX5_peakBy_4 1 rfl rfl)
theorem dX5_peakBy_99 : decode cX5_peakBy 99 = .ok (.invokevirtual 239, 3) := dk_182 0 239 (dk_at dksX5_peakBy_4 3 rfl rfl)
theorem dX5_peakBy_102 : decode cX5_peakBy 102 = .ok (.ifCond .eq 51, 3) := dk_153 0 51 (dk_at dksX5_peakBy_4 6 rfl rfl)
theorem dX5_peakBy_105 : decode cX5_peakBy 105 = .ok (.aload_n 0, 1) := dk_42 (dk_at dksX5_peakBy_4 9 rfl rfl)
theorem dX5_peakBy_106 : decode cX5_peakBy 106 = .ok (.getfield 52, 3) := dk_180 0 52 (dk_at dksX5_peakBy_4 10 rfl rfl)
theorem dX5_peakBy_109 : decode cX5_peakBy 109 = .ok (.iload 7, 2) := dk_21 7 (dk_at dksX5_peakBy_4 13 rfl rfl)
theorem dX5_peakBy_111 : decode cX5_peakBy 111 = .ok (.iload_n 2, 1) := dk_28 (dk_at dksX5_peakBy_4 15 rfl rfl)
theorem dX5_peakBy_112 : decode cX5_peakBy 112 = .ok (.isub, 1) := dk_100 (dk_at dksX5_peakBy_4 16 rfl rfl)
theorem dX5_peakBy_113 : decode cX5_peakBy 113 = .ok (.bipush 15, 2) := dk_16 15 (dk_at dksX5_peakBy_4 17 rfl rfl)
theorem dX5_peakBy_115 : decode cX5_peakBy 115 = .ok (.idiv, 1) := dk_108 (dk_at dksX5_peakBy_4 19 rfl rfl)
theorem dX5_peakBy_116 : decode cX5_peakBy 116 = .ok (.dup2, 1) := dk_92 (dk_at dksX5_peakBy_4 20 rfl rfl)
theorem dX5_peakBy_117 : decode cX5_peakBy 117 = .ok (.iaload, 1) := dk_46 (dk_at dksX5_peakBy_4 21 rfl rfl)
theorem dX5_peakBy_118 : decode cX5_peakBy 118 = .ok (.aload_n 0, 1) := dk_42 (dk_at dksX5_peakBy_4 22 rfl rfl)
theorem dX5_peakBy_119 : decode cX5_peakBy 119 = .ok (.iload 6, 2) := dk_21 6 (dk_at dksX5_peakBy_5 0 rfl rfl)
theorem dX5_peakBy_121 : decode cX5_peakBy 121 = .ok (.iconst 3, 1) := dk_6 (dk_at dksX5_peakBy_5 2 rfl rfl)
theorem dX5_peakBy_122 : decode cX5_peakBy 122 = .ok (.iload_n 1, 1) := dk_27 (dk_at dksX5_peakBy_5 3 rfl rfl)
theorem dX5_peakBy_123 : decode cX5_peakBy 123 = .ok (.iadd, 1) := dk_96 (dk_at dksX5_peakBy_5 4 rfl rfl)
theorem dX5_peakBy_124 : decode cX5_peakBy 124 = .ok (.invokevirtual 228, 3) := dk_182 0 228 (dk_at dksX5_peakBy_5 5 rfl rfl)
theorem dX5_peakBy_127 : decode cX5_peakBy 127 = .ok (.iadd, 1) := dk_96 (dk_at dksX5_peakBy_5 8 rfl rfl)
theorem dX5_peakBy_128 : decode cX5_peakBy 128 = .ok (.iastore, 1) := dk_79 (dk_at dksX5_peakBy_5 9 rfl rfl)
theorem dX5_peakBy_129 : decode cX5_peakBy 129 = .ok (.aload_n 0, 1) := dk_42 (dk_at dksX5_peakBy_5 10 rfl rfl)
theorem dX5_peakBy_130 : decode cX5_peakBy 130 = .ok (.getfield 52, 3) := dk_180 0 52 (dk_at dksX5_peakBy_5 11 rfl rfl)
theorem dX5_peakBy_133 : decode cX5_peakBy 133 = .ok (.iload 8, 2) := dk_21 8 (dk_at dksX5_peakBy_5 14 rfl rfl)
theorem dX5_peakBy_135 : decode cX5_peakBy 135 = .ok (.iload_n 2, 1) := dk_28 (dk_at dksX5_peakBy_5 16 rfl rfl)
theorem dX5_peakBy_136 : decode cX5_peakBy 136 = .ok (.isub, 1) := dk_100 (dk_at dksX5_peakBy_5 17 rfl rfl)
theorem dX5_peakBy_137 : decode cX5_peakBy 137 = .ok (.bipush 15, 2) := dk_16 15 (dk_at dksX5_peakBy_5 18 rfl rfl)
theorem dX5_peakBy_139 : decode cX5_peakBy 139 = .ok (.idiv, 1) := dk_108 (dk_at dksX5_peakBy_5 20 rfl rfl)
theorem dX5_peakBy_140 : decode cX5_peakBy 140 = .ok (.dup2, 1) := dk_92 (dk_at dksX5_peakBy_5 21 rfl rfl)
theorem dX5_peakBy_141 : decode cX5_peakBy 141 = .ok (.iaload, 1) := dk_46 (dk_at dksX5_peakBy_5 22 rfl rfl)
theorem dX5_peakBy_142 : decode cX5_peakBy 142 = .ok (.aload_n 0, 1) := dk_42 (dk_at dksX5_peakBy_5 23 rfl rfl)
theorem dX5_peakBy_143 : decode cX5_peakBy 143 = .ok (.iload 6, 2) := dk_21 6 (dk_at dksX5_peakBy_6 0 rfl rfl)
theorem dX5_peakBy_145 : decode cX5_peakBy 145 = .ok (.iconst 3, 1) := dk_6 (dk_at dksX5_peakBy_6 2 rfl rfl)
theorem dX5_peakBy_146 : decode cX5_peakBy 146 = .ok (.iload_n 1, 1) := dk_27 (dk_at dksX5_peakBy_6 3 rfl rfl)
theorem dX5_peakBy_147 : decode cX5_peakBy 147 = .ok (.iadd, 1) := dk_96 (dk_at dksX5_peakBy_6 4 rfl rfl)
theorem dX5_peakBy_148 : decode cX5_peakBy 148 = .ok (.invokevirtual 228, 3) := dk_182 0 228 (dk_at dksX5_peakBy_6 5 rfl rfl)
theorem dX5_peakBy_151 : decode cX5_peakBy 151 = .ok (.isub, 1) := dk_100 (dk_at dksX5_peakBy_6 8 rfl rfl)
theorem dX5_peakBy_152 : decode cX5_peakBy 152 = .ok (.iastore, 1) := dk_79 (dk_at dksX5_peakBy_6 9 rfl rfl)
theorem dX5_peakBy_153 : decode cX5_peakBy 153 = .ok (.iinc 6 1, 3) := dk_132 6 1 (dk_at dksX5_peakBy_6 10 rfl rfl)
theorem dX5_peakBy_156 : decode cX5_peakBy 156 = .ok (.goto (-110), 3) := dk_167 255 146 (dk_at dksX5_peakBy_6 13 rfl rfl)
theorem dX5_peakBy_159 : decode cX5_peakBy 159 = .ok (.iconst 0, 1) := dk_3 (dk_at dksX5_peakBy_6 16 rfl rfl)
theorem dX5_peakBy_160 : decode cX5_peakBy 160 = .ok (.istore 6, 2) := dk_54 6 (dk_at dksX5_peakBy_6 17 rfl rfl)
theorem dX5_peakBy_162 : decode cX5_peakBy 162 = .ok (.iconst 0, 1) := dk_3 (dk_at dksX5_peakBy_6 19 rfl rfl)
theorem dX5_peakBy_163 : decode cX5_peakBy 163 = .ok (.istore 7, 2) := dk_54 7 (dk_at dksX5_peakBy_6 20 rfl rfl)
theorem dX5_peakBy_165 : decode cX5_peakBy 165 = .ok (.iconst 0, 1) := dk_3 (dk_at dksX5_peakBy_6 22 rfl rfl)
theorem dX5_peakBy_166 : decode cX5_peakBy 166 = .ok (.istore 8, 2) := dk_54 8 (dk_at dksX5_peakBy_7 0 rfl rfl)
theorem dX5_peakBy_168 : decode cX5_peakBy 168 = .ok (.iload 8, 2) := dk_21 8 (dk_at dksX5_peakBy_7 2 rfl rfl)
theorem dX5_peakBy_170 : decode cX5_peakBy 170 = .ok (.iload 4, 2) := dk_21 4 (dk_at dksX5_peakBy_7 4 rfl rfl)
theorem dX5_peakBy_172 : decode cX5_peakBy 172 = .ok (.if_icmp .ge 30, 3) := dk_162 0 30 (dk_at dksX5_peakBy_7 6 rfl rfl)
theorem dX5_peakBy_175 : decode cX5_peakBy 175 = .ok (.iload 7, 2) := dk_21 7 (dk_at dksX5_peakBy_7 9 rfl rfl)
theorem dX5_peakBy_177 : decode cX5_peakBy 177 = .ok (.aload_n 0, 1) := dk_42 (dk_at dksX5_peakBy_7 11 rfl rfl)
theorem dX5_peakBy_178 : decode cX5_peakBy 178 = .ok (.getfield 52, 3) := dk_180 0 52 (dk_at dksX5_peakBy_7 12 rfl rfl)
theorem dX5_peakBy_181 : decode cX5_peakBy 181 = .ok (.iload 8, 2) := dk_21 8 (dk_at dksX5_peakBy_7 15 rfl rfl)
theorem dX5_peakBy_183 : decode cX5_peakBy 183 = .ok (.iaload, 1) := dk_46 (dk_at dksX5_peakBy_7 17 rfl rfl)
theorem dX5_peakBy_184 : decode cX5_peakBy 184 = .ok (.iadd, 1) := dk_96 (dk_at dksX5_peakBy_7 18 rfl rfl)
theorem dX5_peakBy_185 : decode cX5_peakBy 185 = .ok (.istore 7, 2) := dk_54 7 (dk_at dksX5_peakBy_7 19 rfl rfl)
theorem dX5_peakBy_187 : decode cX5_peakBy 187 = .ok (.iload 6, 2) := dk_21 6 (dk_at dksX5_peakBy_7 21 rfl rfl)
theorem dX5_peakBy_189 : decode cX5_peakBy 189 = .ok (.iload 7, 2) := dk_21 7 (dk_at dksX5_peakBy_8 0 rfl rfl)
theorem dX5_peakBy_191 : decode cX5_peakBy 191 = .ok (.invokestatic 255, 3) := dk_184 0 255 (dk_at dksX5_peakBy_8 2 rfl rfl)
theorem dX5_peakBy_194 : decode cX5_peakBy 194 = .ok (.istore 6, 2) := dk_54 6 (dk_at dksX5_peakBy_8 5 rfl rfl)
theorem dX5_peakBy_196 : decode cX5_peakBy 196 = .ok (.iinc 8 1, 3) := dk_132 8 1 (dk_at dksX5_peakBy_8 7 rfl rfl)
theorem dX5_peakBy_199 : decode cX5_peakBy 199 = .ok (.goto (-31), 3) := dk_167 255 225 (dk_at dksX5_peakBy_8 10 rfl rfl)
theorem dX5_peakBy_202 : decode cX5_peakBy 202 = .ok (.iload 6, 2) := dk_21 6 (dk_at dksX5_peakBy_8 13 rfl rfl)
theorem dX5_peakBy_204 : decode cX5_peakBy 204 = .ok (.ireturn, 1) := dk_172 (dk_at dksX5_peakBy_8 15 rfl rfl)
abbrev cX5_remembers : ByteArray := prog_17_method_6_code
def yX5_remembers : MethodName := ⟨RX5, "remembers", "()V"⟩
def dkwX5_remembers_4 : List UInt8 := [181, 0, 73, 177]
abbrev dktX5_remembers_4 : List UInt8 := dkwX5_remembers_4 ++ []
def dkwX5_remembers_3 : List UInt8 := [27, 96, 42, 180, 0, 36, 27, 46, 79, 132, 1, 1, 167, 255, 225, 42, 89, 180, 0, 73, 4, 96]
abbrev dktX5_remembers_3 : List UInt8 := dkwX5_remembers_3 ++ dktX5_remembers_4
def dkwX5_remembers_2 : List UInt8 := [181, 0, 73, 3, 60, 27, 17, 4, 28, 162, 0, 30, 42, 180, 0, 42, 17, 4, 28, 42, 180, 0, 73, 104]
abbrev dktX5_remembers_2 : List UInt8 := dkwX5_remembers_2 ++ dktX5_remembers_3
def dkwX5_remembers_1 : List UInt8 := [180, 0, 42, 27, 17, 4, 28, 96, 46, 79, 132, 1, 1, 167, 255, 230, 42, 89, 180, 0, 73, 4, 100]
abbrev dktX5_remembers_1 : List UInt8 := dkwX5_remembers_1 ++ dktX5_remembers_2
def dkwX5_remembers_0 : List UInt8 := [42, 180, 0, 73, 16, 8, 160, 0, 44, 3, 60, 27, 17, 28, 196, 162, 0, 25, 42, 180, 0, 42, 27, 42]
abbrev dktX5_remembers_0 : List UInt8 := dkwX5_remembers_0 ++ dktX5_remembers_1
theorem dksX5_remembers_0 : cX5_remembers.data.toList.drop 0 = dktX5_remembers_0 := by decide +kernel
theorem dksX5_remembers_1 : cX5_remembers.data.toList.drop 24 = dktX5_remembers_1 := dk_seg dksX5_remembers_0 24 rfl rfl
theorem dksX5_remembers_2 : cX5_remembers.data.toList.drop 47 = dktX5_remembers_2 := dk_seg dksX5_remembers_1 23 rfl rfl
theorem dksX5_remembers_3 : cX5_remembers.data.toList.drop 71 = dktX5_remembers_3 := dk_seg dksX5_remembers_2 24 rfl rfl
theorem dksX5_remembers_4 : cX5_remembers.data.toList.drop 93 = dktX5_remembers_4 := dk_seg dksX5_remembers_3 22 rfl rfl
theorem dX5_remembers_0 : decode cX5_remembers 0 = .ok (.aload_n 0, 1) := dk_42 (dk_at dksX5_remembers_0 0 rfl rfl)
theorem dX5_remembers_1 : decode cX5_remembers 1 = .ok (.getfield 73, 3) := dk_180 0 73 (dk_at dksX5_remembers_0 1 rfl rfl)
theorem dX5_remembers_4 : decode cX5_remembers 4 = .ok (.bipush 8, 2) := dk_16 8 (dk_at dksX5_remembers_0 4 rfl rfl)
theorem dX5_remembers_6 : decode cX5_remembers 6 = .ok (.if_icmp .ne 44, 3) := dk_160 0 44 (dk_at dksX5_remembers_0 6 rfl rfl)
theorem dX5_remembers_9 : decode cX5_remembers 9 = .ok (.iconst 0, 1) := dk_3 (dk_at dksX5_remembers_0 9 rfl rfl)
theorem dX5_remembers_10 : decode cX5_remembers 10 = .ok (.istore_n 1, 1) := dk_60 (dk_at dksX5_remembers_0 10 rfl rfl)
theorem dX5_remembers_11 : decode cX5_remembers 11 = .ok (.iload_n 1, 1) := dk_27 (dk_at dksX5_remembers_0 11 rfl rfl)
theorem dX5_remembers_12 : decode cX5_remembers 12 = .ok (.sipush 7364, 3) := dk_17 28 196 (dk_at dksX5_remembers_0 12 rfl rfl)
theorem dX5_remembers_15 : decode cX5_remembers 15 = .ok (.if_icmp .ge 25, 3) := dk_162 0 25 (dk_at dksX5_remembers_0 15 rfl rfl)
theorem dX5_remembers_18 : decode cX5_remembers 18 = .ok (.aload_n 0, 1) := dk_42 (dk_at dksX5_remembers_0 18 rfl rfl)
theorem dX5_remembers_19 : decode cX5_remembers 19 = .ok (.getfield 42, 3) := dk_180 0 42 (dk_at dksX5_remembers_0 19 rfl rfl)
theorem dX5_remembers_22 : decode cX5_remembers 22 = .ok (.iload_n 1, 1) := dk_27 (dk_at dksX5_remembers_0 22 rfl rfl)
theorem dX5_remembers_23 : decode cX5_remembers 23 = .ok (.aload_n 0, 1) := dk_42 (dk_at dksX5_remembers_0 23 rfl rfl)
theorem dX5_remembers_24 : decode cX5_remembers 24 = .ok (.getfield 42, 3) := dk_180 0 42 (dk_at dksX5_remembers_1 0 rfl rfl)
theorem dX5_remembers_27 : decode cX5_remembers 27 = .ok (.iload_n 1, 1) := dk_27 (dk_at dksX5_remembers_1 3 rfl rfl)
theorem dX5_remembers_28 : decode cX5_remembers 28 = .ok (.sipush 1052, 3) := dk_17 4 28 (dk_at dksX5_remembers_1 4 rfl rfl)
theorem dX5_remembers_31 : decode cX5_remembers 31 = .ok (.iadd, 1) := dk_96 (dk_at dksX5_remembers_1 7 rfl rfl)
theorem dX5_remembers_32 : decode cX5_remembers 32 = .ok (.iaload, 1) := dk_46 (dk_at dksX5_remembers_1 8 rfl rfl)
theorem dX5_remembers_33 : decode cX5_remembers 33 = .ok (.iastore, 1) := dk_79 (dk_at dksX5_remembers_1 9 rfl rfl)
theorem dX5_remembers_34 : decode cX5_remembers 34 = .ok (.iinc 1 1, 3) := dk_132 1 1 (dk_at dksX5_remembers_1 10 rfl rfl)
theorem dX5_remembers_37 : decode cX5_remembers 37 = .ok (.goto (-26), 3) := dk_167 255 230 (dk_at dksX5_remembers_1 13 rfl rfl)
theorem dX5_remembers_40 : decode cX5_remembers 40 = .ok (.aload_n 0, 1) := dk_42 (dk_at dksX5_remembers_1 16 rfl rfl)
theorem dX5_remembers_41 : decode cX5_remembers 41 = .ok (.dup, 1) := dk_89 (dk_at dksX5_remembers_1 17 rfl rfl)
theorem dX5_remembers_42 : decode cX5_remembers 42 = .ok (.getfield 73, 3) := dk_180 0 73 (dk_at dksX5_remembers_1 18 rfl rfl)
theorem dX5_remembers_45 : decode cX5_remembers 45 = .ok (.iconst 1, 1) := dk_4 (dk_at dksX5_remembers_1 21 rfl rfl)
theorem dX5_remembers_46 : decode cX5_remembers 46 = .ok (.isub, 1) := dk_100 (dk_at dksX5_remembers_1 22 rfl rfl)
theorem dX5_remembers_47 : decode cX5_remembers 47 = .ok (.putfield 73, 3) := dk_181 0 73 (dk_at dksX5_remembers_2 0 rfl rfl)
theorem dX5_remembers_50 : decode cX5_remembers 50 = .ok (.iconst 0, 1) := dk_3 (dk_at dksX5_remembers_2 3 rfl rfl)
theorem dX5_remembers_51 : decode cX5_remembers 51 = .ok (.istore_n 1, 1) := dk_60 (dk_at dksX5_remembers_2 4 rfl rfl)
theorem dX5_remembers_52 : decode cX5_remembers 52 = .ok (.iload_n 1, 1) := dk_27 (dk_at dksX5_remembers_2 5 rfl rfl)
theorem dX5_remembers_53 : decode cX5_remembers 53 = .ok (.sipush 1052, 3) := dk_17 4 28 (dk_at dksX5_remembers_2 6 rfl rfl)
theorem dX5_remembers_56 : decode cX5_remembers 56 = .ok (.if_icmp .ge 30, 3) := dk_162 0 30 (dk_at dksX5_remembers_2 9 rfl rfl)
theorem dX5_remembers_59 : decode cX5_remembers 59 = .ok (.aload_n 0, 1) := dk_42 (dk_at dksX5_remembers_2 12 rfl rfl)
theorem dX5_remembers_60 : decode cX5_remembers 60 = .ok (.getfield 42, 3) := dk_180 0 42 (dk_at dksX5_remembers_2 13 rfl rfl)
theorem dX5_remembers_63 : decode cX5_remembers 63 = .ok (.sipush 1052, 3) := dk_17 4 28 (dk_at dksX5_remembers_2 16 rfl rfl)
theorem dX5_remembers_66 : decode cX5_remembers 66 = .ok (.aload_n 0, 1) := dk_42 (dk_at dksX5_remembers_2 19 rfl rfl)
theorem dX5_remembers_67 : decode cX5_remembers 67 = .ok (.getfield 73, 3) := dk_180 0 73 (dk_at dksX5_remembers_2 20 rfl rfl)
theorem dX5_remembers_70 : decode cX5_remembers 70 = .ok (.imul, 1) := dk_104 (dk_at dksX5_remembers_2 23 rfl rfl)
theorem dX5_remembers_71 : decode cX5_remembers 71 = .ok (.iload_n 1, 1) := dk_27 (dk_at dksX5_remembers_3 0 rfl rfl)
theorem dX5_remembers_72 : decode cX5_remembers 72 = .ok (.iadd, 1) := dk_96 (dk_at dksX5_remembers_3 1 rfl rfl)
theorem dX5_remembers_73 : decode cX5_remembers 73 = .ok (.aload_n 0, 1) := dk_42 (dk_at dksX5_remembers_3 2 rfl rfl)
theorem dX5_remembers_74 : decode cX5_remembers 74 = .ok (.getfield 36, 3) := dk_180 0 36 (dk_at dksX5_remembers_3 3 rfl rfl)
theorem dX5_remembers_77 : decode cX5_remembers 77 = .ok (.iload_n 1, 1) := dk_27 (dk_at dksX5_remembers_3 6 rfl rfl)
theorem dX5_remembers_78 : decode cX5_remembers 78 = .ok (.iaload, 1) := dk_46 (dk_at dksX5_remembers_3 7 rfl rfl)
theorem dX5_remembers_79 : decode cX5_remembers 79 = .ok (.iastore, 1) := dk_79 (dk_at dksX5_remembers_3 8 rfl rfl)
theorem dX5_remembers_80 : decode cX5_remembers 80 = .ok (.iinc 1 1, 3) := dk_132 1 1 (dk_at dksX5_remembers_3 9 rfl rfl)
theorem dX5_remembers_83 : decode cX5_remembers 83 = .ok (.goto (-31), 3) := dk_167 255 225 (dk_at dksX5_remembers_3 12 rfl rfl)
theorem dX5_remembers_86 : decode cX5_remembers 86 = .ok (.aload_n 0, 1) := dk_42 (dk_at dksX5_remembers_3 15 rfl rfl)
theorem dX5_remembers_87 : decode cX5_remembers 87 = .ok (.dup, 1) := dk_89 (dk_at dksX5_remembers_3 16 rfl rfl)
theorem dX5_remembers_88 : decode cX5_remembers 88 = .ok (.getfield 73, 3) := dk_180 0 73 (dk_at dksX5_remembers_3 17 rfl rfl)
theorem dX5_remembers_91 : decode cX5_remembers 91 = .ok (.iconst 1, 1) := dk_4 (dk_at dksX5_remembers_3 20 rfl rfl)
theorem dX5_remembers_92 : decode cX5_remembers 92 = .ok (.iadd, 1) := dk_96 (dk_at dksX5_remembers_3 21 rfl rfl)
theorem dX5_remembers_93 : decode cX5_remembers 93 = .ok (.putfield 73, 3) := dk_181 0 73 (dk_at dksX5_remembers_4 0 rfl rfl)
theorem dX5_remembers_96 : decode cX5_remembers 96 = .ok (.return_, 1) := dk_177 (dk_at dksX5_remembers_4 3 rfl rfl)
abbrev cX5_books : ByteArray := prog_17_method_67_code
def yX5_books : MethodName := ⟨RX5, "books", "([IIII)I"⟩
def dkwX5_books_3 : List UInt8 := [21, 5, 184, 0, 225, 16, 12, 96, 3, 79, 42, 180, 0, 36, 4, 92, 46, 4, 96, 79, 21, 5, 172]
abbrev dktX5_books_3 : List UInt8 := dkwX5_books_3 ++ []
def dkwX5_books_2 : List UInt8 := [21, 4, 182, 1, 48, 42, 180, 0, 36, 21, 5, 184, 0, 225, 16, 11, 96, 4, 79, 42, 180, 0, 36]
abbrev dktX5_books_2 : List UInt8 := dkwX5_books_2 ++ dktX5_books_3
def dkwX5_books_1 : List UInt8 := [184, 0, 225, 21, 6, 96, 43, 28, 21, 6, 96, 46, 79, 132, 6, 1, 167, 255, 227, 42, 21, 5, 29]
abbrev dktX5_books_1 : List UInt8 := dkwX5_books_1 ++ dktX5_books_2
def dkwX5_books_0 : List UInt8 := [42, 180, 0, 36, 4, 46, 54, 5, 3, 54, 6, 21, 6, 16, 9, 162, 0, 28, 42, 180, 0, 36, 21, 5]
abbrev dktX5_books_0 : List UInt8 := dkwX5_books_0 ++ dktX5_books_1
theorem dksX5_books_0 : cX5_books.data.toList.drop 0 = dktX5_books_0 := by decide +kernel
theorem dksX5_books_1 : cX5_books.data.toList.drop 24 = dktX5_books_1 := dk_seg dksX5_books_0 24 rfl rfl
theorem dksX5_books_2 : cX5_books.data.toList.drop 47 = dktX5_books_2 := dk_seg dksX5_books_1 23 rfl rfl
theorem dksX5_books_3 : cX5_books.data.toList.drop 70 = dktX5_books_3 := dk_seg dksX5_books_2 23 rfl rfl
theorem dX5_books_0 : decode cX5_books 0 = .ok (.aload_n 0, 1) := dk_42 (dk_at dksX5_books_0 0 rfl rfl)
theorem dX5_books_1 : decode cX5_books 1 = .ok (.getfield 36, 3) := dk_180 0 36 (dk_at dksX5_books_0 1 rfl rfl)
theorem dX5_books_4 : decode cX5_books 4 = .ok (.iconst 1, 1) := dk_4 (dk_at dksX5_books_0 4 rfl rfl)
theorem dX5_books_5 : decode cX5_books 5 = .ok (.iaload, 1) := dk_46 (dk_at dksX5_books_0 5 rfl rfl)
theorem dX5_books_6 : decode cX5_books 6 = .ok (.istore 5, 2) := dk_54 5 (dk_at dksX5_books_0 6 rfl rfl)
theorem dX5_books_8 : decode cX5_books 8 = .ok (.iconst 0, 1) := dk_3 (dk_at dksX5_books_0 8 rfl rfl)
theorem dX5_books_9 : decode cX5_books 9 = .ok (.istore 6, 2) := dk_54 6 (dk_at dksX5_books_0 9 rfl rfl)
theorem dX5_books_11 : decode cX5_books 11 = .ok (.iload 6, 2) := dk_21 6 (dk_at dksX5_books_0 11 rfl rfl)
theorem dX5_books_13 : decode cX5_books 13 = .ok (.bipush 9, 2) := dk_16 9 (dk_at dksX5_books_0 13 rfl rfl)
theorem dX5_books_15 : decode cX5_books 15 = .ok (.if_icmp .ge 28, 3) := dk_162 0 28 (dk_at dksX5_books_0 15 rfl rfl)
theorem dX5_books_18 : decode cX5_books 18 = .ok (.aload_n 0, 1) := dk_42 (dk_at dksX5_books_0 18 rfl rfl)
theorem dX5_books_19 : decode cX5_books 19 = .ok (.getfield 36, 3) := dk_180 0 36 (dk_at dksX5_books_0 19 rfl rfl)
theorem dX5_books_22 : decode cX5_books 22 = .ok (.iload 5, 2) := dk_21 5 (dk_at dksX5_books_0 22 rfl rfl)
theorem dX5_books_24 : decode cX5_books 24 = .ok (.invokestatic 225, 3) := dk_184 0 225 (dk_at dksX5_books_1 0 rfl rfl)
theorem dX5_books_27 : decode cX5_books 27 = .ok (.iload 6, 2) := dk_21 6 (dk_at dksX5_books_1 3 rfl rfl)
theorem dX5_books_29 : decode cX5_books 29 = .ok (.iadd, 1) := dk_96 (dk_at dksX5_books_1 5 rfl rfl)
theorem dX5_books_30 : decode cX5_books 30 = .ok (.aload_n 1, 1) := dk_43 (dk_at dksX5_books_1 6 rfl rfl)
theorem dX5_books_31 : decode cX5_books 31 = .ok (.iload_n 2, 1) := dk_28 (dk_at dksX5_books_1 7 rfl rfl)
theorem dX5_books_32 : decode cX5_books 32 = .ok (.iload 6, 2) := dk_21 6 (dk_at dksX5_books_1 8 rfl rfl)
theorem dX5_books_34 : decode cX5_books 34 = .ok (.iadd, 1) := dk_96 (dk_at dksX5_books_1 10 rfl rfl)
theorem dX5_books_35 : decode cX5_books 35 = .ok (.iaload, 1) := dk_46 (dk_at dksX5_books_1 11 rfl rfl)
theorem dX5_books_36 : decode cX5_books 36 = .ok (.iastore, 1) := dk_79 (dk_at dksX5_books_1 12 rfl rfl)
theorem dX5_books_37 : decode cX5_books 37 = .ok (.iinc 6 1, 3) := dk_132 6 1 (dk_at dksX5_books_1 13 rfl rfl)
theorem dX5_books_40 : decode cX5_books 40 = .ok (.goto (-29), 3) := dk_167 255 227 (dk_at dksX5_books_1 16 rfl rfl)
theorem dX5_books_43 : decode cX5_books 43 = .ok (.aload_n 0, 1) := dk_42 (dk_at dksX5_books_1 19 rfl rfl)
theorem dX5_books_44 : decode cX5_books 44 = .ok (.iload 5, 2) := dk_21 5 (dk_at dksX5_books_1 20 rfl rfl)
theorem dX5_books_46 : decode cX5_books 46 = .ok (.iload_n 3, 1) := dk_29 (dk_at dksX5_books_1 22 rfl rfl)
theorem dX5_books_47 : decode cX5_books 47 = .ok (.iload 4, 2) := dk_21 4 (dk_at dksX5_books_2 0 rfl rfl)
theorem dX5_books_49 : decode cX5_books 49 = .ok (.invokevirtual 304, 3) := dk_182 1 48 (dk_at dksX5_books_2 2 rfl rfl)
theorem dX5_books_52 : decode cX5_books 52 = .ok (.aload_n 0, 1) := dk_42 (dk_at dksX5_books_2 5 rfl rfl)
theorem dX5_books_53 : decode cX5_books 53 = .ok (.getfield 36, 3) := dk_180 0 36 (dk_at dksX5_books_2 6 rfl rfl)
theorem dX5_books_56 : decode cX5_books 56 = .ok (.iload 5, 2) := dk_21 5 (dk_at dksX5_books_2 9 rfl rfl)
theorem dX5_books_58 : decode cX5_books 58 = .ok (.invokestatic 225, 3) := dk_184 0 225 (dk_at dksX5_books_2 11 rfl rfl)
theorem dX5_books_61 : decode cX5_books 61 = .ok (.bipush 11, 2) := dk_16 11 (dk_at dksX5_books_2 14 rfl rfl)
theorem dX5_books_63 : decode cX5_books 63 = .ok (.iadd, 1) := dk_96 (dk_at dksX5_books_2 16 rfl rfl)
theorem dX5_books_64 : decode cX5_books 64 = .ok (.iconst 1, 1) := dk_4 (dk_at dksX5_books_2 17 rfl rfl)
theorem dX5_books_65 : decode cX5_books 65 = .ok (.iastore, 1) := dk_79 (dk_at dksX5_books_2 18 rfl rfl)
theorem dX5_books_66 : decode cX5_books 66 = .ok (.aload_n 0, 1) := dk_42 (dk_at dksX5_books_2 19 rfl rfl)
theorem dX5_books_67 : decode cX5_books 67 = .ok (.getfield 36, 3) := dk_180 0 36 (dk_at dksX5_books_2 20 rfl rfl)
theorem dX5_books_70 : decode cX5_books 70 = .ok (.iload 5, 2) := dk_21 5 (dk_at dksX5_books_3 0 rfl rfl)
theorem dX5_books_72 : decode cX5_books 72 = .ok (.invokestatic 225, 3) := dk_184 0 225 (dk_at dksX5_books_3 2 rfl rfl)
theorem dX5_books_75 : decode cX5_books 75 = .ok (.bipush 12, 2) := dk_16 12 (dk_at dksX5_books_3 5 rfl rfl)
theorem dX5_books_77 : decode cX5_books 77 = .ok (.iadd, 1) := dk_96 (dk_at dksX5_books_3 7 rfl rfl)
theorem dX5_books_78 : decode cX5_books 78 = .ok (.iconst 0, 1) := dk_3 (dk_at dksX5_books_3 8 rfl rfl)
theorem dX5_books_79 : decode cX5_books 79 = .ok (.iastore, 1) := dk_79 (dk_at dksX5_books_3 9 rfl rfl)
theorem dX5_books_80 : decode cX5_books 80 = .ok (.aload_n 0, 1) := dk_42 (dk_at dksX5_books_3 10 rfl rfl)
theorem dX5_books_81 : decode cX5_books 81 = .ok (.getfield 36, 3) := dk_180 0 36 (dk_at dksX5_books_3 11 rfl rfl)
theorem dX5_books_84 : decode cX5_books 84 = .ok (.iconst 1, 1) := dk_4 (dk_at dksX5_books_3 14 rfl rfl)
theorem dX5_books_85 : decode cX5_books 85 = .ok (.dup2, 1) := dk_92 (dk_at dksX5_books_3 15 rfl rfl)
theorem dX5_books_86 : decode cX5_books 86 = .ok (.iaload, 1) := dk_46 (dk_at dksX5_books_3 16 rfl rfl)
theorem dX5_books_87 : decode cX5_books 87 = .ok (.iconst 1, 1) := dk_4 (dk_at dksX5_books_3 17 rfl rfl)
theorem dX5_books_88 : decode cX5_books 88 = .ok (.iadd, 1) := dk_96 (dk_at dksX5_books_3 18 rfl rfl)
theorem dX5_books_89 : decode cX5_books 89 = .ok (.iastore, 1) := dk_79 (dk_at dksX5_books_3 19 rfl rfl)
theorem dX5_books_90 : decode cX5_books 90 = .ok (.iload 5, 2) := dk_21 5 (dk_at dksX5_books_3 20 rfl rfl)
theorem dX5_books_92 : decode cX5_books 92 = .ok (.ireturn, 1) := dk_172 (dk_at dksX5_books_3 22 rfl rfl)
abbrev cX5_puts : ByteArray := prog_17_method_68_code
def yX5_puts : MethodName := ⟨RX5, "puts", "(III)V"⟩
def dkwX5_puts_1 : List UInt8 := [29, 79, 177]
abbrev dktX5_puts_1 : List UInt8 := dkwX5_puts_1 ++ []
def dkwX5_puts_0 : List UInt8 := [42, 180, 0, 36, 27, 184, 0, 225, 16, 9, 96, 28, 79, 42, 180, 0, 36, 27, 184, 0, 225, 16, 10, 96]
abbrev dktX5_puts_0 : List UInt8 := dkwX5_puts_0 ++ dktX5_puts_1
theorem dksX5_puts_0 : cX5_puts.data.toList.drop 0 = dktX5_puts_0 := by decide +kernel
theorem dksX5_puts_1 : cX5_puts.data.toList.drop 24 = dktX5_puts_1 := dk_seg dksX5_puts_0 24 rfl rfl
theorem dX5_puts_0 : decode cX5_puts 0 = .ok (.aload_n 0, 1) := dk_42 (dk_at dksX5_puts_0 0 rfl rfl)
theorem dX5_puts_1 : decode cX5_puts 1 = .ok (.getfield 36, 3) := dk_180 0 36 (dk_at dksX5_puts_0 1 rfl rfl)
theorem dX5_puts_4 : decode cX5_puts 4 = .ok (.iload_n 1, 1) := dk_27 (dk_at dksX5_puts_0 4 rfl rfl)
theorem dX5_puts_5 : decode cX5_puts 5 = .ok (.invokestatic 225, 3) := dk_184 0 225 (dk_at dksX5_puts_0 5 rfl rfl)
theorem dX5_puts_8 : decode cX5_puts 8 = .ok (.bipush 9, 2) := dk_16 9 (dk_at dksX5_puts_0 8 rfl rfl)
theorem dX5_puts_10 : decode cX5_puts 10 = .ok (.iadd, 1) := dk_96 (dk_at dksX5_puts_0 10 rfl rfl)
theorem dX5_puts_11 : decode cX5_puts 11 = .ok (.iload_n 2, 1) := dk_28 (dk_at dksX5_puts_0 11 rfl rfl)
theorem dX5_puts_12 : decode cX5_puts 12 = .ok (.iastore, 1) := dk_79 (dk_at dksX5_puts_0 12 rfl rfl)
theorem dX5_puts_13 : decode cX5_puts 13 = .ok (.aload_n 0, 1) := dk_42 (dk_at dksX5_puts_0 13 rfl rfl)
theorem dX5_puts_14 : decode cX5_puts 14 = .ok (.getfield 36, 3) := dk_180 0 36 (dk_at dksX5_puts_0 14 rfl rfl)
theorem dX5_puts_17 : decode cX5_puts 17 = .ok (.iload_n 1, 1) := dk_27 (dk_at dksX5_puts_0 17 rfl rfl)
theorem dX5_puts_18 : decode cX5_puts 18 = .ok (.invokestatic 225, 3) := dk_184 0 225 (dk_at dksX5_puts_0 18 rfl rfl)
theorem dX5_puts_21 : decode cX5_puts 21 = .ok (.bipush 10, 2) := dk_16 10 (dk_at dksX5_puts_0 21 rfl rfl)
theorem dX5_puts_23 : decode cX5_puts 23 = .ok (.iadd, 1) := dk_96 (dk_at dksX5_puts_0 23 rfl rfl)
theorem dX5_puts_24 : decode cX5_puts 24 = .ok (.iload_n 3, 1) := dk_29 (dk_at dksX5_puts_1 0 rfl rfl)
theorem dX5_puts_25 : decode cX5_puts 25 = .ok (.iastore, 1) := dk_79 (dk_at dksX5_puts_1 1 rfl rfl)
theorem dX5_puts_26 : decode cX5_puts 26 = .ok (.return_, 1) := dk_177 (dk_at dksX5_puts_1 2 rfl rfl)
abbrev cX5_cancel : ByteArray := prog_17_method_76_code
def yX5_cancel : MethodName := ⟨RX5, "cancel", "(I)I"⟩
def dkwX5_cancel_3 : List UInt8 := [184, 0, 225, 16, 12, 96, 28, 79, 42, 182, 1, 85, 28, 172]
abbrev dktX5_cancel_3 : List UInt8 := dkwX5_cancel_3 ++ []
def dkwX5_cancel_2 : List UInt8 := [182, 1, 82, 61, 42, 180, 0, 36, 27, 184, 0, 225, 16, 11, 96, 3, 79, 42, 180, 0, 36, 27]
abbrev dktX5_cancel_2 : List UInt8 := dkwX5_cancel_2 ++ dktX5_cancel_3
def dkwX5_cancel_1 : List UInt8 := [167, 0, 4, 3, 181, 0, 3, 42, 180, 0, 3, 158, 0, 5, 3, 172, 42, 182, 1, 58, 42, 27]
abbrev dktX5_cancel_1 : List UInt8 := dkwX5_cancel_1 ++ dktX5_cancel_2
def dkwX5_cancel_0 : List UInt8 := [42, 42, 27, 182, 1, 76, 154, 0, 7, 4, 167, 0, 16, 42, 27, 182, 1, 79, 154, 0, 7, 5]
abbrev dktX5_cancel_0 : List UInt8 := dkwX5_cancel_0 ++ dktX5_cancel_1
theorem dksX5_cancel_0 : cX5_cancel.data.toList.drop 0 = dktX5_cancel_0 := by decide +kernel
theorem dksX5_cancel_1 : cX5_cancel.data.toList.drop 22 = dktX5_cancel_1 := dk_seg dksX5_cancel_0 22 rfl rfl
theorem dksX5_cancel_2 : cX5_cancel.data.toList.drop 44 = dktX5_cancel_2 := dk_seg dksX5_cancel_1 22 rfl rfl
theorem dksX5_cancel_3 : cX5_cancel.data.toList.drop 66 = dktX5_cancel_3 := dk_seg dksX5_cancel_2 22 rfl rfl
theorem dX5_cancel_0 : decode cX5_cancel 0 = .ok (.aload_n 0, 1) := dk_42 (dk_at dksX5_cancel_0 0 rfl rfl)
theorem dX5_cancel_1 : decode cX5_cancel 1 = .ok (.aload_n 0, 1) := dk_42 (dk_at dksX5_cancel_0 1 rfl rfl)
theorem dX5_cancel_2 : decode cX5_cancel 2 = .ok (.iload_n 1, 1) := dk_27 (dk_at dksX5_cancel_0 2 rfl rfl)
theorem dX5_cancel_3 : decode cX5_cancel 3 = .ok (.invokevirtual 332, 3) := dk_182 1 76 (dk_at dksX5_cancel_0 3 rfl rfl)
theorem dX5_cancel_6 : decode cX5_cancel 6 = .ok (.ifCond .ne 7, 3) := dk_154 0 7 (dk_at dksX5_cancel_0 6 rfl rfl)
theorem dX5_cancel_9 : decode cX5_cancel 9 = .ok (.iconst 1, 1) := dk_4 (dk_at dksX5_cancel_0 9 rfl rfl)
theorem dX5_cancel_10 : decode cX5_cancel 10 = .ok (.goto 16, 3) := dk_167 0 16 (dk_at dksX5_cancel_0 10 rfl rfl)
theorem dX5_cancel_13 : decode cX5_cancel 13 = .ok (.aload_n 0, 1) := dk_42 (dk_at dksX5_cancel_0 13 rfl rfl)
theorem dX5_cancel_14 : decode cX5_cancel 14 = .ok (.iload_n 1, 1) := dk_27 (dk_at dksX5_cancel_0 14 rfl rfl)
theorem dX5_cancel_15 : decode cX5_cancel 15 = .ok (.invokevirtual 335, 3) := dk_182 1 79 (dk_at dksX5_cancel_0 15 rfl rfl)
theorem dX5_cancel_18 : decode cX5_cancel 18 = .ok (.ifCond .ne 7, 3) := dk_154 0 7 (dk_at dksX5_cancel_0 18 rfl rfl)
theorem dX5_cancel_21 : decode cX5_cancel 21 = .ok (.iconst 2, 1) := dk_5 (dk_at dksX5_cancel_0 21 rfl rfl)
theorem dX5_cancel_22 : decode cX5_cancel 22 = .ok (.goto 4, 3) := dk_167 0 4 (dk_at dksX5_cancel_1 0 rfl rfl)
theorem dX5_cancel_25 : decode cX5_cancel 25 = .ok (.iconst 0, 1) := dk_3 (dk_at dksX5_cancel_1 3 rfl rfl)
theorem dX5_cancel_26 : decode cX5_cancel 26 = .ok (.putfield 3, 3) := dk_181 0 3 (dk_at dksX5_cancel_1 4 rfl rfl)
theorem dX5_cancel_29 : decode cX5_cancel 29 = .ok (.aload_n 0, 1) := dk_42 (dk_at dksX5_cancel_1 7 rfl rfl)
theorem dX5_cancel_30 : decode cX5_cancel 30 = .ok (.getfield 3, 3) := dk_180 0 3 (dk_at dksX5_cancel_1 8 rfl rfl)
theorem dX5_cancel_33 : decode cX5_cancel 33 = .ok (.ifCond .le 5, 3) := dk_158 0 5 (dk_at dksX5_cancel_1 11 rfl rfl)
theorem dX5_cancel_36 : decode cX5_cancel 36 = .ok (.iconst 0, 1) := dk_3 (dk_at dksX5_cancel_1 14 rfl rfl)
theorem dX5_cancel_37 : decode cX5_cancel 37 = .ok (.ireturn, 1) := dk_172 (dk_at dksX5_cancel_1 15 rfl rfl)
theorem dX5_cancel_38 : decode cX5_cancel 38 = .ok (.aload_n 0, 1) := dk_42 (dk_at dksX5_cancel_1 16 rfl rfl)
theorem dX5_cancel_39 : decode cX5_cancel 39 = .ok (.invokevirtual 314, 3) := dk_182 1 58 (dk_at dksX5_cancel_1 17 rfl rfl)
theorem dX5_cancel_42 : decode cX5_cancel 42 = .ok (.aload_n 0, 1) := dk_42 (dk_at dksX5_cancel_1 20 rfl rfl)
theorem dX5_cancel_43 : decode cX5_cancel 43 = .ok (.iload_n 1, 1) := dk_27 (dk_at dksX5_cancel_1 21 rfl rfl)
theorem dX5_cancel_44 : decode cX5_cancel 44 = .ok (.invokevirtual 338, 3) := dk_182 1 82 (dk_at dksX5_cancel_2 0 rfl rfl)
theorem dX5_cancel_47 : decode cX5_cancel 47 = .ok (.istore_n 2, 1) := dk_61 (dk_at dksX5_cancel_2 3 rfl rfl)
theorem dX5_cancel_48 : decode cX5_cancel 48 = .ok (.aload_n 0, 1) := dk_42 (dk_at dksX5_cancel_2 4 rfl rfl)
theorem dX5_cancel_49 : decode cX5_cancel 49 = .ok (.getfield 36, 3) := dk_180 0 36 (dk_at dksX5_cancel_2 5 rfl rfl)
theorem dX5_cancel_52 : decode cX5_cancel 52 = .ok (.iload_n 1, 1) := dk_27 (dk_at dksX5_cancel_2 8 rfl rfl)
theorem dX5_cancel_53 : decode cX5_cancel 53 = .ok (.invokestatic 225, 3) := dk_184 0 225 (dk_at dksX5_cancel_2 9 rfl rfl)
theorem dX5_cancel_56 : decode cX5_cancel 56 = .ok (.bipush 11, 2) := dk_16 11 (dk_at dksX5_cancel_2 12 rfl rfl)
theorem dX5_cancel_58 : decode cX5_cancel 58 = .ok (.iadd, 1) := dk_96 (dk_at dksX5_cancel_2 14 rfl rfl)
theorem dX5_cancel_59 : decode cX5_cancel 59 = .ok (.iconst 0, 1) := dk_3 (dk_at dksX5_cancel_2 15 rfl rfl)
theorem dX5_cancel_60 : decode cX5_cancel 60 = .ok (.iastore, 1) := dk_79 (dk_at dksX5_cancel_2 16 rfl rfl)
theorem dX5_cancel_61 : decode cX5_cancel 61 = .ok (.aload_n 0, 1) := dk_42 (dk_at dksX5_cancel_2 17 rfl rfl)
theorem dX5_cancel_62 : decode cX5_cancel 62 = .ok (.getfield 36, 3) := dk_180 0 36 (dk_at dksX5_cancel_2 18 rfl rfl)
theorem dX5_cancel_65 : decode cX5_cancel 65 = .ok (.iload_n 1, 1) := dk_27 (dk_at dksX5_cancel_2 21 rfl rfl)
theorem dX5_cancel_66 : decode cX5_cancel 66 = .ok (.invokestatic 225, 3) := dk_184 0 225 (dk_at dksX5_cancel_3 0 rfl rfl)
theorem dX5_cancel_69 : decode cX5_cancel 69 = .ok (.bipush 12, 2) := dk_16 12 (dk_at dksX5_cancel_3 3 rfl rfl)
theorem dX5_cancel_71 : decode cX5_cancel 71 = .ok (.iadd, 1) := dk_96 (dk_at dksX5_cancel_3 5 rfl rfl)
theorem dX5_cancel_72 : decode cX5_cancel 72 = .ok (.iload_n 2, 1) := dk_28 (dk_at dksX5_cancel_3 6 rfl rfl)
theorem dX5_cancel_73 : decode cX5_cancel 73 = .ok (.iastore, 1) := dk_79 (dk_at dksX5_cancel_3 7 rfl rfl)
theorem dX5_cancel_74 : decode cX5_cancel 74 = .ok (.aload_n 0, 1) := dk_42 (dk_at dksX5_cancel_3 8 rfl rfl)
theorem dX5_cancel_75 : decode cX5_cancel 75 = .ok (.invokevirtual 341, 3) := dk_182 1 85 (dk_at dksX5_cancel_3 9 rfl rfl)
theorem dX5_cancel_78 : decode cX5_cancel 78 = .ok (.iload_n 2, 1) := dk_28 (dk_at dksX5_cancel_3 12 rfl rfl)
theorem dX5_cancel_79 : decode cX5_cancel 79 = .ok (.ireturn, 1) := dk_172 (dk_at dksX5_cancel_3 13 rfl rfl)
abbrev cX5_isBooking : ByteArray := prog_17_method_42_code
def yX5_isBooking : MethodName := ⟨RX5, "isBooking", "(I)Z"⟩
def dkwX5_isBooking_0 : List UInt8 := [27, 133, 9, 42, 180, 0, 36, 4, 46, 4, 100, 133, 184, 0, 90, 172]
abbrev dktX5_isBooking_0 : List UInt8 := dkwX5_isBooking_0 ++ []
theorem dksX5_isBooking_0 : cX5_isBooking.data.toList.drop 0 = dktX5_isBooking_0 := by decide +kernel
theorem dX5_isBooking_0 : decode cX5_isBooking 0 = .ok (.iload_n 1, 1) := dk_27 (dk_at dksX5_isBooking_0 0 rfl rfl)
theorem dX5_isBooking_1 : decode cX5_isBooking 1 = .ok (.i2l, 1) := dk_133 (dk_at dksX5_isBooking_0 1 rfl rfl)
theorem dX5_isBooking_2 : decode cX5_isBooking 2 = .ok (.lconst 0, 1) := dk_9 (dk_at dksX5_isBooking_0 2 rfl rfl)
theorem dX5_isBooking_3 : decode cX5_isBooking 3 = .ok (.aload_n 0, 1) := dk_42 (dk_at dksX5_isBooking_0 3 rfl rfl)
theorem dX5_isBooking_4 : decode cX5_isBooking 4 = .ok (.getfield 36, 3) := dk_180 0 36 (dk_at dksX5_isBooking_0 4 rfl rfl)
theorem dX5_isBooking_7 : decode cX5_isBooking 7 = .ok (.iconst 1, 1) := dk_4 (dk_at dksX5_isBooking_0 7 rfl rfl)
theorem dX5_isBooking_8 : decode cX5_isBooking 8 = .ok (.iaload, 1) := dk_46 (dk_at dksX5_isBooking_0 8 rfl rfl)
theorem dX5_isBooking_9 : decode cX5_isBooking 9 = .ok (.iconst 1, 1) := dk_4 (dk_at dksX5_isBooking_0 9 rfl rfl)
theorem dX5_isBooking_10 : decode cX5_isBooking 10 = .ok (.isub, 1) := dk_100 (dk_at dksX5_isBooking_0 10 rfl rfl)
theorem dX5_isBooking_11 : decode cX5_isBooking 11 = .ok (.i2l, 1) := dk_133 (dk_at dksX5_isBooking_0 11 rfl rfl)
theorem dX5_isBooking_12 : decode cX5_isBooking 12 = .ok (.invokestatic 90, 3) := dk_184 0 90 (dk_at dksX5_isBooking_0 12 rfl rfl)
theorem dX5_isBooking_15 : decode cX5_isBooking 15 = .ok (.ireturn, 1) := dk_172 (dk_at dksX5_isBooking_0 15 rfl rfl)
abbrev cX5_isToCome : ByteArray := prog_17_method_70_code
def yX5_isToCome : MethodName := ⟨RX5, "isToCome", "(I)Z"⟩
def dkwX5_isToCome_1 : List UInt8 := [4, 167, 0, 4, 3, 172]
abbrev dktX5_isToCome_1 : List UInt8 := dkwX5_isToCome_1 ++ []
def dkwX5_isToCome_0 : List UInt8 := [42, 27, 182, 0, 236, 153, 0, 23, 42, 27, 16, 10, 182, 0, 228, 42, 180, 0, 36, 3, 46, 161, 0, 7]
abbrev dktX5_isToCome_0 : List UInt8 := dkwX5_isToCome_0 ++ dktX5_isToCome_1
theorem dksX5_isToCome_0 : cX5_isToCome.data.toList.drop 0 = dktX5_isToCome_0 := by decide +kernel
theorem dksX5_isToCome_1 : cX5_isToCome.data.toList.drop 24 = dktX5_isToCome_1 := dk_seg dksX5_isToCome_0 24 rfl rfl
theorem dX5_isToCome_0 : decode cX5_isToCome 0 = .ok (.aload_n 0, 1) := dk_42 (dk_at dksX5_isToCome_0 0 rfl rfl)
theorem dX5_isToCome_1 : decode cX5_isToCome 1 = .ok (.iload_n 1, 1) := dk_27 (dk_at dksX5_isToCome_0 1 rfl rfl)
theorem dX5_isToCome_2 : decode cX5_isToCome 2 = .ok (.invokevirtual 236, 3) := dk_182 0 236 (dk_at dksX5_isToCome_0 2 rfl rfl)
theorem dX5_isToCome_5 : decode cX5_isToCome 5 = .ok (.ifCond .eq 23, 3) := dk_153 0 23 (dk_at dksX5_isToCome_0 5 rfl rfl)
theorem dX5_isToCome_8 : decode cX5_isToCome 8 = .ok (.aload_n 0, 1) := dk_42 (dk_at dksX5_isToCome_0 8 rfl rfl)
theorem dX5_isToCome_9 : decode cX5_isToCome 9 = .ok (.iload_n 1, 1) := dk_27 (dk_at dksX5_isToCome_0 9 rfl rfl)
theorem dX5_isToCome_10 : decode cX5_isToCome 10 = .ok (.bipush 10, 2) := dk_16 10 (dk_at dksX5_isToCome_0 10 rfl rfl)
theorem dX5_isToCome_12 : decode cX5_isToCome 12 = .ok (.invokevirtual 228, 3) := dk_182 0 228 (dk_at dksX5_isToCome_0 12 rfl rfl)
theorem dX5_isToCome_15 : decode cX5_isToCome 15 = .ok (.aload_n 0, 1) := dk_42 (dk_at dksX5_isToCome_0 15 rfl rfl)
theorem dX5_isToCome_16 : decode cX5_isToCome 16 = .ok (.getfield 36, 3) := dk_180 0 36 (dk_at dksX5_isToCome_0 16 rfl rfl)
theorem dX5_isToCome_19 : decode cX5_isToCome 19 = .ok (.iconst 0, 1) := dk_3 (dk_at dksX5_isToCome_0 19 rfl rfl)
theorem dX5_isToCome_20 : decode cX5_isToCome 20 = .ok (.iaload, 1) := dk_46 (dk_at dksX5_isToCome_0 20 rfl rfl)
theorem dX5_isToCome_21 : decode cX5_isToCome 21 = .ok (.if_icmp .lt 7, 3) := dk_161 0 7 (dk_at dksX5_isToCome_0 21 rfl rfl)
theorem dX5_isToCome_24 : decode cX5_isToCome 24 = .ok (.iconst 1, 1) := dk_4 (dk_at dksX5_isToCome_1 0 rfl rfl)
theorem dX5_isToCome_25 : decode cX5_isToCome 25 = .ok (.goto 4, 3) := dk_167 0 4 (dk_at dksX5_isToCome_1 1 rfl rfl)
theorem dX5_isToCome_28 : decode cX5_isToCome 28 = .ok (.iconst 0, 1) := dk_3 (dk_at dksX5_isToCome_1 4 rfl rfl)
theorem dX5_isToCome_29 : decode cX5_isToCome 29 = .ok (.ireturn, 1) := dk_172 (dk_at dksX5_isToCome_1 5 rfl rfl)
abbrev cX5_feeOf : ByteArray := prog_17_method_72_code
def yX5_feeOf : MethodName := ⟨RX5, "feeOf", "(I)I"⟩
def dkwX5_feeOf_1 : List UInt8 := [182, 1, 67, 104, 16, 100, 108, 172]
abbrev dktX5_feeOf_1 : List UInt8 := dkwX5_feeOf_1 ++ []
def dkwX5_feeOf_0 : List UInt8 := [42, 27, 182, 1, 64, 42, 42, 27, 16, 10, 182, 0, 228, 42, 180, 0, 36, 3, 46, 100, 17, 5, 160, 108]
abbrev dktX5_feeOf_0 : List UInt8 := dkwX5_feeOf_0 ++ dktX5_feeOf_1
theorem dksX5_feeOf_0 : cX5_feeOf.data.toList.drop 0 = dktX5_feeOf_0 := by decide +kernel
theorem dksX5_feeOf_1 : cX5_feeOf.data.toList.drop 24 = dktX5_feeOf_1 := dk_seg dksX5_feeOf_0 24 rfl rfl
theorem dX5_feeOf_0 : decode cX5_feeOf 0 = .ok (.aload_n 0, 1) := dk_42 (dk_at dksX5_feeOf_0 0 rfl rfl)
theorem dX5_feeOf_1 : decode cX5_feeOf 1 = .ok (.iload_n 1, 1) := dk_27 (dk_at dksX5_feeOf_0 1 rfl rfl)
theorem dX5_feeOf_2 : decode cX5_feeOf 2 = .ok (.invokevirtual 320, 3) := dk_182 1 64 (dk_at dksX5_feeOf_0 2 rfl rfl)
theorem dX5_feeOf_5 : decode cX5_feeOf 5 = .ok (.aload_n 0, 1) := dk_42 (dk_at dksX5_feeOf_0 5 rfl rfl)
theorem dX5_feeOf_6 : decode cX5_feeOf 6 = .ok (.aload_n 0, 1) := dk_42 (dk_at dksX5_feeOf_0 6 rfl rfl)
theorem dX5_feeOf_7 : decode cX5_feeOf 7 = .ok (.iload_n 1, 1) := dk_27 (dk_at dksX5_feeOf_0 7 rfl rfl)
theorem dX5_feeOf_8 : decode cX5_feeOf 8 = .ok (.bipush 10, 2) := dk_16 10 (dk_at dksX5_feeOf_0 8 rfl rfl)
theorem dX5_feeOf_10 : decode cX5_feeOf 10 = .ok (.invokevirtual 228, 3) := dk_182 0 228 (dk_at dksX5_feeOf_0 10 rfl rfl)
theorem dX5_feeOf_13 : decode cX5_feeOf 13 = .ok (.aload_n 0, 1) := dk_42 (dk_at dksX5_feeOf_0 13 rfl rfl)
theorem dX5_feeOf_14 : decode cX5_feeOf 14 = .ok (.getfield 36, 3) := dk_180 0 36 (dk_at dksX5_feeOf_0 14 rfl rfl)
theorem dX5_feeOf_17 : decode cX5_feeOf 17 = .ok (.iconst 0, 1) := dk_3 (dk_at dksX5_feeOf_0 17 rfl rfl)
theorem dX5_feeOf_18 : decode cX5_feeOf 18 = .ok (.iaload, 1) := dk_46 (dk_at dksX5_feeOf_0 18 rfl rfl)
theorem dX5_feeOf_19 : decode cX5_feeOf 19 = .ok (.isub, 1) := dk_100 (dk_at dksX5_feeOf_0 19 rfl rfl)
theorem dX5_feeOf_20 : decode cX5_feeOf 20 = .ok (.sipush 1440, 3) := dk_17 5 160 (dk_at dksX5_feeOf_0 20 rfl rfl)
theorem dX5_feeOf_23 : decode cX5_feeOf 23 = .ok (.idiv, 1) := dk_108 (dk_at dksX5_feeOf_0 23 rfl rfl)
theorem dX5_feeOf_24 : decode cX5_feeOf 24 = .ok (.invokevirtual 323, 3) := dk_182 1 67 (dk_at dksX5_feeOf_1 0 rfl rfl)
theorem dX5_feeOf_27 : decode cX5_feeOf 27 = .ok (.imul, 1) := dk_104 (dk_at dksX5_feeOf_1 3 rfl rfl)
theorem dX5_feeOf_28 : decode cX5_feeOf 28 = .ok (.bipush 100, 2) := dk_16 100 (dk_at dksX5_feeOf_1 4 rfl rfl)
theorem dX5_feeOf_30 : decode cX5_feeOf 30 = .ok (.idiv, 1) := dk_108 (dk_at dksX5_feeOf_1 6 rfl rfl)
theorem dX5_feeOf_31 : decode cX5_feeOf 31 = .ok (.ireturn, 1) := dk_172 (dk_at dksX5_feeOf_1 7 rfl rfl)
abbrev cX5_priceNow : ByteArray := prog_17_method_51_code
def yX5_priceNow : MethodName := ⟨RX5, "priceNow", "(I)I"⟩
def dkwX5_priceNow_1 : List UInt8 := [182, 0, 232, 172]
abbrev dktX5_priceNow_1 : List UInt8 := dkwX5_priceNow_1 ++ []
def dkwX5_priceNow_0 : List UInt8 := [42, 42, 180, 0, 36, 27, 184, 0, 225, 42, 27, 16, 9, 182, 0, 228, 42, 27, 16, 10, 182, 0, 228]
abbrev dktX5_priceNow_0 : List UInt8 := dkwX5_priceNow_0 ++ dktX5_priceNow_1
theorem dksX5_priceNow_0 : cX5_priceNow.data.toList.drop 0 = dktX5_priceNow_0 := by decide +kernel
theorem dksX5_priceNow_1 : cX5_priceNow.data.toList.drop 23 = dktX5_priceNow_1 := dk_seg dksX5_priceNow_0 23 rfl rfl
theorem dX5_priceNow_0 : decode cX5_priceNow 0 = .ok (.aload_n 0, 1) := dk_42 (dk_at dksX5_priceNow_0 0 rfl rfl)
theorem dX5_priceNow_1 : decode cX5_priceNow 1 = .ok (.aload_n 0, 1) := dk_42 (dk_at dksX5_priceNow_0 1 rfl rfl)
theorem dX5_priceNow_2 : decode cX5_priceNow 2 = .ok (.getfield 36, 3) := dk_180 0 36 (dk_at dksX5_priceNow_0 2 rfl rfl)
theorem dX5_priceNow_5 : decode cX5_priceNow 5 = .ok (.iload_n 1, 1) := dk_27 (dk_at dksX5_priceNow_0 5 rfl rfl)
theorem dX5_priceNow_6 : decode cX5_priceNow 6 = .ok (.invokestatic 225, 3) := dk_184 0 225 (dk_at dksX5_priceNow_0 6 rfl rfl)
theorem dX5_priceNow_9 : decode cX5_priceNow 9 = .ok (.aload_n 0, 1) := dk_42 (dk_at dksX5_priceNow_0 9 rfl rfl)
theorem dX5_priceNow_10 : decode cX5_priceNow 10 = .ok (.iload_n 1, 1) := dk_27 (dk_at dksX5_priceNow_0 10 rfl rfl)
theorem dX5_priceNow_11 : decode cX5_priceNow 11 = .ok (.bipush 9, 2) := dk_16 9 (dk_at dksX5_priceNow_0 11 rfl rfl)
theorem dX5_priceNow_13 : decode cX5_priceNow 13 = .ok (.invokevirtual 228, 3) := dk_182 0 228 (dk_at dksX5_priceNow_0 13 rfl rfl)
theorem dX5_priceNow_16 : decode cX5_priceNow 16 = .ok (.aload_n 0, 1) := dk_42 (dk_at dksX5_priceNow_0 16 rfl rfl)
theorem dX5_priceNow_17 : decode cX5_priceNow 17 = .ok (.iload_n 1, 1) := dk_27 (dk_at dksX5_priceNow_0 17 rfl rfl)
theorem dX5_priceNow_18 : decode cX5_priceNow 18 = .ok (.bipush 10, 2) := dk_16 10 (dk_at dksX5_priceNow_0 18 rfl rfl)
theorem dX5_priceNow_20 : decode cX5_priceNow 20 = .ok (.invokevirtual 228, 3) := dk_182 0 228 (dk_at dksX5_priceNow_0 20 rfl rfl)
theorem dX5_priceNow_23 : decode cX5_priceNow 23 = .ok (.invokevirtual 232, 3) := dk_182 0 232 (dk_at dksX5_priceNow_1 0 rfl rfl)
theorem dX5_priceNow_26 : decode cX5_priceNow 26 = .ok (.ireturn, 1) := dk_172 (dk_at dksX5_priceNow_1 3 rfl rfl)
abbrev cX5_priceOf : ByteArray := prog_17_method_50_code
def yX5_priceOf : MethodName := ⟨RX5, "priceOf", "([IIII)I"⟩
def dkwX5_priceOf_4 : List UInt8 := [167, 0, 5, 21, 5, 172]
abbrev dktX5_priceOf_4 : List UInt8 := dkwX5_priceOf_4 ++ []
def dkwX5_priceOf_3 : List UInt8 := [108, 16, 7, 112, 8, 161, 0, 21, 21, 5, 21, 5, 42, 180, 0, 13, 8, 46, 104, 16, 100, 108, 96]
abbrev dktX5_priceOf_3 : List UInt8 := dkwX5_priceOf_3 ++ dktX5_priceOf_4
def dkwX5_priceOf_2 : List UInt8 := [180, 0, 13, 16, 38, 21, 6, 96, 46, 104, 96, 54, 5, 132, 6, 1, 167, 255, 218, 21, 4, 17, 5, 160]
abbrev dktX5_priceOf_2 : List UInt8 := dkwX5_priceOf_2 ++ dktX5_priceOf_3
def dkwX5_priceOf_1 : List UInt8 := [21, 6, 42, 180, 0, 13, 5, 46, 162, 0, 33, 21, 5, 43, 28, 6, 96, 21, 6, 96, 46, 42]
abbrev dktX5_priceOf_1 : List UInt8 := dkwX5_priceOf_1 ++ dktX5_priceOf_2
def dkwX5_priceOf_0 : List UInt8 := [42, 180, 0, 13, 16, 26, 29, 96, 46, 43, 28, 5, 96, 46, 104, 16, 60, 108, 54, 5, 3, 54, 6]
abbrev dktX5_priceOf_0 : List UInt8 := dkwX5_priceOf_0 ++ dktX5_priceOf_1
theorem dksX5_priceOf_0 : cX5_priceOf.data.toList.drop 0 = dktX5_priceOf_0 := by decide +kernel
theorem dksX5_priceOf_1 : cX5_priceOf.data.toList.drop 23 = dktX5_priceOf_1 := dk_seg dksX5_priceOf_0 23 rfl rfl
theorem dksX5_priceOf_2 : cX5_priceOf.data.toList.drop 45 = dktX5_priceOf_2 := dk_seg dksX5_priceOf_1 22 rfl rfl
theorem dksX5_priceOf_3 : cX5_priceOf.data.toList.drop 69 = dktX5_priceOf_3 := dk_seg dksX5_priceOf_2 24 rfl rfl
theorem dksX5_priceOf_4 : cX5_priceOf.data.toList.drop 92 = dktX5_priceOf_4 := dk_seg dksX5_priceOf_3 23 rfl rfl
theorem dX5_priceOf_0 : decode cX5_priceOf 0 = .ok (.aload_n 0, 1) := dk_42 (dk_at dksX5_priceOf_0 0 rfl rfl)
theorem dX5_priceOf_1 : decode cX5_priceOf 1 = .ok (.getfield 13, 3) := dk_180 0 13 (dk_at dksX5_priceOf_0 1 rfl rfl)
theorem dX5_priceOf_4 : decode cX5_priceOf 4 = .ok (.bipush 26, 2) := dk_16 26 (dk_at dksX5_priceOf_0 4 rfl rfl)
theorem dX5_priceOf_6 : decode cX5_priceOf 6 = .ok (.iload_n 3, 1) := dk_29 (dk_at dksX5_priceOf_0 6 rfl rfl)
theorem dX5_priceOf_7 : decode cX5_priceOf 7 = .ok (.iadd, 1) := dk_96 (dk_at dksX5_priceOf_0 7 rfl rfl)
theorem dX5_priceOf_8 : decode cX5_priceOf 8 = .ok (.iaload, 1) := dk_46 (dk_at dksX5_priceOf_0 8 rfl rfl)
theorem dX5_priceOf_9 : decode cX5_priceOf 9 = .ok (.aload_n 1, 1) := dk_43 (dk_at dksX5_priceOf_0 9 rfl rfl)
theorem dX5_priceOf_10 : decode cX5_priceOf 10 = .ok (.iload_n 2, 1) := dk_28 (dk_at dksX5_priceOf_0 10 rfl rfl)
theorem dX5_priceOf_11 : decode cX5_priceOf 11 = .ok (.iconst 2, 1) := dk_5 (dk_at dksX5_priceOf_0 11 rfl rfl)
theorem dX5_priceOf_12 : decode cX5_priceOf 12 = .ok (.iadd, 1) := dk_96 (dk_at dksX5_priceOf_0 12 rfl rfl)
theorem dX5_priceOf_13 : decode cX5_priceOf 13 = .ok (.iaload, 1) := dk_46 (dk_at dksX5_priceOf_0 13 rfl rfl)
theorem dX5_priceOf_14 : decode cX5_priceOf 14 = .ok (.imul, 1) := dk_104 (dk_at dksX5_priceOf_0 14 rfl rfl)
theorem dX5_priceOf_15 : decode cX5_priceOf 15 = .ok (.bipush 60, 2) := dk_16 60 (dk_at dksX5_priceOf_0 15 rfl rfl)
theorem dX5_priceOf_17 : decode cX5_priceOf 17 = .ok (.idiv, 1) := dk_108 (dk_at dksX5_priceOf_0 17 rfl rfl)
theorem dX5_priceOf_18 : decode cX5_priceOf 18 = .ok (.istore 5, 2) := dk_54 5 (dk_at dksX5_priceOf_0 18 rfl rfl)
theorem dX5_priceOf_20 : decode cX5_priceOf 20 = .ok (.iconst 0, 1) := dk_3 (dk_at dksX5_priceOf_0 20 rfl rfl)
theorem dX5_priceOf_21 : decode cX5_priceOf 21 = .ok (.istore 6, 2) := dk_54 6 (dk_at dksX5_priceOf_0 21 rfl rfl)
theorem dX5_priceOf_23 : decode cX5_priceOf 23 = .ok (.iload 6, 2) := dk_21 6 (dk_at dksX5_priceOf_1 0 rfl rfl)
theorem dX5_priceOf_25 : decode cX5_priceOf 25 = .ok (.aload_n 0, 1) := dk_42 (dk_at dksX5_priceOf_1 2 rfl rfl)
theorem dX5_priceOf_26 : decode cX5_priceOf 26 = .ok (.getfield 13, 3) := dk_180 0 13 (dk_at dksX5_priceOf_1 3 rfl rfl)
theorem dX5_priceOf_29 : decode cX5_priceOf 29 = .ok (.iconst 2, 1) := dk_5 (dk_at dksX5_priceOf_1 6 rfl rfl)
theorem dX5_priceOf_30 : decode cX5_priceOf 30 = .ok (.iaload, 1) := dk_46 (dk_at dksX5_priceOf_1 7 rfl rfl)
theorem dX5_priceOf_31 : decode cX5_priceOf 31 = .ok (.if_icmp .ge 33, 3) := dk_162 0 33 (dk_at dksX5_priceOf_1 8 rfl rfl)
theorem dX5_priceOf_34 : decode cX5_priceOf 34 = .ok (.iload 5, 2) := dk_21 5 (dk_at dksX5_priceOf_1 11 rfl rfl)
theorem dX5_priceOf_36 : decode cX5_priceOf 36 = .ok (.aload_n 1, 1) := dk_43 (dk_at dksX5_priceOf_1 13 rfl rfl)
theorem dX5_priceOf_37 : decode cX5_priceOf 37 = .ok (.iload_n 2, 1) := dk_28 (dk_at dksX5_priceOf_1 14 rfl rfl)
theorem dX5_priceOf_38 : decode cX5_priceOf 38 = .ok (.iconst 3, 1) := dk_6 (dk_at dksX5_priceOf_1 15 rfl rfl)
theorem dX5_priceOf_39 : decode cX5_priceOf 39 = .ok (.iadd, 1) := dk_96 (dk_at dksX5_priceOf_1 16 rfl rfl)
theorem dX5_priceOf_40 : decode cX5_priceOf 40 = .ok (.iload 6, 2) := dk_21 6 (dk_at dksX5_priceOf_1 17 rfl rfl)
theorem dX5_priceOf_42 : decode cX5_priceOf 42 = .ok (.iadd, 1) := dk_96 (dk_at dksX5_priceOf_1 19 rfl rfl)
theorem dX5_priceOf_43 : decode cX5_priceOf 43 = .ok (.iaload, 1) := dk_46 (dk_at dksX5_priceOf_1 20 rfl rfl)
theorem dX5_priceOf_44 : decode cX5_priceOf 44 = .ok (.aload_n 0, 1) := dk_42 (dk_at dksX5_priceOf_1 21 rfl rfl)
theorem dX5_priceOf_45 : decode cX5_priceOf 45 = .ok (.getfield 13, 3) := dk_180 0 13 (dk_at dksX5_priceOf_2 0 rfl rfl)
theorem dX5_priceOf_48 : decode cX5_priceOf 48 = .ok (.bipush 38, 2) := dk_16 38 (dk_at dksX5_priceOf_2 3 rfl rfl)
theorem dX5_priceOf_50 : decode cX5_priceOf 50 = .ok (.iload 6, 2) := dk_21 6 (dk_at dksX5_priceOf_2 5 rfl rfl)
theorem dX5_priceOf_52 : decode cX5_priceOf 52 = .ok (.iadd, 1) := dk_96 (dk_at dksX5_priceOf_2 7 rfl rfl)
theorem dX5_priceOf_53 : decode cX5_priceOf 53 = .ok (.iaload, 1) := dk_46 (dk_at dksX5_priceOf_2 8 rfl rfl)
theorem dX5_priceOf_54 : decode cX5_priceOf 54 = .ok (.imul, 1) := dk_104 (dk_at dksX5_priceOf_2 9 rfl rfl)
theorem dX5_priceOf_55 : decode cX5_priceOf 55 = .ok (.iadd, 1) := dk_96 (dk_at dksX5_priceOf_2 10 rfl rfl)
theorem dX5_priceOf_56 : decode cX5_priceOf 56 = .ok (.istore 5, 2) := dk_54 5 (dk_at dksX5_priceOf_2 11 rfl rfl)
theorem dX5_priceOf_58 : decode cX5_priceOf 58 = .ok (.iinc 6 1, 3) := dk_132 6 1 (dk_at dksX5_priceOf_2 13 rfl rfl)
theorem dX5_priceOf_61 : decode cX5_priceOf 61 = .ok (.goto (-38), 3) := dk_167 255 218 (dk_at dksX5_priceOf_2 16 rfl rfl)
theorem dX5_priceOf_64 : decode cX5_priceOf 64 = .ok (.iload 4, 2) := dk_21 4 (dk_at dksX5_priceOf_2 19 rfl rfl)
theorem dX5_priceOf_66 : decode cX5_priceOf 66 = .ok (.sipush 1440, 3) := dk_17 5 160 (dk_at dksX5_priceOf_2 21 rfl rfl)
theorem dX5_priceOf_69 : decode cX5_priceOf 69 = .ok (.idiv, 1) := dk_108 (dk_at dksX5_priceOf_3 0 rfl rfl)
theorem dX5_priceOf_70 : decode cX5_priceOf 70 = .ok (.bipush 7, 2) := dk_16 7 (dk_at dksX5_priceOf_3 1 rfl rfl)
theorem dX5_priceOf_72 : decode cX5_priceOf 72 = .ok (.irem, 1) := dk_112 (dk_at dksX5_priceOf_3 3 rfl rfl)
theorem dX5_priceOf_73 : decode cX5_priceOf 73 = .ok (.iconst 5, 1) := dk_8 (dk_at dksX5_priceOf_3 4 rfl rfl)
theorem dX5_priceOf_74 : decode cX5_priceOf 74 = .ok (.if_icmp .lt 21, 3) := dk_161 0 21 (dk_at dksX5_priceOf_3 5 rfl rfl)
theorem dX5_priceOf_77 : decode cX5_priceOf 77 = .ok (.iload 5, 2) := dk_21 5 (dk_at dksX5_priceOf_3 8 rfl rfl)
theorem dX5_priceOf_79 : decode cX5_priceOf 79 = .ok (.iload 5, 2) := dk_21 5 (dk_at dksX5_priceOf_3 10 rfl rfl)
theorem dX5_priceOf_81 : decode cX5_priceOf 81 = .ok (.aload_n 0, 1) := dk_42 (dk_at dksX5_priceOf_3 12 rfl rfl)
theorem dX5_priceOf_82 : decode cX5_priceOf 82 = .ok (.getfield 13, 3) := dk_180 0 13 (dk_at dksX5_priceOf_3 13 rfl rfl)
theorem dX5_priceOf_85 : decode cX5_priceOf 85 = .ok (.iconst 5, 1) := dk_8 (dk_at dksX5_priceOf_3 16 rfl rfl)
theorem dX5_priceOf_86 : decode cX5_priceOf 86 = .ok (.iaload, 1) := dk_46 (dk_at dksX5_priceOf_3 17 rfl rfl)
theorem dX5_priceOf_87 : decode cX5_priceOf 87 = .ok (.imul, 1) := dk_104 (dk_at dksX5_priceOf_3 18 rfl rfl)
theorem dX5_priceOf_88 : decode cX5_priceOf 88 = .ok (.bipush 100, 2) := dk_16 100 (dk_at dksX5_priceOf_3 19 rfl rfl)
theorem dX5_priceOf_90 : decode cX5_priceOf 90 = .ok (.idiv, 1) := dk_108 (dk_at dksX5_priceOf_3 21 rfl rfl)
theorem dX5_priceOf_91 : decode cX5_priceOf 91 = .ok (.iadd, 1) := dk_96 (dk_at dksX5_priceOf_3 22 rfl rfl)
theorem dX5_priceOf_92 : decode cX5_priceOf 92 = .ok (.goto 5, 3) := dk_167 0 5 (dk_at dksX5_priceOf_4 0 rfl rfl)
theorem dX5_priceOf_95 : decode cX5_priceOf 95 = .ok (.iload 5, 2) := dk_21 5 (dk_at dksX5_priceOf_4 3 rfl rfl)
theorem dX5_priceOf_97 : decode cX5_priceOf 97 = .ok (.ireturn, 1) := dk_172 (dk_at dksX5_priceOf_4 5 rfl rfl)
abbrev cX5_percentOf : ByteArray := prog_17_method_71_code
def yX5_percentOf : MethodName := ⟨RX5, "percentOf", "(I)I"⟩
def dkwX5_percentOf_4 : List UInt8 := [46, 172]
abbrev dktX5_percentOf_4 : List UInt8 := dkwX5_percentOf_4 ++ []
def dkwX5_percentOf_3 : List UInt8 := [132, 3, 1, 167, 255, 186, 28, 2, 160, 0, 8, 16, 100, 167, 0, 12, 42, 180, 0, 13, 16, 114, 28, 96]
abbrev dktX5_percentOf_3 : List UInt8 := dkwX5_percentOf_3 ++ dktX5_percentOf_4
def dkwX5_percentOf_2 : List UInt8 := [96, 46, 164, 0, 7, 4, 167, 0, 4, 3, 54, 4, 21, 4, 153, 0, 7, 29, 167, 0, 4, 28, 61]
abbrev dktX5_percentOf_2 : List UInt8 := dkwX5_percentOf_2 ++ dktX5_percentOf_3
def dkwX5_percentOf_1 : List UInt8 := [163, 0, 33, 28, 2, 159, 0, 24, 42, 180, 0, 13, 16, 110, 29, 96, 46, 42, 180, 0, 13, 16, 110, 28]
abbrev dktX5_percentOf_1 : List UInt8 := dkwX5_percentOf_1 ++ dktX5_percentOf_2
def dkwX5_percentOf_0 : List UInt8 := [2, 61, 3, 62, 29, 42, 180, 0, 13, 7, 46, 162, 0, 66, 42, 180, 0, 13, 16, 110, 29, 96, 46, 27]
abbrev dktX5_percentOf_0 : List UInt8 := dkwX5_percentOf_0 ++ dktX5_percentOf_1
theorem dksX5_percentOf_0 : cX5_percentOf.data.toList.drop 0 = dktX5_percentOf_0 := by decide +kernel
theorem dksX5_percentOf_1 : cX5_percentOf.data.toList.drop 24 = dktX5_percentOf_1 := dk_seg dksX5_percentOf_0 24 rfl rfl
theorem dksX5_percentOf_2 : cX5_percentOf.data.toList.drop 48 = dktX5_percentOf_2 := dk_seg dksX5_percentOf_1 24 rfl rfl
theorem dksX5_percentOf_3 : cX5_percentOf.data.toList.drop 71 = dktX5_percentOf_3 := dk_seg dksX5_percentOf_2 23 rfl rfl
theorem dksX5_percentOf_4 : cX5_percentOf.data.toList.drop 95 = dktX5_percentOf_4 := dk_seg dksX5_percentOf_3 24 rfl rfl
theorem dX5_percentOf_0 : decode cX5_percentOf 0 = .ok (.iconst (-1), 1) := dk_2 (dk_at dksX5_percentOf_0 0 rfl rfl)
theorem dX5_percentOf_1 : decode cX5_percentOf 1 = .ok (.istore_n 2, 1) := dk_61 (dk_at dksX5_percentOf_0 1 rfl rfl)
theorem dX5_percentOf_2 : decode cX5_percentOf 2 = .ok (.iconst 0, 1) := dk_3 (dk_at dksX5_percentOf_0 2 rfl rfl)
theorem dX5_percentOf_3 : decode cX5_percentOf 3 = .ok (.istore_n 3, 1) := dk_62 (dk_at dksX5_percentOf_0 3 rfl rfl)
theorem dX5_percentOf_4 : decode cX5_percentOf 4 = .ok (.iload_n 3, 1) := dk_29 (dk_at dksX5_percentOf_0 4 rfl rfl)
theorem dX5_percentOf_5 : decode cX5_percentOf 5 = .ok (.aload_n 0, 1) := dk_42 (dk_at dksX5_percentOf_0 5 rfl rfl)
theorem dX5_percentOf_6 : decode cX5_percentOf 6 = .ok (.getfield 13, 3) := dk_180 0 13 (dk_at dksX5_percentOf_0 6 rfl rfl)
theorem dX5_percentOf_9 : decode cX5_percentOf 9 = .ok (.iconst 4, 1) := dk_7 (dk_at dksX5_percentOf_0 9 rfl rfl)
theorem dX5_percentOf_10 : decode cX5_percentOf 10 = .ok (.iaload, 1) := dk_46 (dk_at dksX5_percentOf_0 10 rfl rfl)
theorem dX5_percentOf_11 : decode cX5_percentOf 11 = .ok (.if_icmp .ge 66, 3) := dk_162 0 66 (dk_at dksX5_percentOf_0 11 rfl rfl)
theorem dX5_percentOf_14 : decode cX5_percentOf 14 = .ok (.aload_n 0, 1) := dk_42 (dk_at dksX5_percentOf_0 14 rfl rfl)
theorem dX5_percentOf_15 : decode cX5_percentOf 15 = .ok (.getfield 13, 3) := dk_180 0 13 (dk_at dksX5_percentOf_0 15 rfl rfl)
theorem dX5_percentOf_18 : decode cX5_percentOf 18 = .ok (.bipush 110, 2) := dk_16 110 (dk_at dksX5_percentOf_0 18 rfl rfl)
theorem dX5_percentOf_20 : decode cX5_percentOf 20 = .ok (.iload_n 3, 1) := dk_29 (dk_at dksX5_percentOf_0 20 rfl rfl)
theorem dX5_percentOf_21 : decode cX5_percentOf 21 = .ok (.iadd, 1) := dk_96 (dk_at dksX5_percentOf_0 21 rfl rfl)
theorem dX5_percentOf_22 : decode cX5_percentOf 22 = .ok (.iaload, 1) := dk_46 (dk_at dksX5_percentOf_0 22 rfl rfl)
theorem dX5_percentOf_23 : decode cX5_percentOf 23 = .ok (.iload_n 1, 1) := dk_27 (dk_at dksX5_percentOf_0 23 rfl rfl)
theorem dX5_percentOf_24 : decode cX5_percentOf 24 = .ok (.if_icmp .gt 33, 3) := dk_163 0 33 (dk_at dksX5_percentOf_1 0 rfl rfl)
theorem dX5_percentOf_27 : decode cX5_percentOf 27 = .ok (.iload_n 2, 1) := dk_28 (dk_at dksX5_percentOf_1 3 rfl rfl)
theorem dX5_percentOf_28 : decode cX5_percentOf 28 = .ok (.iconst (-1), 1) := dk_2 (dk_at dksX5_percentOf_1 4 rfl rfl)
theorem dX5_percentOf_29 : decode cX5_percentOf 29 = .ok (.if_icmp .eq 24, 3) := dk_159 0 24 (dk_at dksX5_percentOf_1 5 rfl rfl)
theorem dX5_percentOf_32 : decode cX5_percentOf 32 = .ok (.aload_n 0, 1) := dk_42 (dk_at dksX5_percentOf_1 8 rfl rfl)
theorem dX5_percentOf_33 : decode cX5_percentOf 33 = .ok (.getfield 13, 3) := dk_180 0 13 (dk_at dksX5_percentOf_1 9 rfl rfl)
theorem dX5_percentOf_36 : decode cX5_percentOf 36 = .ok (.bipush 110, 2) := dk_16 110 (dk_at dksX5_percentOf_1 12 rfl rfl)
theorem dX5_percentOf_38 : decode cX5_percentOf 38 = .ok (.iload_n 3, 1) := dk_29 (dk_at dksX5_percentOf_1 14 rfl rfl)
theorem dX5_percentOf_39 : decode cX5_percentOf 39 = .ok (.iadd, 1) := dk_96 (dk_at dksX5_percentOf_1 15 rfl rfl)
theorem dX5_percentOf_40 : decode cX5_percentOf 40 = .ok (.iaload, 1) := dk_46 (dk_at dksX5_percentOf_1 16 rfl rfl)
theorem dX5_percentOf_41 : decode cX5_percentOf 41 = .ok (.aload_n 0, 1) := dk_42 (dk_at dksX5_percentOf_1 17 rfl rfl)
theorem dX5_percentOf_42 : decode cX5_percentOf 42 = .ok (.getfield 13, 3) := dk_180 0 13 (dk_at dksX5_percentOf_1 18 rfl rfl)
theorem dX5_percentOf_45 : decode cX5_percentOf 45 = .ok (.bipush 110, 2) := dk_16 110 (dk_at dksX5_percentOf_1 21 rfl rfl)
theorem dX5_percentOf_47 : decode cX5_percentOf 47 = .ok (.iload_n 2, 1) := dk_28 (dk_at dksX5_percentOf_1 23 rfl rfl)
theorem dX5_percentOf_48 : decode cX5_percentOf 48 = .ok (.iadd, 1) := dk_96 (dk_at dksX5_percentOf_2 0 rfl rfl)
theorem dX5_percentOf_49 : decode cX5_percentOf 49 = .ok (.iaload, 1) := dk_46 (dk_at dksX5_percentOf_2 1 rfl rfl)
theorem dX5_percentOf_50 : decode cX5_percentOf 50 = .ok (.if_icmp .le 7, 3) := dk_164 0 7 (dk_at dksX5_percentOf_2 2 rfl rfl)
theorem dX5_percentOf_53 : decode cX5_percentOf 53 = .ok (.iconst 1, 1) := dk_4 (dk_at dksX5_percentOf_2 5 rfl rfl)
theorem dX5_percentOf_54 : decode cX5_percentOf 54 = .ok (.goto 4, 3) := dk_167 0 4 (dk_at dksX5_percentOf_2 6 rfl rfl)
theorem dX5_percentOf_57 : decode cX5_percentOf 57 = .ok (.iconst 0, 1) := dk_3 (dk_at dksX5_percentOf_2 9 rfl rfl)
theorem dX5_percentOf_58 : decode cX5_percentOf 58 = .ok (.istore 4, 2) := dk_54 4 (dk_at dksX5_percentOf_2 10 rfl rfl)
theorem dX5_percentOf_60 : decode cX5_percentOf 60 = .ok (.iload 4, 2) := dk_21 4 (dk_at dksX5_percentOf_2 12 rfl rfl)
theorem dX5_percentOf_62 : decode cX5_percentOf 62 = .ok (.ifCond .eq 7, 3) := dk_153 0 7 (dk_at dksX5_percentOf_2 14 rfl rfl)
theorem dX5_percentOf_65 : decode cX5_percentOf 65 = .ok (.iload_n 3, 1) := dk_29 (dk_at dksX5_percentOf_2 17 rfl rfl)
theorem dX5_percentOf_66 : decode cX5_percentOf 66 = .ok (.goto 4, 3) := dk_167 0 4 (dk_at dksX5_percentOf_2 18 rfl rfl)
theorem dX5_percentOf_69 : decode cX5_percentOf 69 = .ok (.iload_n 2, 1) := dk_28 (dk_at dksX5_percentOf_2 21 rfl rfl)
theorem dX5_percentOf_70 : decode cX5_percentOf 70 = .ok (.istore_n 2, 1) := dk_61 (dk_at dksX5_percentOf_2 22 rfl rfl)
theorem dX5_percentOf_71 : decode cX5_percentOf 71 = .ok (.iinc 3 1, 3) := dk_132 3 1 (dk_at dksX5_percentOf_3 0 rfl rfl)
theorem dX5_percentOf_74 : decode cX5_percentOf 74 = .ok (.goto (-70), 3) := dk_167 255 186 (dk_at dksX5_percentOf_3 3 rfl rfl)
theorem dX5_percentOf_77 : decode cX5_percentOf 77 = .ok (.iload_n 2, 1) := dk_28 (dk_at dksX5_percentOf_3 6 rfl rfl)
theorem dX5_percentOf_78 : decode cX5_percentOf 78 = .ok (.iconst (-1), 1) := dk_2 (dk_at dksX5_percentOf_3 7 rfl rfl)
theorem dX5_percentOf_79 : decode cX5_percentOf 79 = .ok (.if_icmp .ne 8, 3) := dk_160 0 8 (dk_at dksX5_percentOf_3 8 rfl rfl)
theorem dX5_percentOf_82 : decode cX5_percentOf 82 = .ok (.bipush 100, 2) := dk_16 100 (dk_at dksX5_percentOf_3 11 rfl rfl)
theorem dX5_percentOf_84 : decode cX5_percentOf 84 = .ok (.goto 12, 3) := dk_167 0 12 (dk_at dksX5_percentOf_3 13 rfl rfl)
theorem dX5_percentOf_87 : decode cX5_percentOf 87 = .ok (.aload_n 0, 1) := dk_42 (dk_at dksX5_percentOf_3 16 rfl rfl)
theorem dX5_percentOf_88 : decode cX5_percentOf 88 = .ok (.getfield 13, 3) := dk_180 0 13 (dk_at dksX5_percentOf_3 17 rfl rfl)
theorem dX5_percentOf_91 : decode cX5_percentOf 91 = .ok (.bipush 114, 2) := dk_16 114 (dk_at dksX5_percentOf_3 20 rfl rfl)
theorem dX5_percentOf_93 : decode cX5_percentOf 93 = .ok (.iload_n 2, 1) := dk_28 (dk_at dksX5_percentOf_3 22 rfl rfl)
theorem dX5_percentOf_94 : decode cX5_percentOf 94 = .ok (.iadd, 1) := dk_96 (dk_at dksX5_percentOf_3 23 rfl rfl)
theorem dX5_percentOf_95 : decode cX5_percentOf 95 = .ok (.iaload, 1) := dk_46 (dk_at dksX5_percentOf_4 0 rfl rfl)
theorem dX5_percentOf_96 : decode cX5_percentOf 96 = .ok (.ireturn, 1) := dk_172 (dk_at dksX5_percentOf_4 1 rfl rfl)
abbrev cX5_serves : ByteArray := prog_17_method_75_code
def yX5_serves : MethodName := ⟨RX5, "serves", "()V"⟩
def dkwX5_serves_4 : List UInt8 := [132, 1, 1, 167, 255, 161, 177]
abbrev dktX5_serves_4 : List UInt8 := dkwX5_serves_4 ++ []
def dkwX5_serves_3 : List UInt8 := [42, 180, 0, 36, 27, 184, 1, 70, 28, 29, 182, 1, 61, 54, 4, 42, 27, 182, 1, 73, 167, 0, 6]
abbrev dktX5_serves_3 : List UInt8 := dkwX5_serves_3 ++ dktX5_serves_4
def dkwX5_serves_2 : List UInt8 := [182, 1, 23, 42, 180, 0, 36, 4, 46, 16, 60, 162, 0, 36, 42, 28, 29, 182, 1, 27, 154, 0, 27, 42]
abbrev dktX5_serves_2 : List UInt8 := dkwX5_serves_2 ++ dktX5_serves_3
def dkwX5_serves_1 : List UInt8 := [61, 42, 180, 0, 36, 27, 184, 1, 70, 16, 10, 96, 46, 62, 42, 42, 180, 0, 36, 27, 184, 1, 70]
abbrev dktX5_serves_1 : List UInt8 := dkwX5_serves_1 ++ dktX5_serves_2
def dkwX5_serves_0 : List UInt8 := [3, 60, 27, 42, 180, 0, 36, 5, 46, 162, 0, 91, 42, 180, 0, 36, 27, 184, 1, 70, 16, 9, 96, 46]
abbrev dktX5_serves_0 : List UInt8 := dkwX5_serves_0 ++ dktX5_serves_1
theorem dksX5_serves_0 : cX5_serves.data.toList.drop 0 = dktX5_serves_0 := by decide +kernel
theorem dksX5_serves_1 : cX5_serves.data.toList.drop 24 = dktX5_serves_1 := dk_seg dksX5_serves_0 24 rfl rfl
theorem dksX5_serves_2 : cX5_serves.data.toList.drop 47 = dktX5_serves_2 := dk_seg dksX5_serves_1 23 rfl rfl
theorem dksX5_serves_3 : cX5_serves.data.toList.drop 71 = dktX5_serves_3 := dk_seg dksX5_serves_2 24 rfl rfl
theorem dksX5_serves_4 : cX5_serves.data.toList.drop 94 = dktX5_serves_4 := dk_seg dksX5_serves_3 23 rfl rfl
theorem dX5_serves_0 : decode cX5_serves 0 = .ok (.iconst 0, 1) := dk_3 (dk_at dksX5_serves_0 0 rfl rfl)
theorem dX5_serves_1 : decode cX5_serves 1 = .ok (.istore_n 1, 1) := dk_60 (dk_at dksX5_serves_0 1 rfl rfl)
theorem dX5_serves_2 : decode cX5_serves 2 = .ok (.iload_n 1, 1) := dk_27 (dk_at dksX5_serves_0 2 rfl rfl)
theorem dX5_serves_3 : decode cX5_serves 3 = .ok (.aload_n 0, 1) := dk_42 (dk_at dksX5_serves_0 3 rfl rfl)
theorem dX5_serves_4 : decode cX5_serves 4 = .ok (.getfield 36, 3) := dk_180 0 36 (dk_at dksX5_serves_0 4 rfl rfl)
theorem dX5_serves_7 : decode cX5_serves 7 = .ok (.iconst 2, 1) := dk_5 (dk_at dksX5_serves_0 7 rfl rfl)
theorem dX5_serves_8 : decode cX5_serves 8 = .ok (.iaload, 1) := dk_46 (dk_at dksX5_serves_0 8 rfl rfl)
theorem dX5_serves_9 : decode cX5_serves 9 = .ok (.if_icmp .ge 91, 3) := dk_162 0 91 (dk_at dksX5_serves_0 9 rfl rfl)
theorem dX5_serves_12 : decode cX5_serves 12 = .ok (.aload_n 0, 1) := dk_42 (dk_at dksX5_serves_0 12 rfl rfl)
theorem dX5_serves_13 : decode cX5_serves 13 = .ok (.getfield 36, 3) := dk_180 0 36 (dk_at dksX5_serves_0 13 rfl rfl)
theorem dX5_serves_16 : decode cX5_serves 16 = .ok (.iload_n 1, 1) := dk_27 (dk_at dksX5_serves_0 16 rfl rfl)
theorem dX5_serves_17 : decode cX5_serves 17 = .ok (.invokestatic 326, 3) := dk_184 1 70 (dk_at dksX5_serves_0 17 rfl rfl)
theorem dX5_serves_20 : decode cX5_serves 20 = .ok (.bipush 9, 2) := dk_16 9 (dk_at dksX5_serves_0 20 rfl rfl)
theorem dX5_serves_22 : decode cX5_serves 22 = .ok (.iadd, 1) := dk_96 (dk_at dksX5_serves_0 22 rfl rfl)
theorem dX5_serves_23 : decode cX5_serves 23 = .ok (.iaload, 1) := dk_46 (dk_at dksX5_serves_0 23 rfl rfl)
theorem dX5_serves_24 : decode cX5_serves 24 = .ok (.istore_n 2, 1) := dk_61 (dk_at dksX5_serves_1 0 rfl rfl)
theorem dX5_serves_25 : decode cX5_serves 25 = .ok (.aload_n 0, 1) := dk_42 (dk_at dksX5_serves_1 1 rfl rfl)
theorem dX5_serves_26 : decode cX5_serves 26 = .ok (.getfield 36, 3) := dk_180 0 36 (dk_at dksX5_serves_1 2 rfl rfl)
theorem dX5_serves_29 : decode cX5_serves 29 = .ok (.iload_n 1, 1) := dk_27 (dk_at dksX5_serves_1 5 rfl rfl)
theorem dX5_serves_30 : decode cX5_serves 30 = .ok (.invokestatic 326, 3) := dk_184 1 70 (dk_at dksX5_serves_1 6 rfl rfl)
theorem dX5_serves_33 : decode cX5_serves 33 = .ok (.bipush 10, 2) := dk_16 10 (dk_at dksX5_serves_1 9 rfl rfl)
theorem dX5_serves_35 : decode cX5_serves 35 = .ok (.iadd, 1) := dk_96 (dk_at dksX5_serves_1 11 rfl rfl)
theorem dX5_serves_36 : decode cX5_serves 36 = .ok (.iaload, 1) := dk_46 (dk_at dksX5_serves_1 12 rfl rfl)
theorem dX5_serves_37 : decode cX5_serves 37 = .ok (.istore_n 3, 1) := dk_62 (dk_at dksX5_serves_1 13 rfl rfl)
theorem dX5_serves_38 : decode cX5_serves 38 = .ok (.aload_n 0, 1) := dk_42 (dk_at dksX5_serves_1 14 rfl rfl)
theorem dX5_serves_39 : decode cX5_serves 39 = .ok (.aload_n 0, 1) := dk_42 (dk_at dksX5_serves_1 15 rfl rfl)
theorem dX5_serves_40 : decode cX5_serves 40 = .ok (.getfield 36, 3) := dk_180 0 36 (dk_at dksX5_serves_1 16 rfl rfl)
theorem dX5_serves_43 : decode cX5_serves 43 = .ok (.iload_n 1, 1) := dk_27 (dk_at dksX5_serves_1 19 rfl rfl)
theorem dX5_serves_44 : decode cX5_serves 44 = .ok (.invokestatic 326, 3) := dk_184 1 70 (dk_at dksX5_serves_1 20 rfl rfl)
theorem dX5_serves_47 : decode cX5_serves 47 = .ok (.invokevirtual 279, 3) := dk_182 1 23 (dk_at dksX5_serves_2 0 rfl rfl)
theorem dX5_serves_50 : decode cX5_serves 50 = .ok (.aload_n 0, 1) := dk_42 (dk_at dksX5_serves_2 3 rfl rfl)
theorem dX5_serves_51 : decode cX5_serves 51 = .ok (.getfield 36, 3) := dk_180 0 36 (dk_at dksX5_serves_2 4 rfl rfl)
theorem dX5_serves_54 : decode cX5_serves 54 = .ok (.iconst 1, 1) := dk_4 (dk_at dksX5_serves_2 7 rfl rfl)
theorem dX5_serves_55 : decode cX5_serves 55 = .ok (.iaload, 1) := dk_46 (dk_at dksX5_serves_2 8 rfl rfl)
theorem dX5_serves_56 : decode cX5_serves 56 = .ok (.bipush 60, 2) := dk_16 60 (dk_at dksX5_serves_2 9 rfl rfl)
theorem dX5_serves_58 : decode cX5_serves 58 = .ok (.if_icmp .ge 36, 3) := dk_162 0 36 (dk_at dksX5_serves_2 11 rfl rfl)
theorem dX5_serves_61 : decode cX5_serves 61 = .ok (.aload_n 0, 1) := dk_42 (dk_at dksX5_serves_2 14 rfl rfl)
theorem dX5_serves_62 : decode cX5_serves 62 = .ok (.iload_n 2, 1) := dk_28 (dk_at dksX5_serves_2 15 rfl rfl)
theorem dX5_serves_63 : decode cX5_serves 63 = .ok (.iload_n 3, 1) := dk_29 (dk_at dksX5_serves_2 16 rfl rfl)
theorem dX5_serves_64 : decode cX5_serves 64 = .ok (.invokevirtual 283, 3) := dk_182 1 27 (dk_at dksX5_serves_2 17 rfl rfl)
theorem dX5_serves_67 : decode cX5_serves 67 = .ok (.ifCond .ne 27, 3) := dk_154 0 27 (dk_at dksX5_serves_2 20 rfl rfl)
theorem dX5_serves_70 : decode cX5_serves 70 = .ok (.aload_n 0, 1) := dk_42 (dk_at dksX5_serves_2 23 rfl rfl)
theorem dX5_serves_71 : decode cX5_serves 71 = .ok (.aload_n 0, 1) := dk_42 (dk_at dksX5_serves_3 0 rfl rfl)
theorem dX5_serves_72 : decode cX5_serves 72 = .ok (.getfield 36, 3) := dk_180 0 36 (dk_at dksX5_serves_3 1 rfl rfl)
theorem dX5_serves_75 : decode cX5_serves 75 = .ok (.iload_n 1, 1) := dk_27 (dk_at dksX5_serves_3 4 rfl rfl)
theorem dX5_serves_76 : decode cX5_serves 76 = .ok (.invokestatic 326, 3) := dk_184 1 70 (dk_at dksX5_serves_3 5 rfl rfl)
theorem dX5_serves_79 : decode cX5_serves 79 = .ok (.iload_n 2, 1) := dk_28 (dk_at dksX5_serves_3 8 rfl rfl)
theorem dX5_serves_80 : decode cX5_serves 80 = .ok (.iload_n 3, 1) := dk_29 (dk_at dksX5_serves_3 9 rfl rfl)
theorem dX5_serves_81 : decode cX5_serves 81 = .ok (.invokevirtual 317, 3) := dk_182 1 61 (dk_at dksX5_serves_3 10 rfl rfl)
theorem dX5_serves_84 : decode cX5_serves 84 = .ok (.istore 4, 2) := dk_54 4 (dk_at dksX5_serves_3 13 rfl rfl)
theorem dX5_serves_86 : decode cX5_serves 86 = .ok (.aload_n 0, 1) := dk_42 (dk_at dksX5_serves_3 15 rfl rfl)
theorem dX5_serves_87 : decode cX5_serves 87 = .ok (.iload_n 1, 1) := dk_27 (dk_at dksX5_serves_3 16 rfl rfl)
theorem dX5_serves_88 : decode cX5_serves 88 = .ok (.invokevirtual 329, 3) := dk_182 1 73 (dk_at dksX5_serves_3 17 rfl rfl)
theorem dX5_serves_91 : decode cX5_serves 91 = .ok (.goto 6, 3) := dk_167 0 6 (dk_at dksX5_serves_3 20 rfl rfl)
theorem dX5_serves_94 : decode cX5_serves 94 = .ok (.iinc 1 1, 3) := dk_132 1 1 (dk_at dksX5_serves_4 0 rfl rfl)
theorem dX5_serves_97 : decode cX5_serves 97 = .ok (.goto (-95), 3) := dk_167 255 161 (dk_at dksX5_serves_4 3 rfl rfl)
theorem dX5_serves_100 : decode cX5_serves 100 = .ok (.return_, 1) := dk_177 (dk_at dksX5_serves_4 6 rfl rfl)
abbrev cX5_requestAt : ByteArray := prog_17_method_73_code
def yX5_requestAt : MethodName := ⟨RX5, "requestAt", "(I)I"⟩
def dkwX5_requestAt_0 : List UInt8 := [17, 3, 16, 16, 11, 26, 104, 96, 172]
abbrev dktX5_requestAt_0 : List UInt8 := dkwX5_requestAt_0 ++ []
theorem dksX5_requestAt_0 : cX5_requestAt.data.toList.drop 0 = dktX5_requestAt_0 := by decide +kernel
theorem dX5_requestAt_0 : decode cX5_requestAt 0 = .ok (.sipush 784, 3) := dk_17 3 16 (dk_at dksX5_requestAt_0 0 rfl rfl)
theorem dX5_requestAt_3 : decode cX5_requestAt 3 = .ok (.bipush 11, 2) := dk_16 11 (dk_at dksX5_requestAt_0 3 rfl rfl)
theorem dX5_requestAt_5 : decode cX5_requestAt 5 = .ok (.iload_n 0, 1) := dk_26 (dk_at dksX5_requestAt_0 5 rfl rfl)
theorem dX5_requestAt_6 : decode cX5_requestAt 6 = .ok (.imul, 1) := dk_104 (dk_at dksX5_requestAt_0 6 rfl rfl)
theorem dX5_requestAt_7 : decode cX5_requestAt 7 = .ok (.iadd, 1) := dk_96 (dk_at dksX5_requestAt_0 7 rfl rfl)
theorem dX5_requestAt_8 : decode cX5_requestAt 8 = .ok (.ireturn, 1) := dk_172 (dk_at dksX5_requestAt_0 8 rfl rfl)
abbrev cX5_removesRequest : ByteArray := prog_17_method_74_code
def yX5_removesRequest : MethodName := ⟨RX5, "removesRequest", "(I)V"⟩
def dkwX5_removesRequest_3 : List UInt8 := [28, 96, 3, 79, 132, 2, 1, 167, 255, 230, 177]
abbrev dktX5_removesRequest_3 : List UInt8 := dkwX5_removesRequest_3 ++ []
def dkwX5_removesRequest_2 : List UInt8 := [4, 100, 79, 3, 61, 28, 16, 11, 162, 0, 26, 42, 180, 0, 36, 42, 180, 0, 36, 5, 46, 184, 1, 70]
abbrev dktX5_removesRequest_2 : List UInt8 := dkwX5_removesRequest_2 ++ dktX5_removesRequest_3
def dkwX5_removesRequest_1 : List UInt8 := [28, 42, 180, 0, 36, 28, 16, 11, 96, 46, 79, 132, 2, 1, 167, 255, 223, 42, 180, 0, 36, 5, 92, 46]
abbrev dktX5_removesRequest_1 : List UInt8 := dkwX5_removesRequest_1 ++ dktX5_removesRequest_2
def dkwX5_removesRequest_0 : List UInt8 := [27, 184, 1, 70, 61, 28, 42, 180, 0, 36, 5, 46, 4, 100, 184, 1, 70, 162, 0, 24, 42, 180, 0, 36]
abbrev dktX5_removesRequest_0 : List UInt8 := dkwX5_removesRequest_0 ++ dktX5_removesRequest_1
theorem dksX5_removesRequest_0 : cX5_removesRequest.data.toList.drop 0 = dktX5_removesRequest_0 := by decide +kernel
theorem dksX5_removesRequest_1 : cX5_removesRequest.data.toList.drop 24 = dktX5_removesRequest_1 := dk_seg dksX5_removesRequest_0 24 rfl rfl
theorem dksX5_removesRequest_2 : cX5_removesRequest.data.toList.drop 48 = dktX5_removesRequest_2 := dk_seg dksX5_removesRequest_1 24 rfl rfl
theorem dksX5_removesRequest_3 : cX5_removesRequest.data.toList.drop 72 = dktX5_removesRequest_3 := dk_seg dksX5_removesRequest_2 24 rfl rfl
theorem dX5_removesRequest_0 : decode cX5_removesRequest 0 = .ok (.iload_n 1, 1) := dk_27 (dk_at dksX5_removesRequest_0 0 rfl rfl)
theorem dX5_removesRequest_1 : decode cX5_removesRequest 1 = .ok (.invokestatic 326, 3) := dk_184 1 70 (dk_at dksX5_removesRequest_0 1 rfl rfl)
theorem dX5_removesRequest_4 : decode cX5_removesRequest 4 = .ok (.istore_n 2, 1) := dk_61 (dk_at dksX5_removesRequest_0 4 rfl rfl)
theorem dX5_removesRequest_5 : decode cX5_removesRequest 5 = .ok (.iload_n 2, 1) := dk_28 (dk_at dksX5_removesRequest_0 5 rfl rfl)
theorem dX5_removesRequest_6 : decode cX5_removesRequest 6 = .ok (.aload_n 0, 1) := dk_42 (dk_at dksX5_removesRequest_0 6 rfl rfl)
theorem dX5_removesRequest_7 : decode cX5_removesRequest 7 = .ok (.getfield 36, 3) := dk_180 0 36 (dk_at dksX5_removesRequest_0 7 rfl rfl)
theorem dX5_removesRequest_10 : decode cX5_removesRequest 10 = .ok (.iconst 2, 1) := dk_5 (dk_at dksX5_removesRequest_0 10 rfl rfl)
theorem dX5_removesRequest_11 : decode cX5_removesRequest 11 = .ok (.iaload, 1) := dk_46 (dk_at dksX5_removesRequest_0 11 rfl rfl)
theorem dX5_removesRequest_12 : decode cX5_removesRequest 12 = .ok (.iconst 1, 1) := dk_4 (dk_at dksX5_removesRequest_0 12 rfl rfl)
theorem dX5_removesRequest_13 : decode cX5_removesRequest 13 = .ok (.isub, 1) := dk_100 (dk_at dksX5_removesRequest_0 13 rfl rfl)
theorem dX5_removesRequest_14 : decode cX5_removesRequest 14 = .ok (.invokestatic 326, 3) := dk_184 1 70 (dk_at dksX5_removesRequest_0 14 rfl rfl)
theorem dX5_removesRequest_17 : decode cX5_removesRequest 17 = .ok (.if_icmp .ge 24, 3) := dk_162 0 24 (dk_at dksX5_removesRequest_0 17 rfl rfl)
theorem dX5_removesRequest_20 : decode cX5_removesRequest 20 = .ok (.aload_n 0, 1) := dk_42 (dk_at dksX5_removesRequest_0 20 rfl rfl)
theorem dX5_removesRequest_21 : decode cX5_removesRequest 21 = .ok (.getfield 36, 3) := dk_180 0 36 (dk_at dksX5_removesRequest_0 21 rfl rfl)
theorem dX5_removesRequest_24 : decode cX5_removesRequest 24 = .ok (.iload_n 2, 1) := dk_28 (dk_at dksX5_removesRequest_1 0 rfl rfl)
theorem dX5_removesRequest_25 : decode cX5_removesRequest 25 = .ok (.aload_n 0, 1) := dk_42 (dk_at dksX5_removesRequest_1 1 rfl rfl)
theorem dX5_removesRequest_26 : decode cX5_removesRequest 26 = .ok (.getfield 36, 3) := dk_180 0 36 (dk_at dksX5_removesRequest_1 2 rfl rfl)
theorem dX5_removesRequest_29 : decode cX5_removesRequest 29 = .ok (.iload_n 2, 1) := dk_28 (dk_at dksX5_removesRequest_1 5 rfl rfl)
theorem dX5_removesRequest_30 : decode cX5_removesRequest 30 = .ok (.bipush 11, 2) := dk_16 11 (dk_at dksX5_removesRequest_1 6 rfl rfl)
theorem dX5_removesRequest_32 : decode cX5_removesRequest 32 = .ok (.iadd, 1) := dk_96 (dk_at dksX5_removesRequest_1 8 rfl rfl)
theorem dX5_removesRequest_33 : decode cX5_removesRequest 33 = .ok (.iaload, 1) := dk_46 (dk_at dksX5_removesRequest_1 9 rfl rfl)
theorem dX5_removesRequest_34 : decode cX5_removesRequest 34 = .ok (.iastore, 1) := dk_79 (dk_at dksX5_removesRequest_1 10 rfl rfl)
theorem dX5_removesRequest_35 : decode cX5_removesRequest 35 = .ok (.iinc 2 1, 3) := dk_132 2 1 (dk_at dksX5_removesRequest_1 11 rfl rfl)
theorem dX5_removesRequest_38 : decode cX5_removesRequest 38 = .ok (.goto (-33), 3) := dk_167 255 223 (dk_at dksX5_removesRequest_1 14 rfl rfl)
theorem dX5_removesRequest_41 : decode cX5_removesRequest 41 = .ok (.aload_n 0, 1) := dk_42 (dk_at dksX5_removesRequest_1 17 rfl rfl)
theorem dX5_removesRequest_42 : decode cX5_removesRequest 42 = .ok (.getfield 36, 3) := dk_180 0 36 (dk_at dksX5_removesRequest_1 18 rfl rfl)
theorem dX5_removesRequest_45 : decode cX5_removesRequest 45 = .ok (.iconst 2, 1) := dk_5 (dk_at dksX5_removesRequest_1 21 rfl rfl)
theorem dX5_removesRequest_46 : decode cX5_removesRequest 46 = .ok (.dup2, 1) := dk_92 (dk_at dksX5_removesRequest_1 22 rfl rfl)
theorem dX5_removesRequest_47 : decode cX5_removesRequest 47 = .ok (.iaload, 1) := dk_46 (dk_at dksX5_removesRequest_1 23 rfl rfl)
theorem dX5_removesRequest_48 : decode cX5_removesRequest 48 = .ok (.iconst 1, 1) := dk_4 (dk_at dksX5_removesRequest_2 0 rfl rfl)
theorem dX5_removesRequest_49 : decode cX5_removesRequest 49 = .ok (.isub, 1) := dk_100 (dk_at dksX5_removesRequest_2 1 rfl rfl)
theorem dX5_removesRequest_50 : decode cX5_removesRequest 50 = .ok (.iastore, 1) := dk_79 (dk_at dksX5_removesRequest_2 2 rfl rfl)
theorem dX5_removesRequest_51 : decode cX5_removesRequest 51 = .ok (.iconst 0, 1) := dk_3 (dk_at dksX5_removesRequest_2 3 rfl rfl)
theorem dX5_removesRequest_52 : decode cX5_removesRequest 52 = .ok (.istore_n 2, 1) := dk_61 (dk_at dksX5_removesRequest_2 4 rfl rfl)
theorem dX5_removesRequest_53 : decode cX5_removesRequest 53 = .ok (.iload_n 2, 1) := dk_28 (dk_at dksX5_removesRequest_2 5 rfl rfl)
theorem dX5_removesRequest_54 : decode cX5_removesRequest 54 = .ok (.bipush 11, 2) := dk_16 11 (dk_at dksX5_removesRequest_2 6 rfl rfl)
theorem dX5_removesRequest_56 : decode cX5_removesRequest 56 = .ok (.if_icmp .ge 26, 3) := dk_162 0 26 (dk_at dksX5_removesRequest_2 8 rfl rfl)
theorem dX5_removesRequest_59 : decode cX5_removesRequest 59 = .ok (.aload_n 0, 1) := dk_42 (dk_at dksX5_removesRequest_2 11 rfl rfl)
theorem dX5_removesRequest_60 : decode cX5_removesRequest 60 = .ok (.getfield 36, 3) := dk_180 0 36 (dk_at dksX5_removesRequest_2 12 rfl rfl)
theorem dX5_removesRequest_63 : decode cX5_removesRequest 63 = .ok (.aload_n 0, 1) := dk_42 (dk_at dksX5_removesRequest_2 15 rfl rfl)
theorem dX5_removesRequest_64 : decode cX5_removesRequest 64 = .ok (.getfield 36, 3) := dk_180 0 36 (dk_at dksX5_removesRequest_2 16 rfl rfl)
theorem dX5_removesRequest_67 : decode cX5_removesRequest 67 = .ok (.iconst 2, 1) := dk_5 (dk_at dksX5_removesRequest_2 19 rfl rfl)
theorem dX5_removesRequest_68 : decode cX5_removesRequest 68 = .ok (.iaload, 1) := dk_46 (dk_at dksX5_removesRequest_2 20 rfl rfl)
theorem dX5_removesRequest_69 : decode cX5_removesRequest 69 = .ok (.invokestatic 326, 3) := dk_184 1 70 (dk_at dksX5_removesRequest_2 21 rfl rfl)
theorem dX5_removesRequest_72 : decode cX5_removesRequest 72 = .ok (.iload_n 2, 1) := dk_28 (dk_at dksX5_removesRequest_3 0 rfl rfl)
theorem dX5_removesRequest_73 : decode cX5_removesRequest 73 = .ok (.iadd, 1) := dk_96 (dk_at dksX5_removesRequest_3 1 rfl rfl)
theorem dX5_removesRequest_74 : decode cX5_removesRequest 74 = .ok (.iconst 0, 1) := dk_3 (dk_at dksX5_removesRequest_3 2 rfl rfl)
theorem dX5_removesRequest_75 : decode cX5_removesRequest 75 = .ok (.iastore, 1) := dk_79 (dk_at dksX5_removesRequest_3 3 rfl rfl)
theorem dX5_removesRequest_76 : decode cX5_removesRequest 76 = .ok (.iinc 2 1, 3) := dk_132 2 1 (dk_at dksX5_removesRequest_3 4 rfl rfl)
theorem dX5_removesRequest_79 : decode cX5_removesRequest 79 = .ok (.goto (-26), 3) := dk_167 255 230 (dk_at dksX5_removesRequest_3 7 rfl rfl)
theorem dX5_removesRequest_82 : decode cX5_removesRequest 82 = .ok (.return_, 1) := dk_177 (dk_at dksX5_removesRequest_3 10 rfl rfl)
abbrev cX5_move : ByteArray := prog_17_method_78_code
def yX5_move : MethodName := ⟨RX5, "move", "(III)I"⟩
def dkwX5_move_2 : List UInt8 := [182, 1, 58, 42, 27, 28, 29, 182, 1, 48, 42, 27, 182, 1, 64, 172]
abbrev dktX5_move_2 : List UInt8 := dkwX5_move_2 ++ []
def dkwX5_move_1 : List UInt8 := [182, 1, 79, 153, 0, 13, 42, 27, 28, 29, 182, 1, 91, 153, 0, 9, 42, 6, 182, 0, 83, 172, 42]
abbrev dktX5_move_1 : List UInt8 := dkwX5_move_1 ++ dktX5_move_2
def dkwX5_move_0 : List UInt8 := [42, 42, 27, 28, 29, 182, 1, 88, 181, 0, 3, 42, 180, 0, 3, 158, 0, 5, 3, 172, 42, 27]
abbrev dktX5_move_0 : List UInt8 := dkwX5_move_0 ++ dktX5_move_1
theorem dksX5_move_0 : cX5_move.data.toList.drop 0 = dktX5_move_0 := by decide +kernel
theorem dksX5_move_1 : cX5_move.data.toList.drop 22 = dktX5_move_1 := dk_seg dksX5_move_0 22 rfl rfl
theorem dksX5_move_2 : cX5_move.data.toList.drop 45 = dktX5_move_2 := dk_seg dksX5_move_1 23 rfl rfl
theorem dX5_move_0 : decode cX5_move 0 = .ok (.aload_n 0, 1) := dk_42 (dk_at dksX5_move_0 0 rfl rfl)
theorem dX5_move_1 : decode cX5_move 1 = .ok (.aload_n 0, 1) := dk_42 (dk_at dksX5_move_0 1 rfl rfl)
theorem dX5_move_2 : decode cX5_move 2 = .ok (.iload_n 1, 1) := dk_27 (dk_at dksX5_move_0 2 rfl rfl)
theorem dX5_move_3 : decode cX5_move 3 = .ok (.iload_n 2, 1) := dk_28 (dk_at dksX5_move_0 3 rfl rfl)
theorem dX5_move_4 : decode cX5_move 4 = .ok (.iload_n 3, 1) := dk_29 (dk_at dksX5_move_0 4 rfl rfl)
theorem dX5_move_5 : decode cX5_move 5 = .ok (.invokevirtual 344, 3) := dk_182 1 88 (dk_at dksX5_move_0 5 rfl rfl)
theorem dX5_move_8 : decode cX5_move 8 = .ok (.putfield 3, 3) := dk_181 0 3 (dk_at dksX5_move_0 8 rfl rfl)
theorem dX5_move_11 : decode cX5_move 11 = .ok (.aload_n 0, 1) := dk_42 (dk_at dksX5_move_0 11 rfl rfl)
theorem dX5_move_12 : decode cX5_move 12 = .ok (.getfield 3, 3) := dk_180 0 3 (dk_at dksX5_move_0 12 rfl rfl)
theorem dX5_move_15 : decode cX5_move 15 = .ok (.ifCond .le 5, 3) := dk_158 0 5 (dk_at dksX5_move_0 15 rfl rfl)
theorem dX5_move_18 : decode cX5_move 18 = .ok (.iconst 0, 1) := dk_3 (dk_at dksX5_move_0 18 rfl rfl)
theorem dX5_move_19 : decode cX5_move 19 = .ok (.ireturn, 1) := dk_172 (dk_at dksX5_move_0 19 rfl rfl)
theorem dX5_move_20 : decode cX5_move 20 = .ok (.aload_n 0, 1) := dk_42 (dk_at dksX5_move_0 20 rfl rfl)
theorem dX5_move_21 : decode cX5_move 21 = .ok (.iload_n 1, 1) := dk_27 (dk_at dksX5_move_0 21 rfl rfl)
theorem dX5_move_22 : decode cX5_move 22 = .ok (.invokevirtual 335, 3) := dk_182 1 79 (dk_at dksX5_move_1 0 rfl rfl)
theorem dX5_move_25 : decode cX5_move 25 = .ok (.ifCond .eq 13, 3) := dk_153 0 13 (dk_at dksX5_move_1 3 rfl rfl)
theorem dX5_move_28 : decode cX5_move 28 = .ok (.aload_n 0, 1) := dk_42 (dk_at dksX5_move_1 6 rfl rfl)
theorem dX5_move_29 : decode cX5_move 29 = .ok (.iload_n 1, 1) := dk_27 (dk_at dksX5_move_1 7 rfl rfl)
theorem dX5_move_30 : decode cX5_move 30 = .ok (.iload_n 2, 1) := dk_28 (dk_at dksX5_move_1 8 rfl rfl)
theorem dX5_move_31 : decode cX5_move 31 = .ok (.iload_n 3, 1) := dk_29 (dk_at dksX5_move_1 9 rfl rfl)
theorem dX5_move_32 : decode cX5_move 32 = .ok (.invokevirtual 347, 3) := dk_182 1 91 (dk_at dksX5_move_1 10 rfl rfl)
theorem dX5_move_35 : decode cX5_move 35 = .ok (.ifCond .eq 9, 3) := dk_153 0 9 (dk_at dksX5_move_1 13 rfl rfl)
theorem dX5_move_38 : decode cX5_move 38 = .ok (.aload_n 0, 1) := dk_42 (dk_at dksX5_move_1 16 rfl rfl)
theorem dX5_move_39 : decode cX5_move 39 = .ok (.iconst 3, 1) := dk_6 (dk_at dksX5_move_1 17 rfl rfl)
theorem dX5_move_40 : decode cX5_move 40 = .ok (.invokevirtual 83, 3) := dk_182 0 83 (dk_at dksX5_move_1 18 rfl rfl)
theorem dX5_move_43 : decode cX5_move 43 = .ok (.ireturn, 1) := dk_172 (dk_at dksX5_move_1 21 rfl rfl)
theorem dX5_move_44 : decode cX5_move 44 = .ok (.aload_n 0, 1) := dk_42 (dk_at dksX5_move_1 22 rfl rfl)
theorem dX5_move_45 : decode cX5_move 45 = .ok (.invokevirtual 314, 3) := dk_182 1 58 (dk_at dksX5_move_2 0 rfl rfl)
theorem dX5_move_48 : decode cX5_move 48 = .ok (.aload_n 0, 1) := dk_42 (dk_at dksX5_move_2 3 rfl rfl)
theorem dX5_move_49 : decode cX5_move 49 = .ok (.iload_n 1, 1) := dk_27 (dk_at dksX5_move_2 4 rfl rfl)
theorem dX5_move_50 : decode cX5_move 50 = .ok (.iload_n 2, 1) := dk_28 (dk_at dksX5_move_2 5 rfl rfl)
theorem dX5_move_51 : decode cX5_move 51 = .ok (.iload_n 3, 1) := dk_29 (dk_at dksX5_move_2 6 rfl rfl)
theorem dX5_move_52 : decode cX5_move 52 = .ok (.invokevirtual 304, 3) := dk_182 1 48 (dk_at dksX5_move_2 7 rfl rfl)
theorem dX5_move_55 : decode cX5_move 55 = .ok (.aload_n 0, 1) := dk_42 (dk_at dksX5_move_2 10 rfl rfl)
theorem dX5_move_56 : decode cX5_move 56 = .ok (.iload_n 1, 1) := dk_27 (dk_at dksX5_move_2 11 rfl rfl)
theorem dX5_move_57 : decode cX5_move 57 = .ok (.invokevirtual 320, 3) := dk_182 1 64 (dk_at dksX5_move_2 12 rfl rfl)
theorem dX5_move_60 : decode cX5_move 60 = .ok (.ireturn, 1) := dk_172 (dk_at dksX5_move_2 15 rfl rfl)
abbrev cX5_whyNotBooking : ByteArray := prog_17_method_77_code
def yX5_whyNotBooking : MethodName := ⟨RX5, "whyNotBooking", "(III)I"⟩
def dkwX5_whyNotBooking_1 : List UInt8 := [154, 0, 7, 5, 167, 0, 4, 3, 172]
abbrev dktX5_whyNotBooking_1 : List UInt8 := dkwX5_whyNotBooking_1 ++ []
def dkwX5_whyNotBooking_0 : List UInt8 := [42, 27, 182, 1, 76, 153, 0, 11, 42, 28, 182, 1, 42, 154, 0, 7, 4, 167, 0, 15, 29, 184, 1, 45]
abbrev dktX5_whyNotBooking_0 : List UInt8 := dkwX5_whyNotBooking_0 ++ dktX5_whyNotBooking_1
theorem dksX5_whyNotBooking_0 : cX5_whyNotBooking.data.toList.drop 0 = dktX5_whyNotBooking_0 := by decide +kernel
theorem dksX5_whyNotBooking_1 : cX5_whyNotBooking.data.toList.drop 24 = dktX5_whyNotBooking_1 := dk_seg dksX5_whyNotBooking_0 24 rfl rfl
theorem dX5_whyNotBooking_0 : decode cX5_whyNotBooking 0 = .ok (.aload_n 0, 1) := dk_42 (dk_at dksX5_whyNotBooking_0 0 rfl rfl)
theorem dX5_whyNotBooking_1 : decode cX5_whyNotBooking 1 = .ok (.iload_n 1, 1) := dk_27 (dk_at dksX5_whyNotBooking_0 1 rfl rfl)
theorem dX5_whyNotBooking_2 : decode cX5_whyNotBooking 2 = .ok (.invokevirtual 332, 3) := dk_182 1 76 (dk_at dksX5_whyNotBooking_0 2 rfl rfl)
theorem dX5_whyNotBooking_5 : decode cX5_whyNotBooking 5 = .ok (.ifCond .eq 11, 3) := dk_153 0 11 (dk_at dksX5_whyNotBooking_0 5 rfl rfl)
theorem dX5_whyNotBooking_8 : decode cX5_whyNotBooking 8 = .ok (.aload_n 0, 1) := dk_42 (dk_at dksX5_whyNotBooking_0 8 rfl rfl)
theorem dX5_whyNotBooking_9 : decode cX5_whyNotBooking 9 = .ok (.iload_n 2, 1) := dk_28 (dk_at dksX5_whyNotBooking_0 9 rfl rfl)
theorem dX5_whyNotBooking_10 : decode cX5_whyNotBooking 10 = .ok (.invokevirtual 298, 3) := dk_182 1 42 (dk_at dksX5_whyNotBooking_0 10 rfl rfl)
theorem dX5_whyNotBooking_13 : decode cX5_whyNotBooking 13 = .ok (.ifCond .ne 7, 3) := dk_154 0 7 (dk_at dksX5_whyNotBooking_0 13 rfl rfl)
theorem dX5_whyNotBooking_16 : decode cX5_whyNotBooking 16 = .ok (.iconst 1, 1) := dk_4 (dk_at dksX5_whyNotBooking_0 16 rfl rfl)
theorem dX5_whyNotBooking_17 : decode cX5_whyNotBooking 17 = .ok (.goto 15, 3) := dk_167 0 15 (dk_at dksX5_whyNotBooking_0 17 rfl rfl)
theorem dX5_whyNotBooking_20 : decode cX5_whyNotBooking 20 = .ok (.iload_n 3, 1) := dk_29 (dk_at dksX5_whyNotBooking_0 20 rfl rfl)
theorem dX5_whyNotBooking_21 : decode cX5_whyNotBooking 21 = .ok (.invokestatic 301, 3) := dk_184 1 45 (dk_at dksX5_whyNotBooking_0 21 rfl rfl)
theorem dX5_whyNotBooking_24 : decode cX5_whyNotBooking 24 = .ok (.ifCond .ne 7, 3) := dk_154 0 7 (dk_at dksX5_whyNotBooking_1 0 rfl rfl)
theorem dX5_whyNotBooking_27 : decode cX5_whyNotBooking 27 = .ok (.iconst 2, 1) := dk_5 (dk_at dksX5_whyNotBooking_1 3 rfl rfl)
theorem dX5_whyNotBooking_28 : decode cX5_whyNotBooking 28 = .ok (.goto 4, 3) := dk_167 0 4 (dk_at dksX5_whyNotBooking_1 4 rfl rfl)
theorem dX5_whyNotBooking_31 : decode cX5_whyNotBooking 31 = .ok (.iconst 0, 1) := dk_3 (dk_at dksX5_whyNotBooking_1 7 rfl rfl)
theorem dX5_whyNotBooking_32 : decode cX5_whyNotBooking 32 = .ok (.ireturn, 1) := dk_172 (dk_at dksX5_whyNotBooking_1 8 rfl rfl)
abbrev cX5_bookingProblem : ByteArray := prog_17_method_63_code
def yX5_bookingProblem : MethodName := ⟨RX5, "bookingProblem", "(III)I"⟩
def dkwX5_bookingProblem_1 : List UInt8 := [27, 4, 84, 42, 28, 29, 182, 1, 27, 54, 5, 42, 180, 0, 48, 27, 21, 4, 84, 21, 5, 172]
abbrev dktX5_bookingProblem_1 : List UInt8 := dkwX5_bookingProblem_1 ++ []
def dkwX5_bookingProblem_0 : List UInt8 := [42, 42, 180, 0, 36, 27, 184, 0, 225, 182, 1, 23, 42, 180, 0, 48, 27, 51, 54, 4, 42, 180, 0, 48]
abbrev dktX5_bookingProblem_0 : List UInt8 := dkwX5_bookingProblem_0 ++ dktX5_bookingProblem_1
theorem dksX5_bookingProblem_0 : cX5_bookingProblem.data.toList.drop 0 = dktX5_bookingProblem_0 := by decide +kernel
theorem dksX5_bookingProblem_1 : cX5_bookingProblem.data.toList.drop 24 = dktX5_bookingProblem_1 := dk_seg dksX5_bookingProblem_0 24 rfl rfl
theorem dX5_bookingProblem_0 : decode cX5_bookingProblem 0 = .ok (.aload_n 0, 1) := dk_42 (dk_at dksX5_bookingProblem_0 0 rfl rfl)
theorem dX5_bookingProblem_1 : decode cX5_bookingProblem 1 = .ok (.aload_n 0, 1) := dk_42 (dk_at dksX5_bookingProblem_0 1 rfl rfl)
theorem dX5_bookingProblem_2 : decode cX5_bookingProblem 2 = .ok (.getfield 36, 3) := dk_180 0 36 (dk_at dksX5_bookingProblem_0 2 rfl rfl)
theorem dX5_bookingProblem_5 : decode cX5_bookingProblem 5 = .ok (.iload_n 1, 1) := dk_27 (dk_at dksX5_bookingProblem_0 5 rfl rfl)
theorem dX5_bookingProblem_6 : decode cX5_bookingProblem 6 = .ok (.invokestatic 225, 3) := dk_184 0 225 (dk_at dksX5_bookingProblem_0 6 rfl rfl)
theorem dX5_bookingProblem_9 : decode cX5_bookingProblem 9 = .ok (.invokevirtual 279, 3) := dk_182 1 23 (dk_at dksX5_bookingProblem_0 9 rfl rfl)
theorem dX5_bookingProblem_12 : decode cX5_bookingProblem 12 = .ok (.aload_n 0, 1) := dk_42 (dk_at dksX5_bookingProblem_0 12 rfl rfl)
theorem dX5_bookingProblem_13 : decode cX5_bookingProblem 13 = .ok (.getfield 48, 3) := dk_180 0 48 (dk_at dksX5_bookingProblem_0 13 rfl rfl)
theorem dX5_bookingProblem_16 : decode cX5_bookingProblem 16 = .ok (.iload_n 1, 1) := dk_27 (dk_at dksX5_bookingProblem_0 16 rfl rfl)
theorem dX5_bookingProblem_17 : decode cX5_bookingProblem 17 = .ok (.baload, 1) := dk_51 (dk_at dksX5_bookingProblem_0 17 rfl rfl)
theorem dX5_bookingProblem_18 : decode cX5_bookingProblem 18 = .ok (.istore 4, 2) := dk_54 4 (dk_at dksX5_bookingProblem_0 18 rfl rfl)
theorem dX5_bookingProblem_20 : decode cX5_bookingProblem 20 = .ok (.aload_n 0, 1) := dk_42 (dk_at dksX5_bookingProblem_0 20 rfl rfl)
theorem dX5_bookingProblem_21 : decode cX5_bookingProblem 21 = .ok (.getfield 48, 3) := dk_180 0 48 (dk_at dksX5_bookingProblem_0 21 rfl rfl)
theorem dX5_bookingProblem_24 : decode cX5_bookingProblem 24 = .ok (.iload_n 1, 1) := dk_27 (dk_at dksX5_bookingProblem_1 0 rfl rfl)
theorem dX5_bookingProblem_25 : decode cX5_bookingProblem 25 = .ok (.iconst 1, 1) := dk_4 (dk_at dksX5_bookingProblem_1 1 rfl rfl)
theorem dX5_bookingProblem_26 : decode cX5_bookingProblem 26 = .ok (.bastore, 1) := dk_84 (dk_at dksX5_bookingProblem_1 2 rfl rfl)
theorem dX5_bookingProblem_27 : decode cX5_bookingProblem 27 = .ok (.aload_n 0, 1) := dk_42 (dk_at dksX5_bookingProblem_1 3 rfl rfl)
theorem dX5_bookingProblem_28 : decode cX5_bookingProblem 28 = .ok (.iload_n 2, 1) := dk_28 (dk_at dksX5_bookingProblem_1 4 rfl rfl)
theorem dX5_bookingProblem_29 : decode cX5_bookingProblem 29 = .ok (.iload_n 3, 1) := dk_29 (dk_at dksX5_bookingProblem_1 5 rfl rfl)
theorem dX5_bookingProblem_30 : decode cX5_bookingProblem 30 = .ok (.invokevirtual 283, 3) := dk_182 1 27 (dk_at dksX5_bookingProblem_1 6 rfl rfl)
theorem dX5_bookingProblem_33 : decode cX5_bookingProblem 33 = .ok (.istore 5, 2) := dk_54 5 (dk_at dksX5_bookingProblem_1 9 rfl rfl)
theorem dX5_bookingProblem_35 : decode cX5_bookingProblem 35 = .ok (.aload_n 0, 1) := dk_42 (dk_at dksX5_bookingProblem_1 11 rfl rfl)
theorem dX5_bookingProblem_36 : decode cX5_bookingProblem 36 = .ok (.getfield 48, 3) := dk_180 0 48 (dk_at dksX5_bookingProblem_1 12 rfl rfl)
theorem dX5_bookingProblem_39 : decode cX5_bookingProblem 39 = .ok (.iload_n 1, 1) := dk_27 (dk_at dksX5_bookingProblem_1 15 rfl rfl)
theorem dX5_bookingProblem_40 : decode cX5_bookingProblem 40 = .ok (.iload 4, 2) := dk_21 4 (dk_at dksX5_bookingProblem_1 16 rfl rfl)
theorem dX5_bookingProblem_42 : decode cX5_bookingProblem 42 = .ok (.bastore, 1) := dk_84 (dk_at dksX5_bookingProblem_1 18 rfl rfl)
theorem dX5_bookingProblem_43 : decode cX5_bookingProblem 43 = .ok (.iload 5, 2) := dk_21 5 (dk_at dksX5_bookingProblem_1 19 rfl rfl)
theorem dX5_bookingProblem_45 : decode cX5_bookingProblem 45 = .ok (.ireturn, 1) := dk_172 (dk_at dksX5_bookingProblem_1 21 rfl rfl)
abbrev cX5_moveByChain : ByteArray := prog_17_method_84_code
def yX5_moveByChain : MethodName := ⟨RX5, "moveByChain", "(III)I"⟩
def dkwX5_moveByChain_2 : List UInt8 := [182, 1, 58, 42, 28, 29, 182, 1, 109, 42, 180, 1, 97, 172]
abbrev dktX5_moveByChain_2 : List UInt8 := dkwX5_moveByChain_2 ++ []
def dkwX5_moveByChain_1 : List UInt8 := [182, 0, 236, 153, 0, 13, 42, 27, 28, 29, 182, 1, 106, 154, 0, 9, 42, 6, 182, 0, 83, 172, 42]
abbrev dktX5_moveByChain_1 : List UInt8 := dkwX5_moveByChain_1 ++ dktX5_moveByChain_2
def dkwX5_moveByChain_0 : List UInt8 := [42, 42, 27, 28, 29, 182, 1, 88, 181, 0, 3, 42, 180, 0, 3, 158, 0, 5, 3, 172, 42, 27]
abbrev dktX5_moveByChain_0 : List UInt8 := dkwX5_moveByChain_0 ++ dktX5_moveByChain_1
theorem dksX5_moveByChain_0 : cX5_moveByChain.data.toList.drop 0 = dktX5_moveByChain_0 := by decide +kernel
theorem dksX5_moveByChain_1 : cX5_moveByChain.data.toList.drop 22 = dktX5_moveByChain_1 := dk_seg dksX5_moveByChain_0 22 rfl rfl
theorem dksX5_moveByChain_2 : cX5_moveByChain.data.toList.drop 45 = dktX5_moveByChain_2 := dk_seg dksX5_moveByChain_1 23 rfl rfl
theorem dX5_moveByChain_0 : decode cX5_moveByChain 0 = .ok (.aload_n 0, 1) := dk_42 (dk_at dksX5_moveByChain_0 0 rfl rfl)
theorem dX5_moveByChain_1 : decode cX5_moveByChain 1 = .ok (.aload_n 0, 1) := dk_42 (dk_at dksX5_moveByChain_0 1 rfl rfl)
theorem dX5_moveByChain_2 : decode cX5_moveByChain 2 = .ok (.iload_n 1, 1) := dk_27 (dk_at dksX5_moveByChain_0 2 rfl rfl)
theorem dX5_moveByChain_3 : decode cX5_moveByChain 3 = .ok (.iload_n 2, 1) := dk_28 (dk_at dksX5_moveByChain_0 3 rfl rfl)
theorem dX5_moveByChain_4 : decode cX5_moveByChain 4 = .ok (.iload_n 3, 1) := dk_29 (dk_at dksX5_moveByChain_0 4 rfl rfl)
theorem dX5_moveByChain_5 : decode cX5_moveByChain 5 = .ok (.invokevirtual 344, 3) := dk_182 1 88 (dk_at dksX5_moveByChain_0 5 rfl rfl)
theorem dX5_moveByChain_8 : decode cX5_moveByChain 8 = .ok (.putfield 3, 3) := dk_181 0 3 (dk_at dksX5_moveByChain_0 8 rfl rfl)
theorem dX5_moveByChain_11 : decode cX5_moveByChain 11 = .ok (.aload_n 0, 1) := dk_42 (dk_at dksX5_moveByChain_0 11 rfl rfl)
theorem dX5_moveByChain_12 : decode cX5_moveByChain 12 = .ok (.getfield 3, 3) := dk_180 0 3 (dk_at dksX5_moveByChain_0 12 rfl rfl)
theorem dX5_moveByChain_15 : decode cX5_moveByChain 15 = .ok (.ifCond .le 5, 3) := dk_158 0 5 (dk_at dksX5_moveByChain_0 15 rfl rfl)
theorem dX5_moveByChain_18 : decode cX5_moveByChain 18 = .ok (.iconst 0, 1) := dk_3 (dk_at dksX5_moveByChain_0 18 rfl rfl)
theorem dX5_moveByChain_19 : decode cX5_moveByChain 19 = .ok (.ireturn, 1) := dk_172 (dk_at dksX5_moveByChain_0 19 rfl rfl)
theorem dX5_moveByChain_20 : decode cX5_moveByChain 20 = .ok (.aload_n 0, 1) := dk_42 (dk_at dksX5_moveByChain_0 20 rfl rfl)
theorem dX5_moveByChain_21 : decode cX5_moveByChain 21 = .ok (.iload_n 1, 1) := dk_27 (dk_at dksX5_moveByChain_0 21 rfl rfl)
theorem dX5_moveByChain_22 : decode cX5_moveByChain 22 = .ok (.invokevirtual 236, 3) := dk_182 0 236 (dk_at dksX5_moveByChain_1 0 rfl rfl)
theorem dX5_moveByChain_25 : decode cX5_moveByChain 25 = .ok (.ifCond .eq 13, 3) := dk_153 0 13 (dk_at dksX5_moveByChain_1 3 rfl rfl)
theorem dX5_moveByChain_28 : decode cX5_moveByChain 28 = .ok (.aload_n 0, 1) := dk_42 (dk_at dksX5_moveByChain_1 6 rfl rfl)
theorem dX5_moveByChain_29 : decode cX5_moveByChain 29 = .ok (.iload_n 1, 1) := dk_27 (dk_at dksX5_moveByChain_1 7 rfl rfl)
theorem dX5_moveByChain_30 : decode cX5_moveByChain 30 = .ok (.iload_n 2, 1) := dk_28 (dk_at dksX5_moveByChain_1 8 rfl rfl)
theorem dX5_moveByChain_31 : decode cX5_moveByChain 31 = .ok (.iload_n 3, 1) := dk_29 (dk_at dksX5_moveByChain_1 9 rfl rfl)
theorem dX5_moveByChain_32 : decode cX5_moveByChain 32 = .ok (.invokevirtual 362, 3) := dk_182 1 106 (dk_at dksX5_moveByChain_1 10 rfl rfl)
theorem dX5_moveByChain_35 : decode cX5_moveByChain 35 = .ok (.ifCond .ne 9, 3) := dk_154 0 9 (dk_at dksX5_moveByChain_1 13 rfl rfl)
theorem dX5_moveByChain_38 : decode cX5_moveByChain 38 = .ok (.aload_n 0, 1) := dk_42 (dk_at dksX5_moveByChain_1 16 rfl rfl)
theorem dX5_moveByChain_39 : decode cX5_moveByChain 39 = .ok (.iconst 3, 1) := dk_6 (dk_at dksX5_moveByChain_1 17 rfl rfl)
theorem dX5_moveByChain_40 : decode cX5_moveByChain 40 = .ok (.invokevirtual 83, 3) := dk_182 0 83 (dk_at dksX5_moveByChain_1 18 rfl rfl)
theorem dX5_moveByChain_43 : decode cX5_moveByChain 43 = .ok (.ireturn, 1) := dk_172 (dk_at dksX5_moveByChain_1 21 rfl rfl)
theorem dX5_moveByChain_44 : decode cX5_moveByChain 44 = .ok (.aload_n 0, 1) := dk_42 (dk_at dksX5_moveByChain_1 22 rfl rfl)
theorem dX5_moveByChain_45 : decode cX5_moveByChain 45 = .ok (.invokevirtual 314, 3) := dk_182 1 58 (dk_at dksX5_moveByChain_2 0 rfl rfl)
theorem dX5_moveByChain_48 : decode cX5_moveByChain 48 = .ok (.aload_n 0, 1) := dk_42 (dk_at dksX5_moveByChain_2 3 rfl rfl)
theorem dX5_moveByChain_49 : decode cX5_moveByChain 49 = .ok (.iload_n 2, 1) := dk_28 (dk_at dksX5_moveByChain_2 4 rfl rfl)
theorem dX5_moveByChain_50 : decode cX5_moveByChain 50 = .ok (.iload_n 3, 1) := dk_29 (dk_at dksX5_moveByChain_2 5 rfl rfl)
theorem dX5_moveByChain_51 : decode cX5_moveByChain 51 = .ok (.invokevirtual 365, 3) := dk_182 1 109 (dk_at dksX5_moveByChain_2 6 rfl rfl)
theorem dX5_moveByChain_54 : decode cX5_moveByChain 54 = .ok (.aload_n 0, 1) := dk_42 (dk_at dksX5_moveByChain_2 9 rfl rfl)
theorem dX5_moveByChain_55 : decode cX5_moveByChain 55 = .ok (.getfield 353, 3) := dk_180 1 97 (dk_at dksX5_moveByChain_2 10 rfl rfl)
theorem dX5_moveByChain_58 : decode cX5_moveByChain 58 = .ok (.ireturn, 1) := dk_172 (dk_at dksX5_moveByChain_2 13 rfl rfl)
abbrev cX5_seeks : ByteArray := prog_17_method_82_code
def yX5_seeks : MethodName := ⟨RX5, "seeks", "(III)I"⟩
def dkwX5_seeks_3 : List UInt8 := [172]
abbrev dktX5_seeks_3 : List UInt8 := dkwX5_seeks_3 ++ []
def dkwX5_seeks_2 : List UInt8 := [167, 0, 17, 42, 28, 29, 182, 1, 103, 153, 0, 7, 6, 167, 0, 4, 3, 181, 1, 97, 42, 180, 1, 97]
abbrev dktX5_seeks_2 : List UInt8 := dkwX5_seeks_2 ++ dktX5_seeks_3
def dkwX5_seeks_1 : List UInt8 := [4, 28, 29, 182, 1, 94, 153, 0, 7, 4, 167, 0, 30, 42, 28, 29, 182, 1, 100, 153, 0, 7, 5]
abbrev dktX5_seeks_1 : List UInt8 := dkwX5_seeks_1 ++ dktX5_seeks_2
def dkwX5_seeks_0 : List UInt8 := [42, 180, 0, 55, 3, 27, 79, 42, 3, 181, 1, 97, 42, 27, 182, 1, 79, 154, 0, 5, 3, 172, 42, 42]
abbrev dktX5_seeks_0 : List UInt8 := dkwX5_seeks_0 ++ dktX5_seeks_1
theorem dksX5_seeks_0 : cX5_seeks.data.toList.drop 0 = dktX5_seeks_0 := by decide +kernel
theorem dksX5_seeks_1 : cX5_seeks.data.toList.drop 24 = dktX5_seeks_1 := dk_seg dksX5_seeks_0 24 rfl rfl
theorem dksX5_seeks_2 : cX5_seeks.data.toList.drop 47 = dktX5_seeks_2 := dk_seg dksX5_seeks_1 23 rfl rfl
theorem dksX5_seeks_3 : cX5_seeks.data.toList.drop 71 = dktX5_seeks_3 := dk_seg dksX5_seeks_2 24 rfl rfl
theorem dX5_seeks_0 : decode cX5_seeks 0 = .ok (.aload_n 0, 1) := dk_42 (dk_at dksX5_seeks_0 0 rfl rfl)
theorem dX5_seeks_1 : decode cX5_seeks 1 = .ok (.getfield 55, 3) := dk_180 0 55 (dk_at dksX5_seeks_0 1 rfl rfl)
theorem dX5_seeks_4 : decode cX5_seeks 4 = .ok (.iconst 0, 1) := dk_3 (dk_at dksX5_seeks_0 4 rfl rfl)
theorem dX5_seeks_5 : decode cX5_seeks 5 = .ok (.iload_n 1, 1) := dk_27 (dk_at dksX5_seeks_0 5 rfl rfl)
theorem dX5_seeks_6 : decode cX5_seeks 6 = .ok (.iastore, 1) := dk_79 (dk_at dksX5_seeks_0 6 rfl rfl)
theorem dX5_seeks_7 : decode cX5_seeks 7 = .ok (.aload_n 0, 1) := dk_42 (dk_at dksX5_seeks_0 7 rfl rfl)
theorem dX5_seeks_8 : decode cX5_seeks 8 = .ok (.iconst 0, 1) := dk_3 (dk_at dksX5_seeks_0 8 rfl rfl)
theorem dX5_seeks_9 : decode cX5_seeks 9 = .ok (.putfield 353, 3) := dk_181 1 97 (dk_at dksX5_seeks_0 9 rfl rfl)
theorem dX5_seeks_12 : decode cX5_seeks 12 = .ok (.aload_n 0, 1) := dk_42 (dk_at dksX5_seeks_0 12 rfl rfl)
theorem dX5_seeks_13 : decode cX5_seeks 13 = .ok (.iload_n 1, 1) := dk_27 (dk_at dksX5_seeks_0 13 rfl rfl)
theorem dX5_seeks_14 : decode cX5_seeks 14 = .ok (.invokevirtual 335, 3) := dk_182 1 79 (dk_at dksX5_seeks_0 14 rfl rfl)
theorem dX5_seeks_17 : decode cX5_seeks 17 = .ok (.ifCond .ne 5, 3) := dk_154 0 5 (dk_at dksX5_seeks_0 17 rfl rfl)
theorem dX5_seeks_20 : decode cX5_seeks 20 = .ok (.iconst 0, 1) := dk_3 (dk_at dksX5_seeks_0 20 rfl rfl)
theorem dX5_seeks_21 : decode cX5_seeks 21 = .ok (.ireturn, 1) := dk_172 (dk_at dksX5_seeks_0 21 rfl rfl)
theorem dX5_seeks_22 : decode cX5_seeks 22 = .ok (.aload_n 0, 1) := dk_42 (dk_at dksX5_seeks_0 22 rfl rfl)
theorem dX5_seeks_23 : decode cX5_seeks 23 = .ok (.aload_n 0, 1) := dk_42 (dk_at dksX5_seeks_0 23 rfl rfl)
theorem dX5_seeks_24 : decode cX5_seeks 24 = .ok (.iconst 1, 1) := dk_4 (dk_at dksX5_seeks_1 0 rfl rfl)
theorem dX5_seeks_25 : decode cX5_seeks 25 = .ok (.iload_n 2, 1) := dk_28 (dk_at dksX5_seeks_1 1 rfl rfl)
theorem dX5_seeks_26 : decode cX5_seeks 26 = .ok (.iload_n 3, 1) := dk_29 (dk_at dksX5_seeks_1 2 rfl rfl)
theorem dX5_seeks_27 : decode cX5_seeks 27 = .ok (.invokevirtual 350, 3) := dk_182 1 94 (dk_at dksX5_seeks_1 3 rfl rfl)
theorem dX5_seeks_30 : decode cX5_seeks 30 = .ok (.ifCond .eq 7, 3) := dk_153 0 7 (dk_at dksX5_seeks_1 6 rfl rfl)
theorem dX5_seeks_33 : decode cX5_seeks 33 = .ok (.iconst 1, 1) := dk_4 (dk_at dksX5_seeks_1 9 rfl rfl)
theorem dX5_seeks_34 : decode cX5_seeks 34 = .ok (.goto 30, 3) := dk_167 0 30 (dk_at dksX5_seeks_1 10 rfl rfl)
theorem dX5_seeks_37 : decode cX5_seeks 37 = .ok (.aload_n 0, 1) := dk_42 (dk_at dksX5_seeks_1 13 rfl rfl)
theorem dX5_seeks_38 : decode cX5_seeks 38 = .ok (.iload_n 2, 1) := dk_28 (dk_at dksX5_seeks_1 14 rfl rfl)
theorem dX5_seeks_39 : decode cX5_seeks 39 = .ok (.iload_n 3, 1) := dk_29 (dk_at dksX5_seeks_1 15 rfl rfl)
theorem dX5_seeks_40 : decode cX5_seeks 40 = .ok (.invokevirtual 356, 3) := dk_182 1 100 (dk_at dksX5_seeks_1 16 rfl rfl)
theorem dX5_seeks_43 : decode cX5_seeks 43 = .ok (.ifCond .eq 7, 3) := dk_153 0 7 (dk_at dksX5_seeks_1 19 rfl rfl)
theorem dX5_seeks_46 : decode cX5_seeks 46 = .ok (.iconst 2, 1) := dk_5 (dk_at dksX5_seeks_1 22 rfl rfl)
theorem dX5_seeks_47 : decode cX5_seeks 47 = .ok (.goto 17, 3) := dk_167 0 17 (dk_at dksX5_seeks_2 0 rfl rfl)
theorem dX5_seeks_50 : decode cX5_seeks 50 = .ok (.aload_n 0, 1) := dk_42 (dk_at dksX5_seeks_2 3 rfl rfl)
theorem dX5_seeks_51 : decode cX5_seeks 51 = .ok (.iload_n 2, 1) := dk_28 (dk_at dksX5_seeks_2 4 rfl rfl)
theorem dX5_seeks_52 : decode cX5_seeks 52 = .ok (.iload_n 3, 1) := dk_29 (dk_at dksX5_seeks_2 5 rfl rfl)
theorem dX5_seeks_53 : decode cX5_seeks 53 = .ok (.invokevirtual 359, 3) := dk_182 1 103 (dk_at dksX5_seeks_2 6 rfl rfl)
theorem dX5_seeks_56 : decode cX5_seeks 56 = .ok (.ifCond .eq 7, 3) := dk_153 0 7 (dk_at dksX5_seeks_2 9 rfl rfl)
theorem dX5_seeks_59 : decode cX5_seeks 59 = .ok (.iconst 3, 1) := dk_6 (dk_at dksX5_seeks_2 12 rfl rfl)
theorem dX5_seeks_60 : decode cX5_seeks 60 = .ok (.goto 4, 3) := dk_167 0 4 (dk_at dksX5_seeks_2 13 rfl rfl)
theorem dX5_seeks_63 : decode cX5_seeks 63 = .ok (.iconst 0, 1) := dk_3 (dk_at dksX5_seeks_2 16 rfl rfl)
theorem dX5_seeks_64 : decode cX5_seeks 64 = .ok (.putfield 353, 3) := dk_181 1 97 (dk_at dksX5_seeks_2 17 rfl rfl)
theorem dX5_seeks_67 : decode cX5_seeks 67 = .ok (.aload_n 0, 1) := dk_42 (dk_at dksX5_seeks_2 20 rfl rfl)
theorem dX5_seeks_68 : decode cX5_seeks 68 = .ok (.getfield 353, 3) := dk_180 1 97 (dk_at dksX5_seeks_2 21 rfl rfl)
theorem dX5_seeks_71 : decode cX5_seeks 71 = .ok (.ireturn, 1) := dk_172 (dk_at dksX5_seeks_3 0 rfl rfl)
abbrev cX5_canTake : ByteArray := prog_17_method_79_code
def yX5_canTake : MethodName := ⟨RX5, "canTake", "(III)Z"⟩
def dkwX5_canTake_11 : List UInt8 := [132, 5, 1, 167, 255, 209, 21, 4, 172]
abbrev dktX5_canTake_11 : List UInt8 := dkwX5_canTake_11 ++ []
def dkwX5_canTake_10 : List UInt8 := [180, 0, 61, 21, 5, 46, 182, 1, 48, 42, 180, 0, 48, 42, 180, 0, 55, 21, 5, 46, 3, 84]
abbrev dktX5_canTake_10 : List UInt8 := dkwX5_canTake_10 ++ dktX5_canTake_11
def dkwX5_canTake_9 : List UInt8 := [54, 5, 21, 5, 27, 162, 0, 47, 42, 42, 180, 0, 55, 21, 5, 46, 42, 180, 0, 58, 21, 5, 46, 42]
abbrev dktX5_canTake_9 : List UInt8 := dkwX5_canTake_9 ++ dktX5_canTake_10
def dkwX5_canTake_8 : List UInt8 := [182, 1, 48, 42, 180, 0, 48, 42, 180, 0, 55, 21, 5, 46, 3, 84, 132, 5, 1, 167, 255, 125, 3]
abbrev dktX5_canTake_8 : List UInt8 := dkwX5_canTake_8 ++ dktX5_canTake_9
def dkwX5_canTake_7 : List UInt8 := [154, 0, 7, 4, 167, 0, 4, 3, 54, 4, 42, 42, 180, 0, 55, 21, 5, 46, 21, 7, 21, 8]
abbrev dktX5_canTake_7 : List UInt8 := dkwX5_canTake_7 ++ dktX5_canTake_8
def dkwX5_canTake_6 : List UInt8 := [180, 0, 36, 42, 180, 0, 55, 21, 5, 46, 184, 0, 225, 182, 1, 23, 42, 21, 7, 21, 8, 182, 1, 27]
abbrev dktX5_canTake_6 : List UInt8 := dkwX5_canTake_6 ++ dktX5_canTake_7
def dkwX5_canTake_5 : List UInt8 := [46, 54, 7, 21, 5, 154, 0, 7, 29, 167, 0, 10, 42, 180, 0, 61, 21, 6, 46, 54, 8, 42, 42]
abbrev dktX5_canTake_5 : List UInt8 := dkwX5_canTake_5 ++ dktX5_canTake_6
def dkwX5_canTake_4 : List UInt8 := [3, 167, 0, 6, 27, 4, 100, 54, 6, 21, 5, 154, 0, 7, 28, 167, 0, 10, 42, 180, 0, 58, 21, 6]
abbrev dktX5_canTake_4 : List UInt8 := dkwX5_canTake_4 ++ dktX5_canTake_5
def dkwX5_canTake_3 : List UInt8 := [54, 4, 3, 54, 5, 21, 5, 27, 162, 0, 131, 21, 4, 153, 0, 126, 21, 5, 27, 4, 100, 160, 0, 7]
abbrev dktX5_canTake_3 : List UInt8 := dkwX5_canTake_3 ++ dktX5_canTake_4
def dkwX5_canTake_2 : List UInt8 := [182, 0, 228, 79, 42, 180, 0, 48, 42, 180, 0, 55, 21, 4, 46, 4, 84, 132, 4, 1, 167, 255, 194, 4]
abbrev dktX5_canTake_2 : List UInt8 := dkwX5_canTake_2 ++ dktX5_canTake_3
def dkwX5_canTake_1 : List UInt8 := [16, 9, 182, 0, 228, 79, 42, 180, 0, 61, 21, 4, 42, 42, 180, 0, 55, 21, 4, 46, 16, 10]
abbrev dktX5_canTake_1 : List UInt8 := dkwX5_canTake_1 ++ dktX5_canTake_2
def dkwX5_canTake_0 : List UInt8 := [3, 54, 4, 21, 4, 27, 162, 0, 62, 42, 180, 0, 58, 21, 4, 42, 42, 180, 0, 55, 21, 4, 46]
abbrev dktX5_canTake_0 : List UInt8 := dkwX5_canTake_0 ++ dktX5_canTake_1
theorem dksX5_canTake_0 : cX5_canTake.data.toList.drop 0 = dktX5_canTake_0 := by decide +kernel
theorem dksX5_canTake_1 : cX5_canTake.data.toList.drop 23 = dktX5_canTake_1 := dk_seg dksX5_canTake_0 23 rfl rfl
theorem dksX5_canTake_2 : cX5_canTake.data.toList.drop 45 = dktX5_canTake_2 := dk_seg dksX5_canTake_1 22 rfl rfl
theorem dksX5_canTake_3 : cX5_canTake.data.toList.drop 69 = dktX5_canTake_3 := dk_seg dksX5_canTake_2 24 rfl rfl
theorem dksX5_canTake_4 : cX5_canTake.data.toList.drop 93 = dktX5_canTake_4 := dk_seg dksX5_canTake_3 24 rfl rfl
theorem dksX5_canTake_5 : cX5_canTake.data.toList.drop 117 = dktX5_canTake_5 := dk_seg dksX5_canTake_4 24 rfl rfl
theorem dksX5_canTake_6 : cX5_canTake.data.toList.drop 140 = dktX5_canTake_6 := dk_seg dksX5_canTake_5 23 rfl rfl
theorem dksX5_canTake_7 : cX5_canTake.data.toList.drop 164 = dktX5_canTake_7 := dk_seg dksX5_canTake_6 24 rfl rfl
theorem dksX5_canTake_8 : cX5_canTake.data.toList.drop 186 = dktX5_canTake_8 := dk_seg dksX5_canTake_7 22 rfl rfl
theorem dksX5_canTake_9 : cX5_canTake.data.toList.drop 209 = dktX5_canTake_9 := dk_seg dksX5_canTake_8 23 rfl rfl
theorem dksX5_canTake_10 : cX5_canTake.data.toList.drop 233 = dktX5_canTake_10 := dk_seg dksX5_canTake_9 24 rfl rfl
theorem dksX5_canTake_11 : cX5_canTake.data.toList.drop 255 = dktX5_canTake_11 := dk_seg dksX5_canTake_10 22 rfl rfl
theorem dX5_canTake_0 : decode cX5_canTake 0 = .ok (.iconst 0, 1) := dk_3 (dk_at dksX5_canTake_0 0 rfl rfl)
theorem dX5_canTake_1 : decode cX5_canTake 1 = .ok (.istore 4, 2) := dk_54 4 (dk_at dksX5_canTake_0 1 rfl rfl)
theorem dX5_canTake_3 : decode cX5_canTake 3 = .ok (.iload 4, 2) := dk_21 4 (dk_at dksX5_canTake_0 3 rfl rfl)
theorem dX5_canTake_5 : decode cX5_canTake 5 = .ok (.iload_n 1, 1) := dk_27 (dk_at dksX5_canTake_0 5 rfl rfl)
theorem dX5_canTake_6 : decode cX5_canTake 6 = .ok (.if_icmp .ge 62, 3) := dk_162 0 62 (dk_at dksX5_canTake_0 6 rfl rfl)
theorem dX5_canTake_9 : decode cX5_canTake 9 = .ok (.aload_n 0, 1) := dk_42 (dk_at dksX5_canTake_0 9 rfl rfl)
theorem dX5_canTake_10 : decode cX5_canTake 10 = .ok (.getfield 58, 3) := dk_180 0 58 (dk_at dksX5_canTake_0 10 rfl rfl)
theorem dX5_canTake_13 : decode cX5_canTake 13 = .ok (.iload 4, 2) := dk_21 4 (dk_at dksX5_canTake_0 13 rfl rfl)
theorem dX5_canTake_15 : decode cX5_canTake 15 = .ok (.aload_n 0, 1) := dk_42 (dk_at dksX5_canTake_0 15 rfl rfl)
theorem dX5_canTake_16 : decode cX5_canTake 16 = .ok (.aload_n 0, 1) := dk_42 (dk_at dksX5_canTake_0 16 rfl rfl)
theorem dX5_canTake_17 : decode cX5_canTake 17 = .ok (.getfield 55, 3) := dk_180 0 55 (dk_at dksX5_canTake_0 17 rfl rfl)
theorem dX5_canTake_20 : decode cX5_canTake 20 = .ok (.iload 4, 2) := dk_21 4 (dk_at dksX5_canTake_0 20 rfl rfl)
theorem dX5_canTake_22 : decode cX5_canTake 22 = .ok (.iaload, 1) := dk_46 (dk_at dksX5_canTake_0 22 rfl rfl)
theorem dX5_canTake_23 : decode cX5_canTake 23 = .ok (.bipush 9, 2) := dk_16 9 (dk_at dksX5_canTake_1 0 rfl rfl)
theorem dX5_canTake_25 : decode cX5_canTake 25 = .ok (.invokevirtual 228, 3) := dk_182 0 228 (dk_at dksX5_canTake_1 2 rfl rfl)
theorem dX5_canTake_28 : decode cX5_canTake 28 = .ok (.iastore, 1) := dk_79 (dk_at dksX5_canTake_1 5 rfl rfl)
theorem dX5_canTake_29 : decode cX5_canTake 29 = .ok (.aload_n 0, 1) := dk_42 (dk_at dksX5_canTake_1 6 rfl rfl)
theorem dX5_canTake_30 : decode cX5_canTake 30 = .ok (.getfield 61, 3) := dk_180 0 61 (dk_at dksX5_canTake_1 7 rfl rfl)
theorem dX5_canTake_33 : decode cX5_canTake 33 = .ok (.iload 4, 2) := dk_21 4 (dk_at dksX5_canTake_1 10 rfl rfl)
theorem dX5_canTake_35 : decode cX5_canTake 35 = .ok (.aload_n 0, 1) := dk_42 (dk_at dksX5_canTake_1 12 rfl rfl)
theorem dX5_canTake_36 : decode cX5_canTake 36 = .ok (.aload_n 0, 1) := dk_42 (dk_at dksX5_canTake_1 13 rfl rfl)
theorem dX5_canTake_37 : decode cX5_canTake 37 = .ok (.getfield 55, 3) := dk_180 0 55 (dk_at dksX5_canTake_1 14 rfl rfl)
theorem dX5_canTake_40 : decode cX5_canTake 40 = .ok (.iload 4, 2) := dk_21 4 (dk_at dksX5_canTake_1 17 rfl rfl)
theorem dX5_canTake_42 : decode cX5_canTake 42 = .ok (.iaload, 1) := dk_46 (dk_at dksX5_canTake_1 19 rfl rfl)
theorem dX5_canTake_43 : decode cX5_canTake 43 = .ok (.bipush 10, 2) := dk_16 10 (dk_at dksX5_canTake_1 20 rfl rfl)
theorem dX5_canTake_45 : decode cX5_canTake 45 = .ok (.invokevirtual 228, 3) := dk_182 0 228 (dk_at dksX5_canTake_2 0 rfl rfl)
theorem dX5_canTake_48 : decode cX5_canTake 48 = .ok (.iastore, 1) := dk_79 (dk_at dksX5_canTake_2 3 rfl rfl)
theorem dX5_canTake_49 : decode cX5_canTake 49 = .ok (.aload_n 0, 1) := dk_42 (dk_at dksX5_canTake_2 4 rfl rfl)
theorem dX5_canTake_50 : decode cX5_canTake 50 = .ok (.getfield 48, 3) := dk_180 0 48 (dk_at dksX5_canTake_2 5 rfl rfl)
theorem dX5_canTake_53 : decode cX5_canTake 53 = .ok (.aload_n 0, 1) := dk_42 (dk_at dksX5_canTake_2 8 rfl rfl)
theorem dX5_canTake_54 : decode cX5_canTake 54 = .ok (.getfield 55, 3) := dk_180 0 55 (dk_at dksX5_canTake_2 9 rfl rfl)
theorem dX5_canTake_57 : decode cX5_canTake 57 = .ok (.iload 4, 2) := dk_21 4 (dk_at dksX5_canTake_2 12 rfl rfl)
theorem dX5_canTake_59 : decode cX5_canTake 59 = .ok (.iaload, 1) := dk_46 (dk_at dksX5_canTake_2 14 rfl rfl)
theorem dX5_canTake_60 : decode cX5_canTake 60 = .ok (.iconst 1, 1) := dk_4 (dk_at dksX5_canTake_2 15 rfl rfl)
theorem dX5_canTake_61 : decode cX5_canTake 61 = .ok (.bastore, 1) := dk_84 (dk_at dksX5_canTake_2 16 rfl rfl)
theorem dX5_canTake_62 : decode cX5_canTake 62 = .ok (.iinc 4 1, 3) := dk_132 4 1 (dk_at dksX5_canTake_2 17 rfl rfl)
theorem dX5_canTake_65 : decode cX5_canTake 65 = .ok (.goto (-62), 3) := dk_167 255 194 (dk_at dksX5_canTake_2 20 rfl rfl)
theorem dX5_canTake_68 : decode cX5_canTake 68 = .ok (.iconst 1, 1) := dk_4 (dk_at dksX5_canTake_2 23 rfl rfl)
theorem dX5_canTake_69 : decode cX5_canTake 69 = .ok (.istore 4, 2) := dk_54 4 (dk_at dksX5_canTake_3 0 rfl rfl)
theorem dX5_canTake_71 : decode cX5_canTake 71 = .ok (.iconst 0, 1) := dk_3 (dk_at dksX5_canTake_3 2 rfl rfl)
theorem dX5_canTake_72 : decode cX5_canTake 72 = .ok (.istore 5, 2) := dk_54 5 (dk_at dksX5_canTake_3 3 rfl rfl)
theorem dX5_canTake_74 : decode cX5_canTake 74 = .ok (.iload 5, 2) := dk_21 5 (dk_at dksX5_canTake_3 5 rfl rfl)
theorem dX5_canTake_76 : decode cX5_canTake 76 = .ok (.iload_n 1, 1) := dk_27 (dk_at dksX5_canTake_3 7 rfl rfl)
theorem dX5_canTake_77 : decode cX5_canTake 77 = .ok (.if_icmp .ge 131, 3) := dk_162 0 131 (dk_at dksX5_canTake_3 8 rfl rfl)
theorem dX5_canTake_80 : decode cX5_canTake 80 = .ok (.iload 4, 2) := dk_21 4 (dk_at dksX5_canTake_3 11 rfl rfl)
theorem dX5_canTake_82 : decode cX5_canTake 82 = .ok (.ifCond .eq 126, 3) := dk_153 0 126 (dk_at dksX5_canTake_3 13 rfl rfl)
theorem dX5_canTake_85 : decode cX5_canTake 85 = .ok (.iload 5, 2) := dk_21 5 (dk_at dksX5_canTake_3 16 rfl rfl)
theorem dX5_canTake_87 : decode cX5_canTake 87 = .ok (.iload_n 1, 1) := dk_27 (dk_at dksX5_canTake_3 18 rfl rfl)
theorem dX5_canTake_88 : decode cX5_canTake 88 = .ok (.iconst 1, 1) := dk_4 (dk_at dksX5_canTake_3 19 rfl rfl)
theorem dX5_canTake_89 : decode cX5_canTake 89 = .ok (.isub, 1) := dk_100 (dk_at dksX5_canTake_3 20 rfl rfl)
theorem dX5_canTake_90 : decode cX5_canTake 90 = .ok (.if_icmp .ne 7, 3) := dk_160 0 7 (dk_at dksX5_canTake_3 21 rfl rfl)
theorem dX5_canTake_93 : decode cX5_canTake 93 = .ok (.iconst 0, 1) := dk_3 (dk_at dksX5_canTake_4 0 rfl rfl)
theorem dX5_canTake_94 : decode cX5_canTake 94 = .ok (.goto 6, 3) := dk_167 0 6 (dk_at dksX5_canTake_4 1 rfl rfl)
theorem dX5_canTake_97 : decode cX5_canTake 97 = .ok (.iload_n 1, 1) := dk_27 (dk_at dksX5_canTake_4 4 rfl rfl)
theorem dX5_canTake_98 : decode cX5_canTake 98 = .ok (.iconst 1, 1) := dk_4 (dk_at dksX5_canTake_4 5 rfl rfl)
theorem dX5_canTake_99 : decode cX5_canTake 99 = .ok (.isub, 1) := dk_100 (dk_at dksX5_canTake_4 6 rfl rfl)
theorem dX5_canTake_100 : decode cX5_canTake 100 = .ok (.istore 6, 2) := dk_54 6 (dk_at dksX5_canTake_4 7 rfl rfl)
theorem dX5_canTake_102 : decode cX5_canTake 102 = .ok (.iload 5, 2) := dk_21 5 (dk_at dksX5_canTake_4 9 rfl rfl)
theorem dX5_canTake_104 : decode cX5_canTake 104 = .ok (.ifCond .ne 7, 3) := dk_154 0 7 (dk_at dksX5_canTake_4 11 rfl rfl)
theorem dX5_canTake_107 : decode cX5_canTake 107 = .ok (.iload_n 2, 1) := dk_28 (dk_at dksX5_canTake_4 14 rfl rfl)
theorem dX5_canTake_108 : decode cX5_canTake 108 = .ok (.goto 10, 3) := dk_167 0 10 (dk_at dksX5_canTake_4 15 rfl rfl)
theorem dX5_canTake_111 : decode cX5_canTake 111 = .ok (.aload_n 0, 1) := dk_42 (dk_at dksX5_canTake_4 18 rfl rfl)
theorem dX5_canTake_112 : decode cX5_canTake 112 = .ok (.getfield 58, 3) := dk_180 0 58 (dk_at dksX5_canTake_4 19 rfl rfl)
theorem dX5_canTake_115 : decode cX5_canTake 115 = .ok (.iload 6, 2) := dk_21 6 (dk_at dksX5_canTake_4 22 rfl rfl)
theorem dX5_canTake_117 : decode cX5_canTake 117 = .ok (.iaload, 1) := dk_46 (dk_at dksX5_canTake_5 0 rfl rfl)
theorem dX5_canTake_118 : decode cX5_canTake 118 = .ok (.istore 7, 2) := dk_54 7 (dk_at dksX5_canTake_5 1 rfl rfl)
theorem dX5_canTake_120 : decode cX5_canTake 120 = .ok (.iload 5, 2) := dk_21 5 (dk_at dksX5_canTake_5 3 rfl rfl)
theorem dX5_canTake_122 : decode cX5_canTake 122 = .ok (.ifCond .ne 7, 3) := dk_154 0 7 (dk_at dksX5_canTake_5 5 rfl rfl)
theorem dX5_canTake_125 : decode cX5_canTake 125 = .ok (.iload_n 3, 1) := dk_29 (dk_at dksX5_canTake_5 8 rfl rfl)
theorem dX5_canTake_126 : decode cX5_canTake 126 = .ok (.goto 10, 3) := dk_167 0 10 (dk_at dksX5_canTake_5 9 rfl rfl)
theorem dX5_canTake_129 : decode cX5_canTake 129 = .ok (.aload_n 0, 1) := dk_42 (dk_at dksX5_canTake_5 12 rfl rfl)
theorem dX5_canTake_130 : decode cX5_canTake 130 = .ok (.getfield 61, 3) := dk_180 0 61 (dk_at dksX5_canTake_5 13 rfl rfl)
theorem dX5_canTake_133 : decode cX5_canTake 133 = .ok (.iload 6, 2) := dk_21 6 (dk_at dksX5_canTake_5 16 rfl rfl)
theorem dX5_canTake_135 : decode cX5_canTake 135 = .ok (.iaload, 1) := dk_46 (dk_at dksX5_canTake_5 18 rfl rfl)
theorem dX5_canTake_136 : decode cX5_canTake 136 = .ok (.istore 8, 2) := dk_54 8 (dk_at dksX5_canTake_5 19 rfl rfl)
theorem dX5_canTake_138 : decode cX5_canTake 138 = .ok (.aload_n 0, 1) := dk_42 (dk_at dksX5_canTake_5 21 rfl rfl)
theorem dX5_canTake_139 : decode cX5_canTake 139 = .ok (.aload_n 0, 1) := dk_42 (dk_at dksX5_canTake_5 22 rfl rfl)
theorem dX5_canTake_140 : decode cX5_canTake 140 = .ok (.getfield 36, 3) := dk_180 0 36 (dk_at dksX5_canTake_6 0 rfl rfl)
theorem dX5_canTake_143 : decode cX5_canTake 143 = .ok (.aload_n 0, 1) := dk_42 (dk_at dksX5_canTake_6 3 rfl rfl)
theorem dX5_canTake_144 : decode cX5_canTake 144 = .ok (.getfield 55, 3) := dk_180 0 55 (dk_at dksX5_canTake_6 4 rfl rfl)
theorem dX5_canTake_147 : decode cX5_canTake 147 = .ok (.iload 5, 2) := dk_21 5 (dk_at dksX5_canTake_6 7 rfl rfl)
theorem dX5_canTake_149 : decode cX5_canTake 149 = .ok (.iaload, 1) := dk_46 (dk_at dksX5_canTake_6 9 rfl rfl)
theorem dX5_canTake_150 : decode cX5_canTake 150 = .ok (.invokestatic 225, 3) := dk_184 0 225 (dk_at dksX5_canTake_6 10 rfl rfl)
theorem dX5_canTake_153 : decode cX5_canTake 153 = .ok (.invokevirtual 279, 3) := dk_182 1 23 (dk_at dksX5_canTake_6 13 rfl rfl)
theorem dX5_canTake_156 : decode cX5_canTake 156 = .ok (.aload_n 0, 1) := dk_42 (dk_at dksX5_canTake_6 16 rfl rfl)
theorem dX5_canTake_157 : decode cX5_canTake 157 = .ok (.iload 7, 2) := dk_21 7 (dk_at dksX5_canTake_6 17 rfl rfl)
theorem dX5_canTake_159 : decode cX5_canTake 159 = .ok (.iload 8, 2) := dk_21 8 (dk_at dksX5_canTake_6 19 rfl rfl)
theorem dX5_canTake_161 : decode cX5_canTake 161 = .ok (.invokevirtual 283, 3) := dk_182 1 27 (dk_at dksX5_canTake_6 21 rfl rfl)
theorem dX5_canTake_164 : decode cX5_canTake 164 = .ok (.ifCond .ne 7, 3) := dk_154 0 7 (dk_at dksX5_canTake_7 0 rfl rfl)
theorem dX5_canTake_167 : decode cX5_canTake 167 = .ok (.iconst 1, 1) := dk_4 (dk_at dksX5_canTake_7 3 rfl rfl)
theorem dX5_canTake_168 : decode cX5_canTake 168 = .ok (.goto 4, 3) := dk_167 0 4 (dk_at dksX5_canTake_7 4 rfl rfl)
theorem dX5_canTake_171 : decode cX5_canTake 171 = .ok (.iconst 0, 1) := dk_3 (dk_at dksX5_canTake_7 7 rfl rfl)
theorem dX5_canTake_172 : decode cX5_canTake 172 = .ok (.istore 4, 2) := dk_54 4 (dk_at dksX5_canTake_7 8 rfl rfl)
theorem dX5_canTake_174 : decode cX5_canTake 174 = .ok (.aload_n 0, 1) := dk_42 (dk_at dksX5_canTake_7 10 rfl rfl)
theorem dX5_canTake_175 : decode cX5_canTake 175 = .ok (.aload_n 0, 1) := dk_42 (dk_at dksX5_canTake_7 11 rfl rfl)
theorem dX5_canTake_176 : decode cX5_canTake 176 = .ok (.getfield 55, 3) := dk_180 0 55 (dk_at dksX5_canTake_7 12 rfl rfl)
theorem dX5_canTake_179 : decode cX5_canTake 179 = .ok (.iload 5, 2) := dk_21 5 (dk_at dksX5_canTake_7 15 rfl rfl)
theorem dX5_canTake_181 : decode cX5_canTake 181 = .ok (.iaload, 1) := dk_46 (dk_at dksX5_canTake_7 17 rfl rfl)
theorem dX5_canTake_182 : decode cX5_canTake 182 = .ok (.iload 7, 2) := dk_21 7 (dk_at dksX5_canTake_7 18 rfl rfl)
theorem dX5_canTake_184 : decode cX5_canTake 184 = .ok (.iload 8, 2) := dk_21 8 (dk_at dksX5_canTake_7 20 rfl rfl)
theorem dX5_canTake_186 : decode cX5_canTake 186 = .ok (.invokevirtual 304, 3) := dk_182 1 48 (dk_at dksX5_canTake_8 0 rfl rfl)
theorem dX5_canTake_189 : decode cX5_canTake 189 = .ok (.aload_n 0, 1) := dk_42 (dk_at dksX5_canTake_8 3 rfl rfl)
theorem dX5_canTake_190 : decode cX5_canTake 190 = .ok (.getfield 48, 3) := dk_180 0 48 (dk_at dksX5_canTake_8 4 rfl rfl)
theorem dX5_canTake_193 : decode cX5_canTake 193 = .ok (.aload_n 0, 1) := dk_42 (dk_at dksX5_canTake_8 7 rfl rfl)
theorem dX5_canTake_194 : decode cX5_canTake 194 = .ok (.getfield 55, 3) := dk_180 0 55 (dk_at dksX5_canTake_8 8 rfl rfl)
theorem dX5_canTake_197 : decode cX5_canTake 197 = .ok (.iload 5, 2) := dk_21 5 (dk_at dksX5_canTake_8 11 rfl rfl)
theorem dX5_canTake_199 : decode cX5_canTake 199 = .ok (.iaload, 1) := dk_46 (dk_at dksX5_canTake_8 13 rfl rfl)
theorem dX5_canTake_200 : decode cX5_canTake 200 = .ok (.iconst 0, 1) := dk_3 (dk_at dksX5_canTake_8 14 rfl rfl)
theorem dX5_canTake_201 : decode cX5_canTake 201 = .ok (.bastore, 1) := dk_84 (dk_at dksX5_canTake_8 15 rfl rfl)
theorem dX5_canTake_202 : decode cX5_canTake 202 = .ok (.iinc 5 1, 3) := dk_132 5 1 (dk_at dksX5_canTake_8 16 rfl rfl)
theorem dX5_canTake_205 : decode cX5_canTake 205 = .ok (.goto (-131), 3) := dk_167 255 125 (dk_at dksX5_canTake_8 19 rfl rfl)
theorem dX5_canTake_208 : decode cX5_canTake 208 = .ok (.iconst 0, 1) := dk_3 (dk_at dksX5_canTake_8 22 rfl rfl)
theorem dX5_canTake_209 : decode cX5_canTake 209 = .ok (.istore 5, 2) := dk_54 5 (dk_at dksX5_canTake_9 0 rfl rfl)
theorem dX5_canTake_211 : decode cX5_canTake 211 = .ok (.iload 5, 2) := dk_21 5 (dk_at dksX5_canTake_9 2 rfl rfl)
theorem dX5_canTake_213 : decode cX5_canTake 213 = .ok (.iload_n 1, 1) := dk_27 (dk_at dksX5_canTake_9 4 rfl rfl)
theorem dX5_canTake_214 : decode cX5_canTake 214 = .ok (.if_icmp .ge 47, 3) := dk_162 0 47 (dk_at dksX5_canTake_9 5 rfl rfl)
theorem dX5_canTake_217 : decode cX5_canTake 217 = .ok (.aload_n 0, 1) := dk_42 (dk_at dksX5_canTake_9 8 rfl rfl)
theorem dX5_canTake_218 : decode cX5_canTake 218 = .ok (.aload_n 0, 1) := dk_42 (dk_at dksX5_canTake_9 9 rfl rfl)
theorem dX5_canTake_219 : decode cX5_canTake 219 = .ok (.getfield 55, 3) := dk_180 0 55 (dk_at dksX5_canTake_9 10 rfl rfl)
theorem dX5_canTake_222 : decode cX5_canTake 222 = .ok (.iload 5, 2) := dk_21 5 (dk_at dksX5_canTake_9 13 rfl rfl)
theorem dX5_canTake_224 : decode cX5_canTake 224 = .ok (.iaload, 1) := dk_46 (dk_at dksX5_canTake_9 15 rfl rfl)
theorem dX5_canTake_225 : decode cX5_canTake 225 = .ok (.aload_n 0, 1) := dk_42 (dk_at dksX5_canTake_9 16 rfl rfl)
theorem dX5_canTake_226 : decode cX5_canTake 226 = .ok (.getfield 58, 3) := dk_180 0 58 (dk_at dksX5_canTake_9 17 rfl rfl)
theorem dX5_canTake_229 : decode cX5_canTake 229 = .ok (.iload 5, 2) := dk_21 5 (dk_at dksX5_canTake_9 20 rfl rfl)
theorem dX5_canTake_231 : decode cX5_canTake 231 = .ok (.iaload, 1) := dk_46 (dk_at dksX5_canTake_9 22 rfl rfl)
theorem dX5_canTake_232 : decode cX5_canTake 232 = .ok (.aload_n 0, 1) := dk_42 (dk_at dksX5_canTake_9 23 rfl rfl)
theorem dX5_canTake_233 : decode cX5_canTake 233 = .ok (.getfield 61, 3) := dk_180 0 61 (dk_at dksX5_canTake_10 0 rfl rfl)
theorem dX5_canTake_236 : decode cX5_canTake 236 = .ok (.iload 5, 2) := dk_21 5 (dk_at dksX5_canTake_10 3 rfl rfl)
theorem dX5_canTake_238 : decode cX5_canTake 238 = .ok (.iaload, 1) := dk_46 (dk_at dksX5_canTake_10 5 rfl rfl)
theorem dX5_canTake_239 : decode cX5_canTake 239 = .ok (.invokevirtual 304, 3) := dk_182 1 48 (dk_at dksX5_canTake_10 6 rfl rfl)
theorem dX5_canTake_242 : decode cX5_canTake 242 = .ok (.aload_n 0, 1) := dk_42 (dk_at dksX5_canTake_10 9 rfl rfl)
theorem dX5_canTake_243 : decode cX5_canTake 243 = .ok (.getfield 48, 3) := dk_180 0 48 (dk_at dksX5_canTake_10 10 rfl rfl)
theorem dX5_canTake_246 : decode cX5_canTake 246 = .ok (.aload_n 0, 1) := dk_42 (dk_at dksX5_canTake_10 13 rfl rfl)
theorem dX5_canTake_247 : decode cX5_canTake 247 = .ok (.getfield 55, 3) := dk_180 0 55 (dk_at dksX5_canTake_10 14 rfl rfl)
theorem dX5_canTake_250 : decode cX5_canTake 250 = .ok (.iload 5, 2) := dk_21 5 (dk_at dksX5_canTake_10 17 rfl rfl)
theorem dX5_canTake_252 : decode cX5_canTake 252 = .ok (.iaload, 1) := dk_46 (dk_at dksX5_canTake_10 19 rfl rfl)
theorem dX5_canTake_253 : decode cX5_canTake 253 = .ok (.iconst 0, 1) := dk_3 (dk_at dksX5_canTake_10 20 rfl rfl)
theorem dX5_canTake_254 : decode cX5_canTake 254 = .ok (.bastore, 1) := dk_84 (dk_at dksX5_canTake_10 21 rfl rfl)
theorem dX5_canTake_255 : decode cX5_canTake 255 = .ok (.iinc 5 1, 3) := dk_132 5 1 (dk_at dksX5_canTake_11 0 rfl rfl)
theorem dX5_canTake_258 : decode cX5_canTake 258 = .ok (.goto (-47), 3) := dk_167 255 209 (dk_at dksX5_canTake_11 3 rfl rfl)
theorem dX5_canTake_261 : decode cX5_canTake 261 = .ok (.iload 4, 2) := dk_21 4 (dk_at dksX5_canTake_11 6 rfl rfl)
theorem dX5_canTake_263 : decode cX5_canTake 263 = .ok (.ireturn, 1) := dk_172 (dk_at dksX5_canTake_11 8 rfl rfl)
abbrev cX5_seeksTwo : ByteArray := prog_17_method_80_code
def yX5_seeksTwo : MethodName := ⟨RX5, "seeksTwo", "(II)Z"⟩
def dkwX5_seeksTwo_2 : List UInt8 := [172, 132, 3, 1, 167, 255, 206, 3, 172]
abbrev dktX5_seeksTwo_2 : List UInt8 := dkwX5_seeksTwo_2 ++ []
def dkwX5_seeksTwo_1 : List UInt8 := [3, 46, 159, 0, 23, 42, 29, 182, 1, 79, 153, 0, 15, 42, 5, 27, 28, 182, 1, 94, 153, 0, 5, 4]
abbrev dktX5_seeksTwo_1 : List UInt8 := dkwX5_seeksTwo_1 ++ dktX5_seeksTwo_2
def dkwX5_seeksTwo_0 : List UInt8 := [3, 62, 29, 42, 180, 0, 36, 4, 46, 162, 0, 46, 42, 180, 0, 55, 4, 29, 79, 29, 42, 180, 0, 55]
abbrev dktX5_seeksTwo_0 : List UInt8 := dkwX5_seeksTwo_0 ++ dktX5_seeksTwo_1
theorem dksX5_seeksTwo_0 : cX5_seeksTwo.data.toList.drop 0 = dktX5_seeksTwo_0 := by decide +kernel
theorem dksX5_seeksTwo_1 : cX5_seeksTwo.data.toList.drop 24 = dktX5_seeksTwo_1 := dk_seg dksX5_seeksTwo_0 24 rfl rfl
theorem dksX5_seeksTwo_2 : cX5_seeksTwo.data.toList.drop 48 = dktX5_seeksTwo_2 := dk_seg dksX5_seeksTwo_1 24 rfl rfl
theorem dX5_seeksTwo_0 : decode cX5_seeksTwo 0 = .ok (.iconst 0, 1) := dk_3 (dk_at dksX5_seeksTwo_0 0 rfl rfl)
theorem dX5_seeksTwo_1 : decode cX5_seeksTwo 1 = .ok (.istore_n 3, 1) := dk_62 (dk_at dksX5_seeksTwo_0 1 rfl rfl)
theorem dX5_seeksTwo_2 : decode cX5_seeksTwo 2 = .ok (.iload_n 3, 1) := dk_29 (dk_at dksX5_seeksTwo_0 2 rfl rfl)
theorem dX5_seeksTwo_3 : decode cX5_seeksTwo 3 = .ok (.aload_n 0, 1) := dk_42 (dk_at dksX5_seeksTwo_0 3 rfl rfl)
theorem dX5_seeksTwo_4 : decode cX5_seeksTwo 4 = .ok (.getfield 36, 3) := dk_180 0 36 (dk_at dksX5_seeksTwo_0 4 rfl rfl)
theorem dX5_seeksTwo_7 : decode cX5_seeksTwo 7 = .ok (.iconst 1, 1) := dk_4 (dk_at dksX5_seeksTwo_0 7 rfl rfl)
theorem dX5_seeksTwo_8 : decode cX5_seeksTwo 8 = .ok (.iaload, 1) := dk_46 (dk_at dksX5_seeksTwo_0 8 rfl rfl)
theorem dX5_seeksTwo_9 : decode cX5_seeksTwo 9 = .ok (.if_icmp .ge 46, 3) := dk_162 0 46 (dk_at dksX5_seeksTwo_0 9 rfl rfl)
theorem dX5_seeksTwo_12 : decode cX5_seeksTwo 12 = .ok (.aload_n 0, 1) := dk_42 (dk_at dksX5_seeksTwo_0 12 rfl rfl)
theorem dX5_seeksTwo_13 : decode cX5_seeksTwo 13 = .ok (.getfield 55, 3) := dk_180 0 55 (dk_at dksX5_seeksTwo_0 13 rfl rfl)
theorem dX5_seeksTwo_16 : decode cX5_seeksTwo 16 = .ok (.iconst 1, 1) := dk_4 (dk_at dksX5_seeksTwo_0 16 rfl rfl)
theorem dX5_seeksTwo_17 : decode cX5_seeksTwo 17 = .ok (.iload_n 3, 1) := dk_29 (dk_at dksX5_seeksTwo_0 17 rfl rfl)
theorem dX5_seeksTwo_18 : decode cX5_seeksTwo 18 = .ok (.iastore, 1) := dk_79 (dk_at dksX5_seeksTwo_0 18 rfl rfl)
theorem dX5_seeksTwo_19 : decode cX5_seeksTwo 19 = .ok (.iload_n 3, 1) := dk_29 (dk_at dksX5_seeksTwo_0 19 rfl rfl)
theorem dX5_seeksTwo_20 : decode cX5_seeksTwo 20 = .ok (.aload_n 0, 1) := dk_42 (dk_at dksX5_seeksTwo_0 20 rfl rfl)
theorem dX5_seeksTwo_21 : decode cX5_seeksTwo 21 = .ok (.getfield 55, 3) := dk_180 0 55 (dk_at dksX5_seeksTwo_0 21 rfl rfl)
theorem dX5_seeksTwo_24 : decode cX5_seeksTwo 24 = .ok (.iconst 0, 1) := dk_3 (dk_at dksX5_seeksTwo_1 0 rfl rfl)
theorem dX5_seeksTwo_25 : decode cX5_seeksTwo 25 = .ok (.iaload, 1) := dk_46 (dk_at dksX5_seeksTwo_1 1 rfl rfl)
theorem dX5_seeksTwo_26 : decode cX5_seeksTwo 26 = .ok (.if_icmp .eq 23, 3) := dk_159 0 23 (dk_at dksX5_seeksTwo_1 2 rfl rfl)
theorem dX5_seeksTwo_29 : decode cX5_seeksTwo 29 = .ok (.aload_n 0, 1) := dk_42 (dk_at dksX5_seeksTwo_1 5 rfl rfl)
theorem dX5_seeksTwo_30 : decode cX5_seeksTwo 30 = .ok (.iload_n 3, 1) := dk_29 (dk_at dksX5_seeksTwo_1 6 rfl rfl)
theorem dX5_seeksTwo_31 : decode cX5_seeksTwo 31 = .ok (.invokevirtual 335, 3) := dk_182 1 79 (dk_at dksX5_seeksTwo_1 7 rfl rfl)
theorem dX5_seeksTwo_34 : decode cX5_seeksTwo 34 = .ok (.ifCond .eq 15, 3) := dk_153 0 15 (dk_at dksX5_seeksTwo_1 10 rfl rfl)
theorem dX5_seeksTwo_37 : decode cX5_seeksTwo 37 = .ok (.aload_n 0, 1) := dk_42 (dk_at dksX5_seeksTwo_1 13 rfl rfl)
theorem dX5_seeksTwo_38 : decode cX5_seeksTwo 38 = .ok (.iconst 2, 1) := dk_5 (dk_at dksX5_seeksTwo_1 14 rfl rfl)
theorem dX5_seeksTwo_39 : decode cX5_seeksTwo 39 = .ok (.iload_n 1, 1) := dk_27 (dk_at dksX5_seeksTwo_1 15 rfl rfl)
theorem dX5_seeksTwo_40 : decode cX5_seeksTwo 40 = .ok (.iload_n 2, 1) := dk_28 (dk_at dksX5_seeksTwo_1 16 rfl rfl)
theorem dX5_seeksTwo_41 : decode cX5_seeksTwo 41 = .ok (.invokevirtual 350, 3) := dk_182 1 94 (dk_at dksX5_seeksTwo_1 17 rfl rfl)
theorem dX5_seeksTwo_44 : decode cX5_seeksTwo 44 = .ok (.ifCond .eq 5, 3) := dk_153 0 5 (dk_at dksX5_seeksTwo_1 20 rfl rfl)
theorem dX5_seeksTwo_47 : decode cX5_seeksTwo 47 = .ok (.iconst 1, 1) := dk_4 (dk_at dksX5_seeksTwo_1 23 rfl rfl)
theorem dX5_seeksTwo_48 : decode cX5_seeksTwo 48 = .ok (.ireturn, 1) := dk_172 (dk_at dksX5_seeksTwo_2 0 rfl rfl)
theorem dX5_seeksTwo_49 : decode cX5_seeksTwo 49 = .ok (.iinc 3 1, 3) := dk_132 3 1 (dk_at dksX5_seeksTwo_2 1 rfl rfl)
theorem dX5_seeksTwo_52 : decode cX5_seeksTwo 52 = .ok (.goto (-50), 3) := dk_167 255 206 (dk_at dksX5_seeksTwo_2 4 rfl rfl)
theorem dX5_seeksTwo_55 : decode cX5_seeksTwo 55 = .ok (.iconst 0, 1) := dk_3 (dk_at dksX5_seeksTwo_2 7 rfl rfl)
theorem dX5_seeksTwo_56 : decode cX5_seeksTwo 56 = .ok (.ireturn, 1) := dk_172 (dk_at dksX5_seeksTwo_2 8 rfl rfl)
abbrev cX5_seeksThree : ByteArray := prog_17_method_81_code
def yX5_seeksThree : MethodName := ⟨RX5, "seeksThree", "(II)Z"⟩
def dkwX5_seeksThree_5 : List UInt8 := [167, 255, 140, 3, 172]
abbrev dktX5_seeksThree_5 : List UInt8 := dkwX5_seeksThree_5 ++ []
def dkwX5_seeksThree_4 : List UInt8 := [153, 0, 15, 42, 6, 27, 28, 182, 1, 94, 153, 0, 5, 4, 172, 132, 4, 1, 167, 255, 159, 132, 3, 1]
abbrev dktX5_seeksThree_4 : List UInt8 := dkwX5_seeksThree_4 ++ dktX5_seeksThree_5
def dkwX5_seeksThree_3 : List UInt8 := [167, 0, 4, 3, 54, 5, 42, 180, 0, 55, 4, 29, 79, 42, 180, 0, 55, 5, 21, 4, 79, 21, 5]
abbrev dktX5_seeksThree_3 : List UInt8 := dkwX5_seeksThree_3 ++ dktX5_seeksThree_4
def dkwX5_seeksThree_2 : List UInt8 := [29, 21, 4, 159, 0, 24, 42, 29, 182, 1, 79, 153, 0, 16, 42, 21, 4, 182, 1, 79, 153, 0, 7, 4]
abbrev dktX5_seeksThree_2 : List UInt8 := dkwX5_seeksThree_2 ++ dktX5_seeksThree_3
def dkwX5_seeksThree_1 : List UInt8 := [162, 0, 92, 29, 42, 180, 0, 55, 3, 46, 159, 0, 41, 21, 4, 42, 180, 0, 55, 3, 46, 159, 0, 30]
abbrev dktX5_seeksThree_1 : List UInt8 := dkwX5_seeksThree_1 ++ dktX5_seeksThree_2
def dkwX5_seeksThree_0 : List UInt8 := [3, 62, 29, 42, 180, 0, 36, 4, 46, 162, 0, 112, 3, 54, 4, 21, 4, 42, 180, 0, 36, 4, 46]
abbrev dktX5_seeksThree_0 : List UInt8 := dkwX5_seeksThree_0 ++ dktX5_seeksThree_1
theorem dksX5_seeksThree_0 : cX5_seeksThree.data.toList.drop 0 = dktX5_seeksThree_0 := by decide +kernel
theorem dksX5_seeksThree_1 : cX5_seeksThree.data.toList.drop 23 = dktX5_seeksThree_1 := dk_seg dksX5_seeksThree_0 23 rfl rfl
theorem dksX5_seeksThree_2 : cX5_seeksThree.data.toList.drop 47 = dktX5_seeksThree_2 := dk_seg dksX5_seeksThree_1 24 rfl rfl
theorem dksX5_seeksThree_3 : cX5_seeksThree.data.toList.drop 71 = dktX5_seeksThree_3 := dk_seg dksX5_seeksThree_2 24 rfl rfl
theorem dksX5_seeksThree_4 : cX5_seeksThree.data.toList.drop 94 = dktX5_seeksThree_4 := dk_seg dksX5_seeksThree_3 23 rfl rfl
theorem dksX5_seeksThree_5 : cX5_seeksThree.data.toList.drop 118 = dktX5_seeksThree_5 := dk_seg dksX5_seeksThree_4 24 rfl rfl
theorem dX5_seeksThree_0 : decode cX5_seeksThree 0 = .ok (.iconst 0, 1) := dk_3 (dk_at dksX5_seeksThree_0 0 rfl rfl)
theorem dX5_seeksThree_1 : decode cX5_seeksThree 1 = .ok (.istore_n 3, 1) := dk_62 (dk_at dksX5_seeksThree_0 1 rfl rfl)
theorem dX5_seeksThree_2 : decode cX5_seeksThree 2 = .ok (.iload_n 3, 1) := dk_29 (dk_at dksX5_seeksThree_0 2 rfl rfl)
theorem dX5_seeksThree_3 : decode cX5_seeksThree 3 = .ok (.aload_n 0, 1) := dk_42 (dk_at dksX5_seeksThree_0 3 rfl rfl)
theorem dX5_seeksThree_4 : decode cX5_seeksThree 4 = .ok (.getfield 36, 3) := dk_180 0 36 (dk_at dksX5_seeksThree_0 4 rfl rfl)
theorem dX5_seeksThree_7 : decode cX5_seeksThree 7 = .ok (.iconst 1, 1) := dk_4 (dk_at dksX5_seeksThree_0 7 rfl rfl)
theorem dX5_seeksThree_8 : decode cX5_seeksThree 8 = .ok (.iaload, 1) := dk_46 (dk_at dksX5_seeksThree_0 8 rfl rfl)
theorem dX5_seeksThree_9 : decode cX5_seeksThree 9 = .ok (.if_icmp .ge 112, 3) := dk_162 0 112 (dk_at dksX5_seeksThree_0 9 rfl rfl)
theorem dX5_seeksThree_12 : decode cX5_seeksThree 12 = .ok (.iconst 0, 1) := dk_3 (dk_at dksX5_seeksThree_0 12 rfl rfl)
theorem dX5_seeksThree_13 : decode cX5_seeksThree 13 = .ok (.istore 4, 2) := dk_54 4 (dk_at dksX5_seeksThree_0 13 rfl rfl)
theorem dX5_seeksThree_15 : decode cX5_seeksThree 15 = .ok (.iload 4, 2) := dk_21 4 (dk_at dksX5_seeksThree_0 15 rfl rfl)
theorem dX5_seeksThree_17 : decode cX5_seeksThree 17 = .ok (.aload_n 0, 1) := dk_42 (dk_at dksX5_seeksThree_0 17 rfl rfl)
theorem dX5_seeksThree_18 : decode cX5_seeksThree 18 = .ok (.getfield 36, 3) := dk_180 0 36 (dk_at dksX5_seeksThree_0 18 rfl rfl)
theorem dX5_seeksThree_21 : decode cX5_seeksThree 21 = .ok (.iconst 1, 1) := dk_4 (dk_at dksX5_seeksThree_0 21 rfl rfl)
theorem dX5_seeksThree_22 : decode cX5_seeksThree 22 = .ok (.iaload, 1) := dk_46 (dk_at dksX5_seeksThree_0 22 rfl rfl)
theorem dX5_seeksThree_23 : decode cX5_seeksThree 23 = .ok (.if_icmp .ge 92, 3) := dk_162 0 92 (dk_at dksX5_seeksThree_1 0 rfl rfl)
theorem dX5_seeksThree_26 : decode cX5_seeksThree 26 = .ok (.iload_n 3, 1) := dk_29 (dk_at dksX5_seeksThree_1 3 rfl rfl)
theorem dX5_seeksThree_27 : decode cX5_seeksThree 27 = .ok (.aload_n 0, 1) := dk_42 (dk_at dksX5_seeksThree_1 4 rfl rfl)
theorem dX5_seeksThree_28 : decode cX5_seeksThree 28 = .ok (.getfield 55, 3) := dk_180 0 55 (dk_at dksX5_seeksThree_1 5 rfl rfl)
theorem dX5_seeksThree_31 : decode cX5_seeksThree 31 = .ok (.iconst 0, 1) := dk_3 (dk_at dksX5_seeksThree_1 8 rfl rfl)
theorem dX5_seeksThree_32 : decode cX5_seeksThree 32 = .ok (.iaload, 1) := dk_46 (dk_at dksX5_seeksThree_1 9 rfl rfl)
theorem dX5_seeksThree_33 : decode cX5_seeksThree 33 = .ok (.if_icmp .eq 41, 3) := dk_159 0 41 (dk_at dksX5_seeksThree_1 10 rfl rfl)
theorem dX5_seeksThree_36 : decode cX5_seeksThree 36 = .ok (.iload 4, 2) := dk_21 4 (dk_at dksX5_seeksThree_1 13 rfl rfl)
theorem dX5_seeksThree_38 : decode cX5_seeksThree 38 = .ok (.aload_n 0, 1) := dk_42 (dk_at dksX5_seeksThree_1 15 rfl rfl)
theorem dX5_seeksThree_39 : decode cX5_seeksThree 39 = .ok (.getfield 55, 3) := dk_180 0 55 (dk_at dksX5_seeksThree_1 16 rfl rfl)
theorem dX5_seeksThree_42 : decode cX5_seeksThree 42 = .ok (.iconst 0, 1) := dk_3 (dk_at dksX5_seeksThree_1 19 rfl rfl)
theorem dX5_seeksThree_43 : decode cX5_seeksThree 43 = .ok (.iaload, 1) := dk_46 (dk_at dksX5_seeksThree_1 20 rfl rfl)
theorem dX5_seeksThree_44 : decode cX5_seeksThree 44 = .ok (.if_icmp .eq 30, 3) := dk_159 0 30 (dk_at dksX5_seeksThree_1 21 rfl rfl)
theorem dX5_seeksThree_47 : decode cX5_seeksThree 47 = .ok (.iload_n 3, 1) := dk_29 (dk_at dksX5_seeksThree_2 0 rfl rfl)
theorem dX5_seeksThree_48 : decode cX5_seeksThree 48 = .ok (.iload 4, 2) := dk_21 4 (dk_at dksX5_seeksThree_2 1 rfl rfl)
theorem dX5_seeksThree_50 : decode cX5_seeksThree 50 = .ok (.if_icmp .eq 24, 3) := dk_159 0 24 (dk_at dksX5_seeksThree_2 3 rfl rfl)
theorem dX5_seeksThree_53 : decode cX5_seeksThree 53 = .ok (.aload_n 0, 1) := dk_42 (dk_at dksX5_seeksThree_2 6 rfl rfl)
theorem dX5_seeksThree_54 : decode cX5_seeksThree 54 = .ok (.iload_n 3, 1) := dk_29 (dk_at dksX5_seeksThree_2 7 rfl rfl)
theorem dX5_seeksThree_55 : decode cX5_seeksThree 55 = .ok (.invokevirtual 335, 3) := dk_182 1 79 (dk_at dksX5_seeksThree_2 8 rfl rfl)
theorem dX5_seeksThree_58 : decode cX5_seeksThree 58 = .ok (.ifCond .eq 16, 3) := dk_153 0 16 (dk_at dksX5_seeksThree_2 11 rfl rfl)
theorem dX5_seeksThree_61 : decode cX5_seeksThree 61 = .ok (.aload_n 0, 1) := dk_42 (dk_at dksX5_seeksThree_2 14 rfl rfl)
theorem dX5_seeksThree_62 : decode cX5_seeksThree 62 = .ok (.iload 4, 2) := dk_21 4 (dk_at dksX5_seeksThree_2 15 rfl rfl)
theorem dX5_seeksThree_64 : decode cX5_seeksThree 64 = .ok (.invokevirtual 335, 3) := dk_182 1 79 (dk_at dksX5_seeksThree_2 17 rfl rfl)
theorem dX5_seeksThree_67 : decode cX5_seeksThree 67 = .ok (.ifCond .eq 7, 3) := dk_153 0 7 (dk_at dksX5_seeksThree_2 20 rfl rfl)
theorem dX5_seeksThree_70 : decode cX5_seeksThree 70 = .ok (.iconst 1, 1) := dk_4 (dk_at dksX5_seeksThree_2 23 rfl rfl)
theorem dX5_seeksThree_71 : decode cX5_seeksThree 71 = .ok (.goto 4, 3) := dk_167 0 4 (dk_at dksX5_seeksThree_3 0 rfl rfl)
theorem dX5_seeksThree_74 : decode cX5_seeksThree 74 = .ok (.iconst 0, 1) := dk_3 (dk_at dksX5_seeksThree_3 3 rfl rfl)
theorem dX5_seeksThree_75 : decode cX5_seeksThree 75 = .ok (.istore 5, 2) := dk_54 5 (dk_at dksX5_seeksThree_3 4 rfl rfl)
theorem dX5_seeksThree_77 : decode cX5_seeksThree 77 = .ok (.aload_n 0, 1) := dk_42 (dk_at dksX5_seeksThree_3 6 rfl rfl)
theorem dX5_seeksThree_78 : decode cX5_seeksThree 78 = .ok (.getfield 55, 3) := dk_180 0 55 (dk_at dksX5_seeksThree_3 7 rfl rfl)
theorem dX5_seeksThree_81 : decode cX5_seeksThree 81 = .ok (.iconst 1, 1) := dk_4 (dk_at dksX5_seeksThree_3 10 rfl rfl)
theorem dX5_seeksThree_82 : decode cX5_seeksThree 82 = .ok (.iload_n 3, 1) := dk_29 (dk_at dksX5_seeksThree_3 11 rfl rfl)
theorem dX5_seeksThree_83 : decode cX5_seeksThree 83 = .ok (.iastore, 1) := dk_79 (dk_at dksX5_seeksThree_3 12 rfl rfl)
theorem dX5_seeksThree_84 : decode cX5_seeksThree 84 = .ok (.aload_n 0, 1) := dk_42 (dk_at dksX5_seeksThree_3 13 rfl rfl)
theorem dX5_seeksThree_85 : decode cX5_seeksThree 85 = .ok (.getfield 55, 3) := dk_180 0 55 (dk_at dksX5_seeksThree_3 14 rfl rfl)
theorem dX5_seeksThree_88 : decode cX5_seeksThree 88 = .ok (.iconst 2, 1) := dk_5 (dk_at dksX5_seeksThree_3 17 rfl rfl)
theorem dX5_seeksThree_89 : decode cX5_seeksThree 89 = .ok (.iload 4, 2) := dk_21 4 (dk_at dksX5_seeksThree_3 18 rfl rfl)
theorem dX5_seeksThree_91 : decode cX5_seeksThree 91 = .ok (.iastore, 1) := dk_79 (dk_at dksX5_seeksThree_3 20 rfl rfl)
theorem dX5_seeksThree_92 : decode cX5_seeksThree 92 = .ok (.iload 5, 2) := dk_21 5 (dk_at dksX5_seeksThree_3 21 rfl rfl)
theorem dX5_seeksThree_94 : decode cX5_seeksThree 94 = .ok (.ifCond .eq 15, 3) := dk_153 0 15 (dk_at dksX5_seeksThree_4 0 rfl rfl)
theorem dX5_seeksThree_97 : decode cX5_seeksThree 97 = .ok (.aload_n 0, 1) := dk_42 (dk_at dksX5_seeksThree_4 3 rfl rfl)
theorem dX5_seeksThree_98 : decode cX5_seeksThree 98 = .ok (.iconst 3, 1) := dk_6 (dk_at dksX5_seeksThree_4 4 rfl rfl)
theorem dX5_seeksThree_99 : decode cX5_seeksThree 99 = .ok (.iload_n 1, 1) := dk_27 (dk_at dksX5_seeksThree_4 5 rfl rfl)
theorem dX5_seeksThree_100 : decode cX5_seeksThree 100 = .ok (.iload_n 2, 1) := dk_28 (dk_at dksX5_seeksThree_4 6 rfl rfl)
theorem dX5_seeksThree_101 : decode cX5_seeksThree 101 = .ok (.invokevirtual 350, 3) := dk_182 1 94 (dk_at dksX5_seeksThree_4 7 rfl rfl)
theorem dX5_seeksThree_104 : decode cX5_seeksThree 104 = .ok (.ifCond .eq 5, 3) := dk_153 0 5 (dk_at dksX5_seeksThree_4 10 rfl rfl)
theorem dX5_seeksThree_107 : decode cX5_seeksThree 107 = .ok (.iconst 1, 1) := dk_4 (dk_at dksX5_seeksThree_4 13 rfl rfl)
theorem dX5_seeksThree_108 : decode cX5_seeksThree 108 = .ok (.ireturn, 1) := dk_172 (dk_at dksX5_seeksThree_4 14 rfl rfl)
theorem dX5_seeksThree_109 : decode cX5_seeksThree 109 = .ok (.iinc 4 1, 3) := dk_132 4 1 (dk_at dksX5_seeksThree_4 15 rfl rfl)
theorem dX5_seeksThree_112 : decode cX5_seeksThree 112 = .ok (.goto (-97), 3) := dk_167 255 159 (dk_at dksX5_seeksThree_4 18 rfl rfl)
theorem dX5_seeksThree_115 : decode cX5_seeksThree 115 = .ok (.iinc 3 1, 3) := dk_132 3 1 (dk_at dksX5_seeksThree_4 21 rfl rfl)
theorem dX5_seeksThree_118 : decode cX5_seeksThree 118 = .ok (.goto (-116), 3) := dk_167 255 140 (dk_at dksX5_seeksThree_5 0 rfl rfl)
theorem dX5_seeksThree_121 : decode cX5_seeksThree 121 = .ok (.iconst 0, 1) := dk_3 (dk_at dksX5_seeksThree_5 3 rfl rfl)
theorem dX5_seeksThree_122 : decode cX5_seeksThree 122 = .ok (.ireturn, 1) := dk_172 (dk_at dksX5_seeksThree_5 4 rfl rfl)
abbrev cX5_carries : ByteArray := prog_17_method_83_code
def yX5_carries : MethodName := ⟨RX5, "carries", "(II)V"⟩
def dkwX5_carries_4 : List UInt8 := [21, 4, 182, 1, 48, 42, 42, 180, 0, 55, 3, 46, 27, 28, 182, 1, 48, 177]
abbrev dktX5_carries_4 : List UInt8 := dkwX5_carries_4 ++ []
def dkwX5_carries_3 : List UInt8 := [182, 1, 48, 42, 180, 1, 97, 4, 164, 0, 21, 42, 42, 180, 0, 55, 42, 180, 1, 97, 4, 100, 46, 29]
abbrev dktX5_carries_3 : List UInt8 := dkwX5_carries_3 ++ dktX5_carries_4
def dkwX5_carries_2 : List UInt8 := [180, 0, 55, 5, 46, 16, 9, 182, 0, 228, 42, 42, 180, 0, 55, 5, 46, 16, 10, 182, 0, 228]
abbrev dktX5_carries_2 : List UInt8 := dkwX5_carries_2 ++ dktX5_carries_3
def dkwX5_carries_1 : List UInt8 := [182, 0, 228, 54, 4, 42, 180, 1, 97, 6, 160, 0, 37, 42, 42, 180, 0, 55, 4, 46, 42, 42]
abbrev dktX5_carries_1 : List UInt8 := dkwX5_carries_1 ++ dktX5_carries_2
def dkwX5_carries_0 : List UInt8 := [42, 42, 180, 0, 55, 3, 46, 16, 9, 182, 0, 228, 62, 42, 42, 180, 0, 55, 3, 46, 16, 10]
abbrev dktX5_carries_0 : List UInt8 := dkwX5_carries_0 ++ dktX5_carries_1
theorem dksX5_carries_0 : cX5_carries.data.toList.drop 0 = dktX5_carries_0 := by decide +kernel
theorem dksX5_carries_1 : cX5_carries.data.toList.drop 22 = dktX5_carries_1 := dk_seg dksX5_carries_0 22 rfl rfl
theorem dksX5_carries_2 : cX5_carries.data.toList.drop 44 = dktX5_carries_2 := dk_seg dksX5_carries_1 22 rfl rfl
theorem dksX5_carries_3 : cX5_carries.data.toList.drop 66 = dktX5_carries_3 := dk_seg dksX5_carries_2 22 rfl rfl
theorem dksX5_carries_4 : cX5_carries.data.toList.drop 90 = dktX5_carries_4 := dk_seg dksX5_carries_3 24 rfl rfl
theorem dX5_carries_0 : decode cX5_carries 0 = .ok (.aload_n 0, 1) := dk_42 (dk_at dksX5_carries_0 0 rfl rfl)
theorem dX5_carries_1 : decode cX5_carries 1 = .ok (.aload_n 0, 1) := dk_42 (dk_at dksX5_carries_0 1 rfl rfl)
theorem dX5_carries_2 : decode cX5_carries 2 = .ok (.getfield 55, 3) := dk_180 0 55 (dk_at dksX5_carries_0 2 rfl rfl)
theorem dX5_carries_5 : decode cX5_carries 5 = .ok (.iconst 0, 1) := dk_3 (dk_at dksX5_carries_0 5 rfl rfl)
theorem dX5_carries_6 : decode cX5_carries 6 = .ok (.iaload, 1) := dk_46 (dk_at dksX5_carries_0 6 rfl rfl)
theorem dX5_carries_7 : decode cX5_carries 7 = .ok (.bipush 9, 2) := dk_16 9 (dk_at dksX5_carries_0 7 rfl rfl)
theorem dX5_carries_9 : decode cX5_carries 9 = .ok (.invokevirtual 228, 3) := dk_182 0 228 (dk_at dksX5_carries_0 9 rfl rfl)
theorem dX5_carries_12 : decode cX5_carries 12 = .ok (.istore_n 3, 1) := dk_62 (dk_at dksX5_carries_0 12 rfl rfl)
theorem dX5_carries_13 : decode cX5_carries 13 = .ok (.aload_n 0, 1) := dk_42 (dk_at dksX5_carries_0 13 rfl rfl)
theorem dX5_carries_14 : decode cX5_carries 14 = .ok (.aload_n 0, 1) := dk_42 (dk_at dksX5_carries_0 14 rfl rfl)
theorem dX5_carries_15 : decode cX5_carries 15 = .ok (.getfield 55, 3) := dk_180 0 55 (dk_at dksX5_carries_0 15 rfl rfl)
theorem dX5_carries_18 : decode cX5_carries 18 = .ok (.iconst 0, 1) := dk_3 (dk_at dksX5_carries_0 18 rfl rfl)
theorem dX5_carries_19 : decode cX5_carries 19 = .ok (.iaload, 1) := dk_46 (dk_at dksX5_carries_0 19 rfl rfl)
theorem dX5_carries_20 : decode cX5_carries 20 = .ok (.bipush 10, 2) := dk_16 10 (dk_at dksX5_carries_0 20 rfl rfl)
theorem dX5_carries_22 : decode cX5_carries 22 = .ok (.invokevirtual 228, 3) := dk_182 0 228 (dk_at dksX5_carries_1 0 rfl rfl)
theorem dX5_carries_25 : decode cX5_carries 25 = .ok (.istore 4, 2) := dk_54 4 (dk_at dksX5_carries_1 3 rfl rfl)
theorem dX5_carries_27 : decode cX5_carries 27 = .ok (.aload_n 0, 1) := dk_42 (dk_at dksX5_carries_1 5 rfl rfl)
theorem dX5_carries_28 : decode cX5_carries 28 = .ok (.getfield 353, 3) := dk_180 1 97 (dk_at dksX5_carries_1 6 rfl rfl)
theorem dX5_carries_31 : decode cX5_carries 31 = .ok (.iconst 3, 1) := dk_6 (dk_at dksX5_carries_1 9 rfl rfl)
theorem dX5_carries_32 : decode cX5_carries 32 = .ok (.if_icmp .ne 37, 3) := dk_160 0 37 (dk_at dksX5_carries_1 10 rfl rfl)
theorem dX5_carries_35 : decode cX5_carries 35 = .ok (.aload_n 0, 1) := dk_42 (dk_at dksX5_carries_1 13 rfl rfl)
theorem dX5_carries_36 : decode cX5_carries 36 = .ok (.aload_n 0, 1) := dk_42 (dk_at dksX5_carries_1 14 rfl rfl)
theorem dX5_carries_37 : decode cX5_carries 37 = .ok (.getfield 55, 3) := dk_180 0 55 (dk_at dksX5_carries_1 15 rfl rfl)
theorem dX5_carries_40 : decode cX5_carries 40 = .ok (.iconst 1, 1) := dk_4 (dk_at dksX5_carries_1 18 rfl rfl)
theorem dX5_carries_41 : decode cX5_carries 41 = .ok (.iaload, 1) := dk_46 (dk_at dksX5_carries_1 19 rfl rfl)
theorem dX5_carries_42 : decode cX5_carries 42 = .ok (.aload_n 0, 1) := dk_42 (dk_at dksX5_carries_1 20 rfl rfl)
theorem dX5_carries_43 : decode cX5_carries 43 = .ok (.aload_n 0, 1) := dk_42 (dk_at dksX5_carries_1 21 rfl rfl)
theorem dX5_carries_44 : decode cX5_carries 44 = .ok (.getfield 55, 3) := dk_180 0 55 (dk_at dksX5_carries_2 0 rfl rfl)
theorem dX5_carries_47 : decode cX5_carries 47 = .ok (.iconst 2, 1) := dk_5 (dk_at dksX5_carries_2 3 rfl rfl)
theorem dX5_carries_48 : decode cX5_carries 48 = .ok (.iaload, 1) := dk_46 (dk_at dksX5_carries_2 4 rfl rfl)
theorem dX5_carries_49 : decode cX5_carries 49 = .ok (.bipush 9, 2) := dk_16 9 (dk_at dksX5_carries_2 5 rfl rfl)
theorem dX5_carries_51 : decode cX5_carries 51 = .ok (.invokevirtual 228, 3) := dk_182 0 228 (dk_at dksX5_carries_2 7 rfl rfl)
theorem dX5_carries_54 : decode cX5_carries 54 = .ok (.aload_n 0, 1) := dk_42 (dk_at dksX5_carries_2 10 rfl rfl)
theorem dX5_carries_55 : decode cX5_carries 55 = .ok (.aload_n 0, 1) := dk_42 (dk_at dksX5_carries_2 11 rfl rfl)
theorem dX5_carries_56 : decode cX5_carries 56 = .ok (.getfield 55, 3) := dk_180 0 55 (dk_at dksX5_carries_2 12 rfl rfl)
theorem dX5_carries_59 : decode cX5_carries 59 = .ok (.iconst 2, 1) := dk_5 (dk_at dksX5_carries_2 15 rfl rfl)
theorem dX5_carries_60 : decode cX5_carries 60 = .ok (.iaload, 1) := dk_46 (dk_at dksX5_carries_2 16 rfl rfl)
theorem dX5_carries_61 : decode cX5_carries 61 = .ok (.bipush 10, 2) := dk_16 10 (dk_at dksX5_carries_2 17 rfl rfl)
theorem dX5_carries_63 : decode cX5_carries 63 = .ok (.invokevirtual 228, 3) := dk_182 0 228 (dk_at dksX5_carries_2 19 rfl rfl)
theorem dX5_carries_66 : decode cX5_carries 66 = .ok (.invokevirtual 304, 3) := dk_182 1 48 (dk_at dksX5_carries_3 0 rfl rfl)
theorem dX5_carries_69 : decode cX5_carries 69 = .ok (.aload_n 0, 1) := dk_42 (dk_at dksX5_carries_3 3 rfl rfl)
theorem dX5_carries_70 : decode cX5_carries 70 = .ok (.getfield 353, 3) := dk_180 1 97 (dk_at dksX5_carries_3 4 rfl rfl)
theorem dX5_carries_73 : decode cX5_carries 73 = .ok (.iconst 1, 1) := dk_4 (dk_at dksX5_carries_3 7 rfl rfl)
theorem dX5_carries_74 : decode cX5_carries 74 = .ok (.if_icmp .le 21, 3) := dk_164 0 21 (dk_at dksX5_carries_3 8 rfl rfl)
theorem dX5_carries_77 : decode cX5_carries 77 = .ok (.aload_n 0, 1) := dk_42 (dk_at dksX5_carries_3 11 rfl rfl)
theorem dX5_carries_78 : decode cX5_carries 78 = .ok (.aload_n 0, 1) := dk_42 (dk_at dksX5_carries_3 12 rfl rfl)
theorem dX5_carries_79 : decode cX5_carries 79 = .ok (.getfield 55, 3) := dk_180 0 55 (dk_at dksX5_carries_3 13 rfl rfl)
theorem dX5_carries_82 : decode cX5_carries 82 = .ok (.aload_n 0, 1) := dk_42 (dk_at dksX5_carries_3 16 rfl rfl)
theorem dX5_carries_83 : decode cX5_carries 83 = .ok (.getfield 353, 3) := dk_180 1 97 (dk_at dksX5_carries_3 17 rfl rfl)
theorem dX5_carries_86 : decode cX5_carries 86 = .ok (.iconst 1, 1) := dk_4 (dk_at dksX5_carries_3 20 rfl rfl)
theorem dX5_carries_87 : decode cX5_carries 87 = .ok (.isub, 1) := dk_100 (dk_at dksX5_carries_3 21 rfl rfl)
theorem dX5_carries_88 : decode cX5_carries 88 = .ok (.iaload, 1) := dk_46 (dk_at dksX5_carries_3 22 rfl rfl)
theorem dX5_carries_89 : decode cX5_carries 89 = .ok (.iload_n 3, 1) := dk_29 (dk_at dksX5_carries_3 23 rfl rfl)
theorem dX5_carries_90 : decode cX5_carries 90 = .ok (.iload 4, 2) := dk_21 4 (dk_at dksX5_carries_4 0 rfl rfl)
theorem dX5_carries_92 : decode cX5_carries 92 = .ok (.invokevirtual 304, 3) := dk_182 1 48 (dk_at dksX5_carries_4 2 rfl rfl)
theorem dX5_carries_95 : decode cX5_carries 95 = .ok (.aload_n 0, 1) := dk_42 (dk_at dksX5_carries_4 5 rfl rfl)
theorem dX5_carries_96 : decode cX5_carries 96 = .ok (.aload_n 0, 1) := dk_42 (dk_at dksX5_carries_4 6 rfl rfl)
theorem dX5_carries_97 : decode cX5_carries 97 = .ok (.getfield 55, 3) := dk_180 0 55 (dk_at dksX5_carries_4 7 rfl rfl)
theorem dX5_carries_100 : decode cX5_carries 100 = .ok (.iconst 0, 1) := dk_3 (dk_at dksX5_carries_4 10 rfl rfl)
theorem dX5_carries_101 : decode cX5_carries 101 = .ok (.iaload, 1) := dk_46 (dk_at dksX5_carries_4 11 rfl rfl)
theorem dX5_carries_102 : decode cX5_carries 102 = .ok (.iload_n 1, 1) := dk_27 (dk_at dksX5_carries_4 12 rfl rfl)
theorem dX5_carries_103 : decode cX5_carries 103 = .ok (.iload_n 2, 1) := dk_28 (dk_at dksX5_carries_4 13 rfl rfl)
theorem dX5_carries_104 : decode cX5_carries 104 = .ok (.invokevirtual 304, 3) := dk_182 1 48 (dk_at dksX5_carries_4 14 rfl rfl)
theorem dX5_carries_107 : decode cX5_carries 107 = .ok (.return_, 1) := dk_177 (dk_at dksX5_carries_4 17 rfl rfl)
abbrev cX5_swap : ByteArray := prog_17_method_87_code
def yX5_swap : MethodName := ⟨RX5, "swap", "(II)I"⟩
def dkwX5_swap_4 : List UInt8 := [96, 172]
abbrev dktX5_swap_4 : List UInt8 := dkwX5_swap_4 ++ []
def dkwX5_swap_3 : List UInt8 := [182, 0, 228, 182, 1, 48, 42, 28, 29, 21, 4, 182, 1, 48, 42, 27, 182, 1, 64, 42, 28, 182, 1, 64]
abbrev dktX5_swap_3 : List UInt8 := dkwX5_swap_3 ++ dktX5_swap_4
def dkwX5_swap_2 : List UInt8 := [42, 27, 16, 10, 182, 0, 228, 54, 4, 42, 27, 42, 28, 16, 9, 182, 0, 228, 42, 28, 16, 10]
abbrev dktX5_swap_2 : List UInt8 := dkwX5_swap_2 ++ dktX5_swap_3
def dkwX5_swap_1 : List UInt8 := [182, 1, 115, 153, 0, 9, 42, 6, 182, 0, 83, 172, 42, 182, 1, 58, 42, 27, 16, 9, 182, 0, 228, 62]
abbrev dktX5_swap_1 : List UInt8 := dkwX5_swap_1 ++ dktX5_swap_2
def dkwX5_swap_0 : List UInt8 := [42, 42, 27, 28, 182, 1, 112, 181, 0, 3, 42, 180, 0, 3, 158, 0, 5, 3, 172, 42, 27, 28]
abbrev dktX5_swap_0 : List UInt8 := dkwX5_swap_0 ++ dktX5_swap_1
theorem dksX5_swap_0 : cX5_swap.data.toList.drop 0 = dktX5_swap_0 := by decide +kernel
theorem dksX5_swap_1 : cX5_swap.data.toList.drop 22 = dktX5_swap_1 := dk_seg dksX5_swap_0 22 rfl rfl
theorem dksX5_swap_2 : cX5_swap.data.toList.drop 46 = dktX5_swap_2 := dk_seg dksX5_swap_1 24 rfl rfl
theorem dksX5_swap_3 : cX5_swap.data.toList.drop 68 = dktX5_swap_3 := dk_seg dksX5_swap_2 22 rfl rfl
theorem dksX5_swap_4 : cX5_swap.data.toList.drop 92 = dktX5_swap_4 := dk_seg dksX5_swap_3 24 rfl rfl
theorem dX5_swap_0 : decode cX5_swap 0 = .ok (.aload_n 0, 1) := dk_42 (dk_at dksX5_swap_0 0 rfl rfl)
theorem dX5_swap_1 : decode cX5_swap 1 = .ok (.aload_n 0, 1) := dk_42 (dk_at dksX5_swap_0 1 rfl rfl)
theorem dX5_swap_2 : decode cX5_swap 2 = .ok (.iload_n 1, 1) := dk_27 (dk_at dksX5_swap_0 2 rfl rfl)
theorem dX5_swap_3 : decode cX5_swap 3 = .ok (.iload_n 2, 1) := dk_28 (dk_at dksX5_swap_0 3 rfl rfl)
theorem dX5_swap_4 : decode cX5_swap 4 = .ok (.invokevirtual 368, 3) := dk_182 1 112 (dk_at dksX5_swap_0 4 rfl rfl)
theorem dX5_swap_7 : decode cX5_swap 7 = .ok (.putfield 3, 3) := dk_181 0 3 (dk_at dksX5_swap_0 7 rfl rfl)
theorem dX5_swap_10 : decode cX5_swap 10 = .ok (.aload_n 0, 1) := dk_42 (dk_at dksX5_swap_0 10 rfl rfl)
theorem dX5_swap_11 : decode cX5_swap 11 = .ok (.getfield 3, 3) := dk_180 0 3 (dk_at dksX5_swap_0 11 rfl rfl)
theorem dX5_swap_14 : decode cX5_swap 14 = .ok (.ifCond .le 5, 3) := dk_158 0 5 (dk_at dksX5_swap_0 14 rfl rfl)
theorem dX5_swap_17 : decode cX5_swap 17 = .ok (.iconst 0, 1) := dk_3 (dk_at dksX5_swap_0 17 rfl rfl)
theorem dX5_swap_18 : decode cX5_swap 18 = .ok (.ireturn, 1) := dk_172 (dk_at dksX5_swap_0 18 rfl rfl)
theorem dX5_swap_19 : decode cX5_swap 19 = .ok (.aload_n 0, 1) := dk_42 (dk_at dksX5_swap_0 19 rfl rfl)
theorem dX5_swap_20 : decode cX5_swap 20 = .ok (.iload_n 1, 1) := dk_27 (dk_at dksX5_swap_0 20 rfl rfl)
theorem dX5_swap_21 : decode cX5_swap 21 = .ok (.iload_n 2, 1) := dk_28 (dk_at dksX5_swap_0 21 rfl rfl)
theorem dX5_swap_22 : decode cX5_swap 22 = .ok (.invokevirtual 371, 3) := dk_182 1 115 (dk_at dksX5_swap_1 0 rfl rfl)
theorem dX5_swap_25 : decode cX5_swap 25 = .ok (.ifCond .eq 9, 3) := dk_153 0 9 (dk_at dksX5_swap_1 3 rfl rfl)
theorem dX5_swap_28 : decode cX5_swap 28 = .ok (.aload_n 0, 1) := dk_42 (dk_at dksX5_swap_1 6 rfl rfl)
theorem dX5_swap_29 : decode cX5_swap 29 = .ok (.iconst 3, 1) := dk_6 (dk_at dksX5_swap_1 7 rfl rfl)
theorem dX5_swap_30 : decode cX5_swap 30 = .ok (.invokevirtual 83, 3) := dk_182 0 83 (dk_at dksX5_swap_1 8 rfl rfl)
theorem dX5_swap_33 : decode cX5_swap 33 = .ok (.ireturn, 1) := dk_172 (dk_at dksX5_swap_1 11 rfl rfl)
theorem dX5_swap_34 : decode cX5_swap 34 = .ok (.aload_n 0, 1) := dk_42 (dk_at dksX5_swap_1 12 rfl rfl)
theorem dX5_swap_35 : decode cX5_swap 35 = .ok (.invokevirtual 314, 3) := dk_182 1 58 (dk_at dksX5_swap_1 13 rfl rfl)
theorem dX5_swap_38 : decode cX5_swap 38 = .ok (.aload_n 0, 1) := dk_42 (dk_at dksX5_swap_1 16 rfl rfl)
theorem dX5_swap_39 : decode cX5_swap 39 = .ok (.iload_n 1, 1) := dk_27 (dk_at dksX5_swap_1 17 rfl rfl)
theorem dX5_swap_40 : decode cX5_swap 40 = .ok (.bipush 9, 2) := dk_16 9 (dk_at dksX5_swap_1 18 rfl rfl)
theorem dX5_swap_42 : decode cX5_swap 42 = .ok (.invokevirtual 228, 3) := dk_182 0 228 (dk_at dksX5_swap_1 20 rfl rfl)
theorem dX5_swap_45 : decode cX5_swap 45 = .ok (.istore_n 3, 1) := dk_62 (dk_at dksX5_swap_1 23 rfl rfl)
theorem dX5_swap_46 : decode cX5_swap 46 = .ok (.aload_n 0, 1) := dk_42 (dk_at dksX5_swap_2 0 rfl rfl)
theorem dX5_swap_47 : decode cX5_swap 47 = .ok (.iload_n 1, 1) := dk_27 (dk_at dksX5_swap_2 1 rfl rfl)
theorem dX5_swap_48 : decode cX5_swap 48 = .ok (.bipush 10, 2) := dk_16 10 (dk_at dksX5_swap_2 2 rfl rfl)
theorem dX5_swap_50 : decode cX5_swap 50 = .ok (.invokevirtual 228, 3) := dk_182 0 228 (dk_at dksX5_swap_2 4 rfl rfl)
theorem dX5_swap_53 : decode cX5_swap 53 = .ok (.istore 4, 2) := dk_54 4 (dk_at dksX5_swap_2 7 rfl rfl)
theorem dX5_swap_55 : decode cX5_swap 55 = .ok (.aload_n 0, 1) := dk_42 (dk_at dksX5_swap_2 9 rfl rfl)
theorem dX5_swap_56 : decode cX5_swap 56 = .ok (.iload_n 1, 1) := dk_27 (dk_at dksX5_swap_2 10 rfl rfl)
theorem dX5_swap_57 : decode cX5_swap 57 = .ok (.aload_n 0, 1) := dk_42 (dk_at dksX5_swap_2 11 rfl rfl)
theorem dX5_swap_58 : decode cX5_swap 58 = .ok (.iload_n 2, 1) := dk_28 (dk_at dksX5_swap_2 12 rfl rfl)
theorem dX5_swap_59 : decode cX5_swap 59 = .ok (.bipush 9, 2) := dk_16 9 (dk_at dksX5_swap_2 13 rfl rfl)
theorem dX5_swap_61 : decode cX5_swap 61 = .ok (.invokevirtual 228, 3) := dk_182 0 228 (dk_at dksX5_swap_2 15 rfl rfl)
theorem dX5_swap_64 : decode cX5_swap 64 = .ok (.aload_n 0, 1) := dk_42 (dk_at dksX5_swap_2 18 rfl rfl)
theorem dX5_swap_65 : decode cX5_swap 65 = .ok (.iload_n 2, 1) := dk_28 (dk_at dksX5_swap_2 19 rfl rfl)
theorem dX5_swap_66 : decode cX5_swap 66 = .ok (.bipush 10, 2) := dk_16 10 (dk_at dksX5_swap_2 20 rfl rfl)
theorem dX5_swap_68 : decode cX5_swap 68 = .ok (.invokevirtual 228, 3) := dk_182 0 228 (dk_at dksX5_swap_3 0 rfl rfl)
theorem dX5_swap_71 : decode cX5_swap 71 = .ok (.invokevirtual 304, 3) := dk_182 1 48 (dk_at dksX5_swap_3 3 rfl rfl)
theorem dX5_swap_74 : decode cX5_swap 74 = .ok (.aload_n 0, 1) := dk_42 (dk_at dksX5_swap_3 6 rfl rfl)
theorem dX5_swap_75 : decode cX5_swap 75 = .ok (.iload_n 2, 1) := dk_28 (dk_at dksX5_swap_3 7 rfl rfl)
theorem dX5_swap_76 : decode cX5_swap 76 = .ok (.iload_n 3, 1) := dk_29 (dk_at dksX5_swap_3 8 rfl rfl)
theorem dX5_swap_77 : decode cX5_swap 77 = .ok (.iload 4, 2) := dk_21 4 (dk_at dksX5_swap_3 9 rfl rfl)
theorem dX5_swap_79 : decode cX5_swap 79 = .ok (.invokevirtual 304, 3) := dk_182 1 48 (dk_at dksX5_swap_3 11 rfl rfl)
theorem dX5_swap_82 : decode cX5_swap 82 = .ok (.aload_n 0, 1) := dk_42 (dk_at dksX5_swap_3 14 rfl rfl)
theorem dX5_swap_83 : decode cX5_swap 83 = .ok (.iload_n 1, 1) := dk_27 (dk_at dksX5_swap_3 15 rfl rfl)
theorem dX5_swap_84 : decode cX5_swap 84 = .ok (.invokevirtual 320, 3) := dk_182 1 64 (dk_at dksX5_swap_3 16 rfl rfl)
theorem dX5_swap_87 : decode cX5_swap 87 = .ok (.aload_n 0, 1) := dk_42 (dk_at dksX5_swap_3 19 rfl rfl)
theorem dX5_swap_88 : decode cX5_swap 88 = .ok (.iload_n 2, 1) := dk_28 (dk_at dksX5_swap_3 20 rfl rfl)
theorem dX5_swap_89 : decode cX5_swap 89 = .ok (.invokevirtual 320, 3) := dk_182 1 64 (dk_at dksX5_swap_3 21 rfl rfl)
theorem dX5_swap_92 : decode cX5_swap 92 = .ok (.iadd, 1) := dk_96 (dk_at dksX5_swap_4 0 rfl rfl)
theorem dX5_swap_93 : decode cX5_swap 93 = .ok (.ireturn, 1) := dk_172 (dk_at dksX5_swap_4 1 rfl rfl)
abbrev cX5_whyNotPair : ByteArray := prog_17_method_86_code
def yX5_whyNotPair : MethodName := ⟨RX5, "whyNotPair", "(II)I"⟩
def dkwX5_whyNotPair_2 : List UInt8 := [167, 0, 4, 3, 172]
abbrev dktX5_whyNotPair_2 : List UInt8 := dkwX5_whyNotPair_2 ++ []
def dkwX5_whyNotPair_1 : List UInt8 := [160, 0, 7, 5, 167, 0, 24, 42, 27, 182, 0, 236, 153, 0, 11, 42, 28, 182, 0, 236, 154, 0, 7, 6]
abbrev dktX5_whyNotPair_1 : List UInt8 := dkwX5_whyNotPair_1 ++ dktX5_whyNotPair_2
def dkwX5_whyNotPair_0 : List UInt8 := [42, 27, 182, 1, 76, 153, 0, 11, 42, 28, 182, 1, 76, 154, 0, 7, 4, 167, 0, 33, 27, 28]
abbrev dktX5_whyNotPair_0 : List UInt8 := dkwX5_whyNotPair_0 ++ dktX5_whyNotPair_1
theorem dksX5_whyNotPair_0 : cX5_whyNotPair.data.toList.drop 0 = dktX5_whyNotPair_0 := by decide +kernel
theorem dksX5_whyNotPair_1 : cX5_whyNotPair.data.toList.drop 22 = dktX5_whyNotPair_1 := dk_seg dksX5_whyNotPair_0 22 rfl rfl
theorem dksX5_whyNotPair_2 : cX5_whyNotPair.data.toList.drop 46 = dktX5_whyNotPair_2 := dk_seg dksX5_whyNotPair_1 24 rfl rfl
theorem dX5_whyNotPair_0 : decode cX5_whyNotPair 0 = .ok (.aload_n 0, 1) := dk_42 (dk_at dksX5_whyNotPair_0 0 rfl rfl)
theorem dX5_whyNotPair_1 : decode cX5_whyNotPair 1 = .ok (.iload_n 1, 1) := dk_27 (dk_at dksX5_whyNotPair_0 1 rfl rfl)
theorem dX5_whyNotPair_2 : decode cX5_whyNotPair 2 = .ok (.invokevirtual 332, 3) := dk_182 1 76 (dk_at dksX5_whyNotPair_0 2 rfl rfl)
theorem dX5_whyNotPair_5 : decode cX5_whyNotPair 5 = .ok (.ifCond .eq 11, 3) := dk_153 0 11 (dk_at dksX5_whyNotPair_0 5 rfl rfl)
theorem dX5_whyNotPair_8 : decode cX5_whyNotPair 8 = .ok (.aload_n 0, 1) := dk_42 (dk_at dksX5_whyNotPair_0 8 rfl rfl)
theorem dX5_whyNotPair_9 : decode cX5_whyNotPair 9 = .ok (.iload_n 2, 1) := dk_28 (dk_at dksX5_whyNotPair_0 9 rfl rfl)
theorem dX5_whyNotPair_10 : decode cX5_whyNotPair 10 = .ok (.invokevirtual 332, 3) := dk_182 1 76 (dk_at dksX5_whyNotPair_0 10 rfl rfl)
theorem dX5_whyNotPair_13 : decode cX5_whyNotPair 13 = .ok (.ifCond .ne 7, 3) := dk_154 0 7 (dk_at dksX5_whyNotPair_0 13 rfl rfl)
theorem dX5_whyNotPair_16 : decode cX5_whyNotPair 16 = .ok (.iconst 1, 1) := dk_4 (dk_at dksX5_whyNotPair_0 16 rfl rfl)
theorem dX5_whyNotPair_17 : decode cX5_whyNotPair 17 = .ok (.goto 33, 3) := dk_167 0 33 (dk_at dksX5_whyNotPair_0 17 rfl rfl)
theorem dX5_whyNotPair_20 : decode cX5_whyNotPair 20 = .ok (.iload_n 1, 1) := dk_27 (dk_at dksX5_whyNotPair_0 20 rfl rfl)
theorem dX5_whyNotPair_21 : decode cX5_whyNotPair 21 = .ok (.iload_n 2, 1) := dk_28 (dk_at dksX5_whyNotPair_0 21 rfl rfl)
theorem dX5_whyNotPair_22 : decode cX5_whyNotPair 22 = .ok (.if_icmp .ne 7, 3) := dk_160 0 7 (dk_at dksX5_whyNotPair_1 0 rfl rfl)
theorem dX5_whyNotPair_25 : decode cX5_whyNotPair 25 = .ok (.iconst 2, 1) := dk_5 (dk_at dksX5_whyNotPair_1 3 rfl rfl)
theorem dX5_whyNotPair_26 : decode cX5_whyNotPair 26 = .ok (.goto 24, 3) := dk_167 0 24 (dk_at dksX5_whyNotPair_1 4 rfl rfl)
theorem dX5_whyNotPair_29 : decode cX5_whyNotPair 29 = .ok (.aload_n 0, 1) := dk_42 (dk_at dksX5_whyNotPair_1 7 rfl rfl)
theorem dX5_whyNotPair_30 : decode cX5_whyNotPair 30 = .ok (.iload_n 1, 1) := dk_27 (dk_at dksX5_whyNotPair_1 8 rfl rfl)
theorem dX5_whyNotPair_31 : decode cX5_whyNotPair 31 = .ok (.invokevirtual 236, 3) := dk_182 0 236 (dk_at dksX5_whyNotPair_1 9 rfl rfl)
theorem dX5_whyNotPair_34 : decode cX5_whyNotPair 34 = .ok (.ifCond .eq 11, 3) := dk_153 0 11 (dk_at dksX5_whyNotPair_1 12 rfl rfl)
theorem dX5_whyNotPair_37 : decode cX5_whyNotPair 37 = .ok (.aload_n 0, 1) := dk_42 (dk_at dksX5_whyNotPair_1 15 rfl rfl)
theorem dX5_whyNotPair_38 : decode cX5_whyNotPair 38 = .ok (.iload_n 2, 1) := dk_28 (dk_at dksX5_whyNotPair_1 16 rfl rfl)
theorem dX5_whyNotPair_39 : decode cX5_whyNotPair 39 = .ok (.invokevirtual 236, 3) := dk_182 0 236 (dk_at dksX5_whyNotPair_1 17 rfl rfl)
theorem dX5_whyNotPair_42 : decode cX5_whyNotPair 42 = .ok (.ifCond .ne 7, 3) := dk_154 0 7 (dk_at dksX5_whyNotPair_1 20 rfl rfl)
theorem dX5_whyNotPair_45 : decode cX5_whyNotPair 45 = .ok (.iconst 3, 1) := dk_6 (dk_at dksX5_whyNotPair_1 23 rfl rfl)
theorem dX5_whyNotPair_46 : decode cX5_whyNotPair 46 = .ok (.goto 4, 3) := dk_167 0 4 (dk_at dksX5_whyNotPair_2 0 rfl rfl)
theorem dX5_whyNotPair_49 : decode cX5_whyNotPair 49 = .ok (.iconst 0, 1) := dk_3 (dk_at dksX5_whyNotPair_2 3 rfl rfl)
theorem dX5_whyNotPair_50 : decode cX5_whyNotPair 50 = .ok (.ireturn, 1) := dk_172 (dk_at dksX5_whyNotPair_2 4 rfl rfl)
abbrev cX5_swapProblemOf : ByteArray := prog_17_method_85_code
def yX5_swapProblemOf : MethodName := ⟨RX5, "swapProblemOf", "(II)I"⟩
def dkwX5_swapProblemOf_5 : List UInt8 := [182, 1, 48, 21, 6, 154, 0, 7, 3, 167, 0, 8, 16, 20, 21, 6, 96, 172]
abbrev dktX5_swapProblemOf_5 : List UInt8 := dkwX5_swapProblemOf_5 ++ []
def dkwX5_swapProblemOf_4 : List UInt8 := [182, 0, 228, 182, 1, 48, 42, 28, 21, 4, 21, 5, 182, 1, 91, 54, 6, 42, 27, 21, 4, 21, 5]
abbrev dktX5_swapProblemOf_4 : List UInt8 := dkwX5_swapProblemOf_4 ++ dktX5_swapProblemOf_5
def dkwX5_swapProblemOf_3 : List UInt8 := [42, 27, 16, 10, 182, 0, 228, 54, 5, 42, 27, 42, 28, 16, 9, 182, 0, 228, 42, 28, 16, 10]
abbrev dktX5_swapProblemOf_3 : List UInt8 := dkwX5_swapProblemOf_3 ++ dktX5_swapProblemOf_4
def dkwX5_swapProblemOf_2 : List UInt8 := [180, 0, 48, 28, 3, 84, 29, 153, 0, 8, 16, 10, 29, 96, 172, 42, 27, 16, 9, 182, 0, 228, 54, 4]
abbrev dktX5_swapProblemOf_2 : List UInt8 := dkwX5_swapProblemOf_2 ++ dktX5_swapProblemOf_3
def dkwX5_swapProblemOf_1 : List UInt8 := [84, 42, 27, 42, 28, 16, 9, 182, 0, 228, 42, 28, 16, 10, 182, 0, 228, 182, 1, 91, 62, 42]
abbrev dktX5_swapProblemOf_1 : List UInt8 := dkwX5_swapProblemOf_1 ++ dktX5_swapProblemOf_2
def dkwX5_swapProblemOf_0 : List UInt8 := [42, 27, 182, 1, 79, 153, 0, 11, 42, 28, 182, 1, 79, 154, 0, 5, 4, 172, 42, 180, 0, 48, 28, 4]
abbrev dktX5_swapProblemOf_0 : List UInt8 := dkwX5_swapProblemOf_0 ++ dktX5_swapProblemOf_1
theorem dksX5_swapProblemOf_0 : cX5_swapProblemOf.data.toList.drop 0 = dktX5_swapProblemOf_0 := by decide +kernel
theorem dksX5_swapProblemOf_1 : cX5_swapProblemOf.data.toList.drop 24 = dktX5_swapProblemOf_1 := dk_seg dksX5_swapProblemOf_0 24 rfl rfl
theorem dksX5_swapProblemOf_2 : cX5_swapProblemOf.data.toList.drop 46 = dktX5_swapProblemOf_2 := dk_seg dksX5_swapProblemOf_1 22 rfl rfl
theorem dksX5_swapProblemOf_3 : cX5_swapProblemOf.data.toList.drop 70 = dktX5_swapProblemOf_3 := dk_seg dksX5_swapProblemOf_2 24 rfl rfl
theorem dksX5_swapProblemOf_4 : cX5_swapProblemOf.data.toList.drop 92 = dktX5_swapProblemOf_4 := dk_seg dksX5_swapProblemOf_3 22 rfl rfl
theorem dksX5_swapProblemOf_5 : cX5_swapProblemOf.data.toList.drop 115 = dktX5_swapProblemOf_5 := dk_seg dksX5_swapProblemOf_4 23 rfl rfl
theorem dX5_swapProblemOf_0 : decode cX5_swapProblemOf 0 = .ok (.aload_n 0, 1) := dk_42 (dk_at dksX5_swapProblemOf_0 0 rfl rfl)
theorem dX5_swapProblemOf_1 : decode cX5_swapProblemOf 1 = .ok (.iload_n 1, 1) := dk_27 (dk_at dksX5_swapProblemOf_0 1 rfl rfl)
theorem dX5_swapProblemOf_2 : decode cX5_swapProblemOf 2 = .ok (.invokevirtual 335, 3) := dk_182 1 79 (dk_at dksX5_swapProblemOf_0 2 rfl rfl)
theorem dX5_swapProblemOf_5 : decode cX5_swapProblemOf 5 = .ok (.ifCond .eq 11, 3) := dk_153 0 11 (dk_at dksX5_swapProblemOf_0 5 rfl rfl)
theorem dX5_swapProblemOf_8 : decode cX5_swapProblemOf 8 = .ok (.aload_n 0, 1) := dk_42 (dk_at dksX5_swapProblemOf_0 8 rfl rfl)
theorem dX5_swapProblemOf_9 : decode cX5_swapProblemOf 9 = .ok (.iload_n 2, 1) := dk_28 (dk_at dksX5_swapProblemOf_0 9 rfl rfl)
theorem dX5_swapProblemOf_10 : decode cX5_swapProblemOf 10 = .ok (.invokevirtual 335, 3) := dk_182 1 79 (dk_at dksX5_swapProblemOf_0 10 rfl rfl)
theorem dX5_swapProblemOf_13 : decode cX5_swapProblemOf 13 = .ok (.ifCond .ne 5, 3) := dk_154 0 5 (dk_at dksX5_swapProblemOf_0 13 rfl rfl)
theorem dX5_swapProblemOf_16 : decode cX5_swapProblemOf 16 = .ok (.iconst 1, 1) := dk_4 (dk_at dksX5_swapProblemOf_0 16 rfl rfl)
theorem dX5_swapProblemOf_17 : decode cX5_swapProblemOf 17 = .ok (.ireturn, 1) := dk_172 (dk_at dksX5_swapProblemOf_0 17 rfl rfl)
theorem dX5_swapProblemOf_18 : decode cX5_swapProblemOf 18 = .ok (.aload_n 0, 1) := dk_42 (dk_at dksX5_swapProblemOf_0 18 rfl rfl)
theorem dX5_swapProblemOf_19 : decode cX5_swapProblemOf 19 = .ok (.getfield 48, 3) := dk_180 0 48 (dk_at dksX5_swapProblemOf_0 19 rfl rfl)
theorem dX5_swapProblemOf_22 : decode cX5_swapProblemOf 22 = .ok (.iload_n 2, 1) := dk_28 (dk_at dksX5_swapProblemOf_0 22 rfl rfl)
theorem dX5_swapProblemOf_23 : decode cX5_swapProblemOf 23 = .ok (.iconst 1, 1) := dk_4 (dk_at dksX5_swapProblemOf_0 23 rfl rfl)
theorem dX5_swapProblemOf_24 : decode cX5_swapProblemOf 24 = .ok (.bastore, 1) := dk_84 (dk_at dksX5_swapProblemOf_1 0 rfl rfl)
theorem dX5_swapProblemOf_25 : decode cX5_swapProblemOf 25 = .ok (.aload_n 0, 1) := dk_42 (dk_at dksX5_swapProblemOf_1 1 rfl rfl)
theorem dX5_swapProblemOf_26 : decode cX5_swapProblemOf 26 = .ok (.iload_n 1, 1) := dk_27 (dk_at dksX5_swapProblemOf_1 2 rfl rfl)
theorem dX5_swapProblemOf_27 : decode cX5_swapProblemOf 27 = .ok (.aload_n 0, 1) := dk_42 (dk_at dksX5_swapProblemOf_1 3 rfl rfl)
theorem dX5_swapProblemOf_28 : decode cX5_swapProblemOf 28 = .ok (.iload_n 2, 1) := dk_28 (dk_at dksX5_swapProblemOf_1 4 rfl rfl)
theorem dX5_swapProblemOf_29 : decode cX5_swapProblemOf 29 = .ok (.bipush 9, 2) := dk_16 9 (dk_at dksX5_swapProblemOf_1 5 rfl rfl)
theorem dX5_swapProblemOf_31 : decode cX5_swapProblemOf 31 = .ok (.invokevirtual 228, 3) := dk_182 0 228 (dk_at dksX5_swapProblemOf_1 7 rfl rfl)
theorem dX5_swapProblemOf_34 : decode cX5_swapProblemOf 34 = .ok (.aload_n 0, 1) := dk_42 (dk_at dksX5_swapProblemOf_1 10 rfl rfl)
theorem dX5_swapProblemOf_35 : decode cX5_swapProblemOf 35 = .ok (.iload_n 2, 1) := dk_28 (dk_at dksX5_swapProblemOf_1 11 rfl rfl)
theorem dX5_swapProblemOf_36 : decode cX5_swapProblemOf 36 = .ok (.bipush 10, 2) := dk_16 10 (dk_at dksX5_swapProblemOf_1 12 rfl rfl)
theorem dX5_swapProblemOf_38 : decode cX5_swapProblemOf 38 = .ok (.invokevirtual 228, 3) := dk_182 0 228 (dk_at dksX5_swapProblemOf_1 14 rfl rfl)
theorem dX5_swapProblemOf_41 : decode cX5_swapProblemOf 41 = .ok (.invokevirtual 347, 3) := dk_182 1 91 (dk_at dksX5_swapProblemOf_1 17 rfl rfl)
theorem dX5_swapProblemOf_44 : decode cX5_swapProblemOf 44 = .ok (.istore_n 3, 1) := dk_62 (dk_at dksX5_swapProblemOf_1 20 rfl rfl)
theorem dX5_swapProblemOf_45 : decode cX5_swapProblemOf 45 = .ok (.aload_n 0, 1) := dk_42 (dk_at dksX5_swapProblemOf_1 21 rfl rfl)
theorem dX5_swapProblemOf_46 : decode cX5_swapProblemOf 46 = .ok (.getfield 48, 3) := dk_180 0 48 (dk_at dksX5_swapProblemOf_2 0 rfl rfl)
theorem dX5_swapProblemOf_49 : decode cX5_swapProblemOf 49 = .ok (.iload_n 2, 1) := dk_28 (dk_at dksX5_swapProblemOf_2 3 rfl rfl)
theorem dX5_swapProblemOf_50 : decode cX5_swapProblemOf 50 = .ok (.iconst 0, 1) := dk_3 (dk_at dksX5_swapProblemOf_2 4 rfl rfl)
theorem dX5_swapProblemOf_51 : decode cX5_swapProblemOf 51 = .ok (.bastore, 1) := dk_84 (dk_at dksX5_swapProblemOf_2 5 rfl rfl)
theorem dX5_swapProblemOf_52 : decode cX5_swapProblemOf 52 = .ok (.iload_n 3, 1) := dk_29 (dk_at dksX5_swapProblemOf_2 6 rfl rfl)
theorem dX5_swapProblemOf_53 : decode cX5_swapProblemOf 53 = .ok (.ifCond .eq 8, 3) := dk_153 0 8 (dk_at dksX5_swapProblemOf_2 7 rfl rfl)
theorem dX5_swapProblemOf_56 : decode cX5_swapProblemOf 56 = .ok (.bipush 10, 2) := dk_16 10 (dk_at dksX5_swapProblemOf_2 10 rfl rfl)
theorem dX5_swapProblemOf_58 : decode cX5_swapProblemOf 58 = .ok (.iload_n 3, 1) := dk_29 (dk_at dksX5_swapProblemOf_2 12 rfl rfl)
theorem dX5_swapProblemOf_59 : decode cX5_swapProblemOf 59 = .ok (.iadd, 1) := dk_96 (dk_at dksX5_swapProblemOf_2 13 rfl rfl)
theorem dX5_swapProblemOf_60 : decode cX5_swapProblemOf 60 = .ok (.ireturn, 1) := dk_172 (dk_at dksX5_swapProblemOf_2 14 rfl rfl)
theorem dX5_swapProblemOf_61 : decode cX5_swapProblemOf 61 = .ok (.aload_n 0, 1) := dk_42 (dk_at dksX5_swapProblemOf_2 15 rfl rfl)
theorem dX5_swapProblemOf_62 : decode cX5_swapProblemOf 62 = .ok (.iload_n 1, 1) := dk_27 (dk_at dksX5_swapProblemOf_2 16 rfl rfl)
theorem dX5_swapProblemOf_63 : decode cX5_swapProblemOf 63 = .ok (.bipush 9, 2) := dk_16 9 (dk_at dksX5_swapProblemOf_2 17 rfl rfl)
theorem dX5_swapProblemOf_65 : decode cX5_swapProblemOf 65 = .ok (.invokevirtual 228, 3) := dk_182 0 228 (dk_at dksX5_swapProblemOf_2 19 rfl rfl)
theorem dX5_swapProblemOf_68 : decode cX5_swapProblemOf 68 = .ok (.istore 4, 2) := dk_54 4 (dk_at dksX5_swapProblemOf_2 22 rfl rfl)
theorem dX5_swapProblemOf_70 : decode cX5_swapProblemOf 70 = .ok (.aload_n 0, 1) := dk_42 (dk_at dksX5_swapProblemOf_3 0 rfl rfl)
theorem dX5_swapProblemOf_71 : decode cX5_swapProblemOf 71 = .ok (.iload_n 1, 1) := dk_27 (dk_at dksX5_swapProblemOf_3 1 rfl rfl)
theorem dX5_swapProblemOf_72 : decode cX5_swapProblemOf 72 = .ok (.bipush 10, 2) := dk_16 10 (dk_at dksX5_swapProblemOf_3 2 rfl rfl)
theorem dX5_swapProblemOf_74 : decode cX5_swapProblemOf 74 = .ok (.invokevirtual 228, 3) := dk_182 0 228 (dk_at dksX5_swapProblemOf_3 4 rfl rfl)
theorem dX5_swapProblemOf_77 : decode cX5_swapProblemOf 77 = .ok (.istore 5, 2) := dk_54 5 (dk_at dksX5_swapProblemOf_3 7 rfl rfl)
theorem dX5_swapProblemOf_79 : decode cX5_swapProblemOf 79 = .ok (.aload_n 0, 1) := dk_42 (dk_at dksX5_swapProblemOf_3 9 rfl rfl)
theorem dX5_swapProblemOf_80 : decode cX5_swapProblemOf 80 = .ok (.iload_n 1, 1) := dk_27 (dk_at dksX5_swapProblemOf_3 10 rfl rfl)
theorem dX5_swapProblemOf_81 : decode cX5_swapProblemOf 81 = .ok (.aload_n 0, 1) := dk_42 (dk_at dksX5_swapProblemOf_3 11 rfl rfl)
theorem dX5_swapProblemOf_82 : decode cX5_swapProblemOf 82 = .ok (.iload_n 2, 1) := dk_28 (dk_at dksX5_swapProblemOf_3 12 rfl rfl)
theorem dX5_swapProblemOf_83 : decode cX5_swapProblemOf 83 = .ok (.bipush 9, 2) := dk_16 9 (dk_at dksX5_swapProblemOf_3 13 rfl rfl)
theorem dX5_swapProblemOf_85 : decode cX5_swapProblemOf 85 = .ok (.invokevirtual 228, 3) := dk_182 0 228 (dk_at dksX5_swapProblemOf_3 15 rfl rfl)
theorem dX5_swapProblemOf_88 : decode cX5_swapProblemOf 88 = .ok (.aload_n 0, 1) := dk_42 (dk_at dksX5_swapProblemOf_3 18 rfl rfl)
theorem dX5_swapProblemOf_89 : decode cX5_swapProblemOf 89 = .ok (.iload_n 2, 1) := dk_28 (dk_at dksX5_swapProblemOf_3 19 rfl rfl)
theorem dX5_swapProblemOf_90 : decode cX5_swapProblemOf 90 = .ok (.bipush 10, 2) := dk_16 10 (dk_at dksX5_swapProblemOf_3 20 rfl rfl)
theorem dX5_swapProblemOf_92 : decode cX5_swapProblemOf 92 = .ok (.invokevirtual 228, 3) := dk_182 0 228 (dk_at dksX5_swapProblemOf_4 0 rfl rfl)
theorem dX5_swapProblemOf_95 : decode cX5_swapProblemOf 95 = .ok (.invokevirtual 304, 3) := dk_182 1 48 (dk_at dksX5_swapProblemOf_4 3 rfl rfl)
theorem dX5_swapProblemOf_98 : decode cX5_swapProblemOf 98 = .ok (.aload_n 0, 1) := dk_42 (dk_at dksX5_swapProblemOf_4 6 rfl rfl)
theorem dX5_swapProblemOf_99 : decode cX5_swapProblemOf 99 = .ok (.iload_n 2, 1) := dk_28 (dk_at dksX5_swapProblemOf_4 7 rfl rfl)
theorem dX5_swapProblemOf_100 : decode cX5_swapProblemOf 100 = .ok (.iload 4, 2) := dk_21 4 (dk_at dksX5_swapProblemOf_4 8 rfl rfl)
theorem dX5_swapProblemOf_102 : decode cX5_swapProblemOf 102 = .ok (.iload 5, 2) := dk_21 5 (dk_at dksX5_swapProblemOf_4 10 rfl rfl)
theorem dX5_swapProblemOf_104 : decode cX5_swapProblemOf 104 = .ok (.invokevirtual 347, 3) := dk_182 1 91 (dk_at dksX5_swapProblemOf_4 12 rfl rfl)
theorem dX5_swapProblemOf_107 : decode cX5_swapProblemOf 107 = .ok (.istore 6, 2) := dk_54 6 (dk_at dksX5_swapProblemOf_4 15 rfl rfl)
theorem dX5_swapProblemOf_109 : decode cX5_swapProblemOf 109 = .ok (.aload_n 0, 1) := dk_42 (dk_at dksX5_swapProblemOf_4 17 rfl rfl)
theorem dX5_swapProblemOf_110 : decode cX5_swapProblemOf 110 = .ok (.iload_n 1, 1) := dk_27 (dk_at dksX5_swapProblemOf_4 18 rfl rfl)
theorem dX5_swapProblemOf_111 : decode cX5_swapProblemOf 111 = .ok (.iload 4, 2) := dk_21 4 (dk_at dksX5_swapProblemOf_4 19 rfl rfl)
theorem dX5_swapProblemOf_113 : decode cX5_swapProblemOf 113 = .ok (.iload 5, 2) := dk_21 5 (dk_at dksX5_swapProblemOf_4 21 rfl rfl)
theorem dX5_swapProblemOf_115 : decode cX5_swapProblemOf 115 = .ok (.invokevirtual 304, 3) := dk_182 1 48 (dk_at dksX5_swapProblemOf_5 0 rfl rfl)
theorem dX5_swapProblemOf_118 : decode cX5_swapProblemOf 118 = .ok (.iload 6, 2) := dk_21 6 (dk_at dksX5_swapProblemOf_5 3 rfl rfl)
theorem dX5_swapProblemOf_120 : decode cX5_swapProblemOf 120 = .ok (.ifCond .ne 7, 3) := dk_154 0 7 (dk_at dksX5_swapProblemOf_5 5 rfl rfl)
theorem dX5_swapProblemOf_123 : decode cX5_swapProblemOf 123 = .ok (.iconst 0, 1) := dk_3 (dk_at dksX5_swapProblemOf_5 8 rfl rfl)
theorem dX5_swapProblemOf_124 : decode cX5_swapProblemOf 124 = .ok (.goto 8, 3) := dk_167 0 8 (dk_at dksX5_swapProblemOf_5 9 rfl rfl)
theorem dX5_swapProblemOf_127 : decode cX5_swapProblemOf 127 = .ok (.bipush 20, 2) := dk_16 20 (dk_at dksX5_swapProblemOf_5 12 rfl rfl)
theorem dX5_swapProblemOf_129 : decode cX5_swapProblemOf 129 = .ok (.iload 6, 2) := dk_21 6 (dk_at dksX5_swapProblemOf_5 14 rfl rfl)
theorem dX5_swapProblemOf_131 : decode cX5_swapProblemOf 131 = .ok (.iadd, 1) := dk_96 (dk_at dksX5_swapProblemOf_5 16 rfl rfl)
theorem dX5_swapProblemOf_132 : decode cX5_swapProblemOf 132 = .ok (.ireturn, 1) := dk_172 (dk_at dksX5_swapProblemOf_5 17 rfl rfl)
abbrev cX5_enqueue : ByteArray := prog_17_method_88_code
def yX5_enqueue : MethodName := ⟨RX5, "enqueue", "(II)I"⟩
def dkwX5_enqueue_5 : List UInt8 := [28, 79, 42, 180, 0, 36, 5, 92, 46, 4, 96, 79, 42, 180, 0, 36, 5, 46, 172]
abbrev dktX5_enqueue_5 : List UInt8 := dkwX5_enqueue_5 ++ []
def dkwX5_enqueue_4 : List UInt8 := [132, 4, 1, 167, 255, 230, 42, 180, 0, 36, 29, 16, 9, 96, 27, 79, 42, 180, 0, 36, 29, 16, 10, 96]
abbrev dktX5_enqueue_4 : List UInt8 := dkwX5_enqueue_4 ++ dktX5_enqueue_5
def dkwX5_enqueue_3 : List UInt8 := [21, 4, 16, 9, 162, 0, 25, 42, 180, 0, 36, 29, 21, 4, 96, 42, 180, 0, 30, 21, 4, 46, 79]
abbrev dktX5_enqueue_3 : List UInt8 := dkwX5_enqueue_3 ++ dktX5_enqueue_4
def dkwX5_enqueue_2 : List UInt8 := [42, 6, 182, 0, 83, 172, 42, 182, 1, 58, 42, 180, 0, 36, 5, 46, 184, 1, 70, 62, 3, 54, 4]
abbrev dktX5_enqueue_2 : List UInt8 := dkwX5_enqueue_2 ++ dktX5_enqueue_3
def dkwX5_enqueue_1 : List UInt8 := [46, 153, 0, 23, 42, 180, 0, 36, 5, 46, 16, 20, 159, 0, 12, 42, 27, 28, 182, 1, 55, 154, 0, 9]
abbrev dktX5_enqueue_1 : List UInt8 := dkwX5_enqueue_1 ++ dktX5_enqueue_2
def dkwX5_enqueue_0 : List UInt8 := [42, 42, 27, 28, 182, 1, 52, 181, 0, 3, 42, 180, 0, 3, 158, 0, 5, 3, 172, 42, 180, 0, 13, 4]
abbrev dktX5_enqueue_0 : List UInt8 := dkwX5_enqueue_0 ++ dktX5_enqueue_1
theorem dksX5_enqueue_0 : cX5_enqueue.data.toList.drop 0 = dktX5_enqueue_0 := by decide +kernel
theorem dksX5_enqueue_1 : cX5_enqueue.data.toList.drop 24 = dktX5_enqueue_1 := dk_seg dksX5_enqueue_0 24 rfl rfl
theorem dksX5_enqueue_2 : cX5_enqueue.data.toList.drop 48 = dktX5_enqueue_2 := dk_seg dksX5_enqueue_1 24 rfl rfl
theorem dksX5_enqueue_3 : cX5_enqueue.data.toList.drop 71 = dktX5_enqueue_3 := dk_seg dksX5_enqueue_2 23 rfl rfl
theorem dksX5_enqueue_4 : cX5_enqueue.data.toList.drop 94 = dktX5_enqueue_4 := dk_seg dksX5_enqueue_3 23 rfl rfl
theorem dksX5_enqueue_5 : cX5_enqueue.data.toList.drop 118 = dktX5_enqueue_5 := dk_seg dksX5_enqueue_4 24 rfl rfl
theorem dX5_enqueue_0 : decode cX5_enqueue 0 = .ok (.aload_n 0, 1) := dk_42 (dk_at dksX5_enqueue_0 0 rfl rfl)
theorem dX5_enqueue_1 : decode cX5_enqueue 1 = .ok (.aload_n 0, 1) := dk_42 (dk_at dksX5_enqueue_0 1 rfl rfl)
theorem dX5_enqueue_2 : decode cX5_enqueue 2 = .ok (.iload_n 1, 1) := dk_27 (dk_at dksX5_enqueue_0 2 rfl rfl)
theorem dX5_enqueue_3 : decode cX5_enqueue 3 = .ok (.iload_n 2, 1) := dk_28 (dk_at dksX5_enqueue_0 3 rfl rfl)
theorem dX5_enqueue_4 : decode cX5_enqueue 4 = .ok (.invokevirtual 308, 3) := dk_182 1 52 (dk_at dksX5_enqueue_0 4 rfl rfl)
theorem dX5_enqueue_7 : decode cX5_enqueue 7 = .ok (.putfield 3, 3) := dk_181 0 3 (dk_at dksX5_enqueue_0 7 rfl rfl)
theorem dX5_enqueue_10 : decode cX5_enqueue 10 = .ok (.aload_n 0, 1) := dk_42 (dk_at dksX5_enqueue_0 10 rfl rfl)
theorem dX5_enqueue_11 : decode cX5_enqueue 11 = .ok (.getfield 3, 3) := dk_180 0 3 (dk_at dksX5_enqueue_0 11 rfl rfl)
theorem dX5_enqueue_14 : decode cX5_enqueue 14 = .ok (.ifCond .le 5, 3) := dk_158 0 5 (dk_at dksX5_enqueue_0 14 rfl rfl)
theorem dX5_enqueue_17 : decode cX5_enqueue 17 = .ok (.iconst 0, 1) := dk_3 (dk_at dksX5_enqueue_0 17 rfl rfl)
theorem dX5_enqueue_18 : decode cX5_enqueue 18 = .ok (.ireturn, 1) := dk_172 (dk_at dksX5_enqueue_0 18 rfl rfl)
theorem dX5_enqueue_19 : decode cX5_enqueue 19 = .ok (.aload_n 0, 1) := dk_42 (dk_at dksX5_enqueue_0 19 rfl rfl)
theorem dX5_enqueue_20 : decode cX5_enqueue 20 = .ok (.getfield 13, 3) := dk_180 0 13 (dk_at dksX5_enqueue_0 20 rfl rfl)
theorem dX5_enqueue_23 : decode cX5_enqueue 23 = .ok (.iconst 1, 1) := dk_4 (dk_at dksX5_enqueue_0 23 rfl rfl)
theorem dX5_enqueue_24 : decode cX5_enqueue 24 = .ok (.iaload, 1) := dk_46 (dk_at dksX5_enqueue_1 0 rfl rfl)
theorem dX5_enqueue_25 : decode cX5_enqueue 25 = .ok (.ifCond .eq 23, 3) := dk_153 0 23 (dk_at dksX5_enqueue_1 1 rfl rfl)
theorem dX5_enqueue_28 : decode cX5_enqueue 28 = .ok (.aload_n 0, 1) := dk_42 (dk_at dksX5_enqueue_1 4 rfl rfl)
theorem dX5_enqueue_29 : decode cX5_enqueue 29 = .ok (.getfield 36, 3) := dk_180 0 36 (dk_at dksX5_enqueue_1 5 rfl rfl)
theorem dX5_enqueue_32 : decode cX5_enqueue 32 = .ok (.iconst 2, 1) := dk_5 (dk_at dksX5_enqueue_1 8 rfl rfl)
theorem dX5_enqueue_33 : decode cX5_enqueue 33 = .ok (.iaload, 1) := dk_46 (dk_at dksX5_enqueue_1 9 rfl rfl)
theorem dX5_enqueue_34 : decode cX5_enqueue 34 = .ok (.bipush 20, 2) := dk_16 20 (dk_at dksX5_enqueue_1 10 rfl rfl)
theorem dX5_enqueue_36 : decode cX5_enqueue 36 = .ok (.if_icmp .eq 12, 3) := dk_159 0 12 (dk_at dksX5_enqueue_1 12 rfl rfl)
theorem dX5_enqueue_39 : decode cX5_enqueue 39 = .ok (.aload_n 0, 1) := dk_42 (dk_at dksX5_enqueue_1 15 rfl rfl)
theorem dX5_enqueue_40 : decode cX5_enqueue 40 = .ok (.iload_n 1, 1) := dk_27 (dk_at dksX5_enqueue_1 16 rfl rfl)
theorem dX5_enqueue_41 : decode cX5_enqueue 41 = .ok (.iload_n 2, 1) := dk_28 (dk_at dksX5_enqueue_1 17 rfl rfl)
theorem dX5_enqueue_42 : decode cX5_enqueue 42 = .ok (.invokevirtual 311, 3) := dk_182 1 55 (dk_at dksX5_enqueue_1 18 rfl rfl)
theorem dX5_enqueue_45 : decode cX5_enqueue 45 = .ok (.ifCond .ne 9, 3) := dk_154 0 9 (dk_at dksX5_enqueue_1 21 rfl rfl)
theorem dX5_enqueue_48 : decode cX5_enqueue 48 = .ok (.aload_n 0, 1) := dk_42 (dk_at dksX5_enqueue_2 0 rfl rfl)
theorem dX5_enqueue_49 : decode cX5_enqueue 49 = .ok (.iconst 3, 1) := dk_6 (dk_at dksX5_enqueue_2 1 rfl rfl)
theorem dX5_enqueue_50 : decode cX5_enqueue 50 = .ok (.invokevirtual 83, 3) := dk_182 0 83 (dk_at dksX5_enqueue_2 2 rfl rfl)
theorem dX5_enqueue_53 : decode cX5_enqueue 53 = .ok (.ireturn, 1) := dk_172 (dk_at dksX5_enqueue_2 5 rfl rfl)
theorem dX5_enqueue_54 : decode cX5_enqueue 54 = .ok (.aload_n 0, 1) := dk_42 (dk_at dksX5_enqueue_2 6 rfl rfl)
theorem dX5_enqueue_55 : decode cX5_enqueue 55 = .ok (.invokevirtual 314, 3) := dk_182 1 58 (dk_at dksX5_enqueue_2 7 rfl rfl)
theorem dX5_enqueue_58 : decode cX5_enqueue 58 = .ok (.aload_n 0, 1) := dk_42 (dk_at dksX5_enqueue_2 10 rfl rfl)
theorem dX5_enqueue_59 : decode cX5_enqueue 59 = .ok (.getfield 36, 3) := dk_180 0 36 (dk_at dksX5_enqueue_2 11 rfl rfl)
theorem dX5_enqueue_62 : decode cX5_enqueue 62 = .ok (.iconst 2, 1) := dk_5 (dk_at dksX5_enqueue_2 14 rfl rfl)
theorem dX5_enqueue_63 : decode cX5_enqueue 63 = .ok (.iaload, 1) := dk_46 (dk_at dksX5_enqueue_2 15 rfl rfl)
theorem dX5_enqueue_64 : decode cX5_enqueue 64 = .ok (.invokestatic 326, 3) := dk_184 1 70 (dk_at dksX5_enqueue_2 16 rfl rfl)
theorem dX5_enqueue_67 : decode cX5_enqueue 67 = .ok (.istore_n 3, 1) := dk_62 (dk_at dksX5_enqueue_2 19 rfl rfl)
theorem dX5_enqueue_68 : decode cX5_enqueue 68 = .ok (.iconst 0, 1) := dk_3 (dk_at dksX5_enqueue_2 20 rfl rfl)
theorem dX5_enqueue_69 : decode cX5_enqueue 69 = .ok (.istore 4, 2) := dk_54 4 (dk_at dksX5_enqueue_2 21 rfl rfl)
theorem dX5_enqueue_71 : decode cX5_enqueue 71 = .ok (.iload 4, 2) := dk_21 4 (dk_at dksX5_enqueue_3 0 rfl rfl)
theorem dX5_enqueue_73 : decode cX5_enqueue 73 = .ok (.bipush 9, 2) := dk_16 9 (dk_at dksX5_enqueue_3 2 rfl rfl)
theorem dX5_enqueue_75 : decode cX5_enqueue 75 = .ok (.if_icmp .ge 25, 3) := dk_162 0 25 (dk_at dksX5_enqueue_3 4 rfl rfl)
theorem dX5_enqueue_78 : decode cX5_enqueue 78 = .ok (.aload_n 0, 1) := dk_42 (dk_at dksX5_enqueue_3 7 rfl rfl)
theorem dX5_enqueue_79 : decode cX5_enqueue 79 = .ok (.getfield 36, 3) := dk_180 0 36 (dk_at dksX5_enqueue_3 8 rfl rfl)
theorem dX5_enqueue_82 : decode cX5_enqueue 82 = .ok (.iload_n 3, 1) := dk_29 (dk_at dksX5_enqueue_3 11 rfl rfl)
theorem dX5_enqueue_83 : decode cX5_enqueue 83 = .ok (.iload 4, 2) := dk_21 4 (dk_at dksX5_enqueue_3 12 rfl rfl)
theorem dX5_enqueue_85 : decode cX5_enqueue 85 = .ok (.iadd, 1) := dk_96 (dk_at dksX5_enqueue_3 14 rfl rfl)
theorem dX5_enqueue_86 : decode cX5_enqueue 86 = .ok (.aload_n 0, 1) := dk_42 (dk_at dksX5_enqueue_3 15 rfl rfl)
theorem dX5_enqueue_87 : decode cX5_enqueue 87 = .ok (.getfield 30, 3) := dk_180 0 30 (dk_at dksX5_enqueue_3 16 rfl rfl)
theorem dX5_enqueue_90 : decode cX5_enqueue 90 = .ok (.iload 4, 2) := dk_21 4 (dk_at dksX5_enqueue_3 19 rfl rfl)
theorem dX5_enqueue_92 : decode cX5_enqueue 92 = .ok (.iaload, 1) := dk_46 (dk_at dksX5_enqueue_3 21 rfl rfl)
theorem dX5_enqueue_93 : decode cX5_enqueue 93 = .ok (.iastore, 1) := dk_79 (dk_at dksX5_enqueue_3 22 rfl rfl)
theorem dX5_enqueue_94 : decode cX5_enqueue 94 = .ok (.iinc 4 1, 3) := dk_132 4 1 (dk_at dksX5_enqueue_4 0 rfl rfl)
theorem dX5_enqueue_97 : decode cX5_enqueue 97 = .ok (.goto (-26), 3) := dk_167 255 230 (dk_at dksX5_enqueue_4 3 rfl rfl)
theorem dX5_enqueue_100 : decode cX5_enqueue 100 = .ok (.aload_n 0, 1) := dk_42 (dk_at dksX5_enqueue_4 6 rfl rfl)
theorem dX5_enqueue_101 : decode cX5_enqueue 101 = .ok (.getfield 36, 3) := dk_180 0 36 (dk_at dksX5_enqueue_4 7 rfl rfl)
theorem dX5_enqueue_104 : decode cX5_enqueue 104 = .ok (.iload_n 3, 1) := dk_29 (dk_at dksX5_enqueue_4 10 rfl rfl)
theorem dX5_enqueue_105 : decode cX5_enqueue 105 = .ok (.bipush 9, 2) := dk_16 9 (dk_at dksX5_enqueue_4 11 rfl rfl)
theorem dX5_enqueue_107 : decode cX5_enqueue 107 = .ok (.iadd, 1) := dk_96 (dk_at dksX5_enqueue_4 13 rfl rfl)
theorem dX5_enqueue_108 : decode cX5_enqueue 108 = .ok (.iload_n 1, 1) := dk_27 (dk_at dksX5_enqueue_4 14 rfl rfl)
theorem dX5_enqueue_109 : decode cX5_enqueue 109 = .ok (.iastore, 1) := dk_79 (dk_at dksX5_enqueue_4 15 rfl rfl)
theorem dX5_enqueue_110 : decode cX5_enqueue 110 = .ok (.aload_n 0, 1) := dk_42 (dk_at dksX5_enqueue_4 16 rfl rfl)
theorem dX5_enqueue_111 : decode cX5_enqueue 111 = .ok (.getfield 36, 3) := dk_180 0 36 (dk_at dksX5_enqueue_4 17 rfl rfl)
theorem dX5_enqueue_114 : decode cX5_enqueue 114 = .ok (.iload_n 3, 1) := dk_29 (dk_at dksX5_enqueue_4 20 rfl rfl)
theorem dX5_enqueue_115 : decode cX5_enqueue 115 = .ok (.bipush 10, 2) := dk_16 10 (dk_at dksX5_enqueue_4 21 rfl rfl)
theorem dX5_enqueue_117 : decode cX5_enqueue 117 = .ok (.iadd, 1) := dk_96 (dk_at dksX5_enqueue_4 23 rfl rfl)
theorem dX5_enqueue_118 : decode cX5_enqueue 118 = .ok (.iload_n 2, 1) := dk_28 (dk_at dksX5_enqueue_5 0 rfl rfl)
theorem dX5_enqueue_119 : decode cX5_enqueue 119 = .ok (.iastore, 1) := dk_79 (dk_at dksX5_enqueue_5 1 rfl rfl)
theorem dX5_enqueue_120 : decode cX5_enqueue 120 = .ok (.aload_n 0, 1) := dk_42 (dk_at dksX5_enqueue_5 2 rfl rfl)
theorem dX5_enqueue_121 : decode cX5_enqueue 121 = .ok (.getfield 36, 3) := dk_180 0 36 (dk_at dksX5_enqueue_5 3 rfl rfl)
theorem dX5_enqueue_124 : decode cX5_enqueue 124 = .ok (.iconst 2, 1) := dk_5 (dk_at dksX5_enqueue_5 6 rfl rfl)
theorem dX5_enqueue_125 : decode cX5_enqueue 125 = .ok (.dup2, 1) := dk_92 (dk_at dksX5_enqueue_5 7 rfl rfl)
theorem dX5_enqueue_126 : decode cX5_enqueue 126 = .ok (.iaload, 1) := dk_46 (dk_at dksX5_enqueue_5 8 rfl rfl)
theorem dX5_enqueue_127 : decode cX5_enqueue 127 = .ok (.iconst 1, 1) := dk_4 (dk_at dksX5_enqueue_5 9 rfl rfl)
theorem dX5_enqueue_128 : decode cX5_enqueue 128 = .ok (.iadd, 1) := dk_96 (dk_at dksX5_enqueue_5 10 rfl rfl)
theorem dX5_enqueue_129 : decode cX5_enqueue 129 = .ok (.iastore, 1) := dk_79 (dk_at dksX5_enqueue_5 11 rfl rfl)
theorem dX5_enqueue_130 : decode cX5_enqueue 130 = .ok (.aload_n 0, 1) := dk_42 (dk_at dksX5_enqueue_5 12 rfl rfl)
theorem dX5_enqueue_131 : decode cX5_enqueue 131 = .ok (.getfield 36, 3) := dk_180 0 36 (dk_at dksX5_enqueue_5 13 rfl rfl)
theorem dX5_enqueue_134 : decode cX5_enqueue 134 = .ok (.iconst 2, 1) := dk_5 (dk_at dksX5_enqueue_5 16 rfl rfl)
theorem dX5_enqueue_135 : decode cX5_enqueue 135 = .ok (.iaload, 1) := dk_46 (dk_at dksX5_enqueue_5 17 rfl rfl)
theorem dX5_enqueue_136 : decode cX5_enqueue 136 = .ok (.ireturn, 1) := dk_172 (dk_at dksX5_enqueue_5 18 rfl rfl)
abbrev cX5_dequeue : ByteArray := prog_17_method_89_code
def yX5_dequeue : MethodName := ⟨RX5, "dequeue", "(I)I"⟩
def dkwX5_dequeue_1 : List UInt8 := [4, 182, 0, 83, 172, 42, 182, 1, 58, 42, 27, 182, 1, 73, 42, 180, 0, 36, 5, 46, 172]
abbrev dktX5_dequeue_1 : List UInt8 := dkwX5_dequeue_1 ++ []
def dkwX5_dequeue_0 : List UInt8 := [42, 3, 181, 0, 3, 27, 133, 9, 42, 180, 0, 36, 5, 46, 4, 100, 133, 184, 0, 90, 154, 0, 9, 42]
abbrev dktX5_dequeue_0 : List UInt8 := dkwX5_dequeue_0 ++ dktX5_dequeue_1
theorem dksX5_dequeue_0 : cX5_dequeue.data.toList.drop 0 = dktX5_dequeue_0 := by decide +kernel
theorem dksX5_dequeue_1 : cX5_dequeue.data.toList.drop 24 = dktX5_dequeue_1 := dk_seg dksX5_dequeue_0 24 rfl rfl
theorem dX5_dequeue_0 : decode cX5_dequeue 0 = .ok (.aload_n 0, 1) := dk_42 (dk_at dksX5_dequeue_0 0 rfl rfl)
theorem dX5_dequeue_1 : decode cX5_dequeue 1 = .ok (.iconst 0, 1) := dk_3 (dk_at dksX5_dequeue_0 1 rfl rfl)
theorem dX5_dequeue_2 : decode cX5_dequeue 2 = .ok (.putfield 3, 3) := dk_181 0 3 (dk_at dksX5_dequeue_0 2 rfl rfl)
theorem dX5_dequeue_5 : decode cX5_dequeue 5 = .ok (.iload_n 1, 1) := dk_27 (dk_at dksX5_dequeue_0 5 rfl rfl)
theorem dX5_dequeue_6 : decode cX5_dequeue 6 = .ok (.i2l, 1) := dk_133 (dk_at dksX5_dequeue_0 6 rfl rfl)
theorem dX5_dequeue_7 : decode cX5_dequeue 7 = .ok (.lconst 0, 1) := dk_9 (dk_at dksX5_dequeue_0 7 rfl rfl)
theorem dX5_dequeue_8 : decode cX5_dequeue 8 = .ok (.aload_n 0, 1) := dk_42 (dk_at dksX5_dequeue_0 8 rfl rfl)
theorem dX5_dequeue_9 : decode cX5_dequeue 9 = .ok (.getfield 36, 3) := dk_180 0 36 (dk_at dksX5_dequeue_0 9 rfl rfl)
theorem dX5_dequeue_12 : decode cX5_dequeue 12 = .ok (.iconst 2, 1) := dk_5 (dk_at dksX5_dequeue_0 12 rfl rfl)
theorem dX5_dequeue_13 : decode cX5_dequeue 13 = .ok (.iaload, 1) := dk_46 (dk_at dksX5_dequeue_0 13 rfl rfl)
theorem dX5_dequeue_14 : decode cX5_dequeue 14 = .ok (.iconst 1, 1) := dk_4 (dk_at dksX5_dequeue_0 14 rfl rfl)
theorem dX5_dequeue_15 : decode cX5_dequeue 15 = .ok (.isub, 1) := dk_100 (dk_at dksX5_dequeue_0 15 rfl rfl)
theorem dX5_dequeue_16 : decode cX5_dequeue 16 = .ok (.i2l, 1) := dk_133 (dk_at dksX5_dequeue_0 16 rfl rfl)
theorem dX5_dequeue_17 : decode cX5_dequeue 17 = .ok (.invokestatic 90, 3) := dk_184 0 90 (dk_at dksX5_dequeue_0 17 rfl rfl)
theorem dX5_dequeue_20 : decode cX5_dequeue 20 = .ok (.ifCond .ne 9, 3) := dk_154 0 9 (dk_at dksX5_dequeue_0 20 rfl rfl)
theorem dX5_dequeue_23 : decode cX5_dequeue 23 = .ok (.aload_n 0, 1) := dk_42 (dk_at dksX5_dequeue_0 23 rfl rfl)
theorem dX5_dequeue_24 : decode cX5_dequeue 24 = .ok (.iconst 1, 1) := dk_4 (dk_at dksX5_dequeue_1 0 rfl rfl)
theorem dX5_dequeue_25 : decode cX5_dequeue 25 = .ok (.invokevirtual 83, 3) := dk_182 0 83 (dk_at dksX5_dequeue_1 1 rfl rfl)
theorem dX5_dequeue_28 : decode cX5_dequeue 28 = .ok (.ireturn, 1) := dk_172 (dk_at dksX5_dequeue_1 4 rfl rfl)
theorem dX5_dequeue_29 : decode cX5_dequeue 29 = .ok (.aload_n 0, 1) := dk_42 (dk_at dksX5_dequeue_1 5 rfl rfl)
theorem dX5_dequeue_30 : decode cX5_dequeue 30 = .ok (.invokevirtual 314, 3) := dk_182 1 58 (dk_at dksX5_dequeue_1 6 rfl rfl)
theorem dX5_dequeue_33 : decode cX5_dequeue 33 = .ok (.aload_n 0, 1) := dk_42 (dk_at dksX5_dequeue_1 9 rfl rfl)
theorem dX5_dequeue_34 : decode cX5_dequeue 34 = .ok (.iload_n 1, 1) := dk_27 (dk_at dksX5_dequeue_1 10 rfl rfl)
theorem dX5_dequeue_35 : decode cX5_dequeue 35 = .ok (.invokevirtual 329, 3) := dk_182 1 73 (dk_at dksX5_dequeue_1 11 rfl rfl)
theorem dX5_dequeue_38 : decode cX5_dequeue 38 = .ok (.aload_n 0, 1) := dk_42 (dk_at dksX5_dequeue_1 14 rfl rfl)
theorem dX5_dequeue_39 : decode cX5_dequeue 39 = .ok (.getfield 36, 3) := dk_180 0 36 (dk_at dksX5_dequeue_1 15 rfl rfl)
theorem dX5_dequeue_42 : decode cX5_dequeue 42 = .ok (.iconst 2, 1) := dk_5 (dk_at dksX5_dequeue_1 18 rfl rfl)
theorem dX5_dequeue_43 : decode cX5_dequeue 43 = .ok (.iaload, 1) := dk_46 (dk_at dksX5_dequeue_1 19 rfl rfl)
theorem dX5_dequeue_44 : decode cX5_dequeue 44 = .ok (.ireturn, 1) := dk_172 (dk_at dksX5_dequeue_1 20 rfl rfl)
abbrev cX5_close : ByteArray := prog_17_method_91_code
def yX5_close : MethodName := ⟨RX5, "close", "(III)I"⟩
def dkwX5_close_6 : List UInt8 := [6, 46, 172]
abbrev dktX5_close_6 : List UInt8 := dkwX5_close_6 ++ []
def dkwX5_close_5 : List UInt8 := [42, 180, 0, 36, 21, 4, 5, 96, 29, 79, 42, 180, 0, 36, 6, 92, 46, 4, 96, 79, 42, 180, 0, 36]
abbrev dktX5_close_5 : List UInt8 := dkwX5_close_5 ++ dktX5_close_6
def dkwX5_close_4 : List UInt8 := [6, 46, 104, 96, 54, 4, 42, 180, 0, 36, 21, 4, 27, 79, 42, 180, 0, 36, 21, 4, 4, 96, 28, 79]
abbrev dktX5_close_4 : List UInt8 := dkwX5_close_4 ++ dktX5_close_5
def dkwX5_close_3 : List UInt8 := [182, 1, 120, 153, 0, 9, 42, 6, 182, 0, 83, 172, 42, 182, 1, 58, 17, 3, 236, 6, 42, 180, 0, 36]
abbrev dktX5_close_3 : List UInt8 := dkwX5_close_3 ++ dktX5_close_4
def dkwX5_close_2 : List UInt8 := [153, 0, 9, 42, 5, 182, 0, 83, 172, 42, 180, 0, 36, 6, 46, 16, 16, 159, 0, 13, 42, 27, 28, 29]
abbrev dktX5_close_2 : List UInt8 := dkwX5_close_2 ++ dktX5_close_3
def dkwX5_close_1 : List UInt8 := [153, 0, 25, 29, 133, 28, 133, 10, 97, 20, 1, 118, 184, 0, 90, 153, 0, 10, 29, 16, 15, 112]
abbrev dktX5_close_1 : List UInt8 := dkwX5_close_1 ++ dktX5_close_2
def dkwX5_close_0 : List UInt8 := [42, 3, 181, 0, 3, 42, 27, 182, 1, 42, 154, 0, 9, 42, 4, 182, 0, 83, 172, 28, 184, 1, 45]
abbrev dktX5_close_0 : List UInt8 := dkwX5_close_0 ++ dktX5_close_1
theorem dksX5_close_0 : cX5_close.data.toList.drop 0 = dktX5_close_0 := by decide +kernel
theorem dksX5_close_1 : cX5_close.data.toList.drop 23 = dktX5_close_1 := dk_seg dksX5_close_0 23 rfl rfl
theorem dksX5_close_2 : cX5_close.data.toList.drop 45 = dktX5_close_2 := dk_seg dksX5_close_1 22 rfl rfl
theorem dksX5_close_3 : cX5_close.data.toList.drop 69 = dktX5_close_3 := dk_seg dksX5_close_2 24 rfl rfl
theorem dksX5_close_4 : cX5_close.data.toList.drop 93 = dktX5_close_4 := dk_seg dksX5_close_3 24 rfl rfl
theorem dksX5_close_5 : cX5_close.data.toList.drop 117 = dktX5_close_5 := dk_seg dksX5_close_4 24 rfl rfl
theorem dksX5_close_6 : cX5_close.data.toList.drop 141 = dktX5_close_6 := dk_seg dksX5_close_5 24 rfl rfl
theorem dX5_close_0 : decode cX5_close 0 = .ok (.aload_n 0, 1) := dk_42 (dk_at dksX5_close_0 0 rfl rfl)
theorem dX5_close_1 : decode cX5_close 1 = .ok (.iconst 0, 1) := dk_3 (dk_at dksX5_close_0 1 rfl rfl)
theorem dX5_close_2 : decode cX5_close 2 = .ok (.putfield 3, 3) := dk_181 0 3 (dk_at dksX5_close_0 2 rfl rfl)
theorem dX5_close_5 : decode cX5_close 5 = .ok (.aload_n 0, 1) := dk_42 (dk_at dksX5_close_0 5 rfl rfl)
theorem dX5_close_6 : decode cX5_close 6 = .ok (.iload_n 1, 1) := dk_27 (dk_at dksX5_close_0 6 rfl rfl)
theorem dX5_close_7 : decode cX5_close 7 = .ok (.invokevirtual 298, 3) := dk_182 1 42 (dk_at dksX5_close_0 7 rfl rfl)
theorem dX5_close_10 : decode cX5_close 10 = .ok (.ifCond .ne 9, 3) := dk_154 0 9 (dk_at dksX5_close_0 10 rfl rfl)
theorem dX5_close_13 : decode cX5_close 13 = .ok (.aload_n 0, 1) := dk_42 (dk_at dksX5_close_0 13 rfl rfl)
theorem dX5_close_14 : decode cX5_close 14 = .ok (.iconst 1, 1) := dk_4 (dk_at dksX5_close_0 14 rfl rfl)
theorem dX5_close_15 : decode cX5_close 15 = .ok (.invokevirtual 83, 3) := dk_182 0 83 (dk_at dksX5_close_0 15 rfl rfl)
theorem dX5_close_18 : decode cX5_close 18 = .ok (.ireturn, 1) := dk_172 (dk_at dksX5_close_0 18 rfl rfl)
theorem dX5_close_19 : decode cX5_close 19 = .ok (.iload_n 2, 1) := dk_28 (dk_at dksX5_close_0 19 rfl rfl)
theorem dX5_close_20 : decode cX5_close 20 = .ok (.invokestatic 301, 3) := dk_184 1 45 (dk_at dksX5_close_0 20 rfl rfl)
theorem dX5_close_23 : decode cX5_close 23 = .ok (.ifCond .eq 25, 3) := dk_153 0 25 (dk_at dksX5_close_1 0 rfl rfl)
theorem dX5_close_26 : decode cX5_close 26 = .ok (.iload_n 3, 1) := dk_29 (dk_at dksX5_close_1 3 rfl rfl)
theorem dX5_close_27 : decode cX5_close 27 = .ok (.i2l, 1) := dk_133 (dk_at dksX5_close_1 4 rfl rfl)
theorem dX5_close_28 : decode cX5_close 28 = .ok (.iload_n 2, 1) := dk_28 (dk_at dksX5_close_1 5 rfl rfl)
theorem dX5_close_29 : decode cX5_close 29 = .ok (.i2l, 1) := dk_133 (dk_at dksX5_close_1 6 rfl rfl)
theorem dX5_close_30 : decode cX5_close 30 = .ok (.lconst 1, 1) := dk_10 (dk_at dksX5_close_1 7 rfl rfl)
theorem dX5_close_31 : decode cX5_close 31 = .ok (.ladd, 1) := dk_97 (dk_at dksX5_close_1 8 rfl rfl)
theorem dX5_close_32 : decode cX5_close 32 = .ok (.ldc2_w 374, 3) := dk_20 1 118 (dk_at dksX5_close_1 9 rfl rfl)
theorem dX5_close_35 : decode cX5_close 35 = .ok (.invokestatic 90, 3) := dk_184 0 90 (dk_at dksX5_close_1 12 rfl rfl)
theorem dX5_close_38 : decode cX5_close 38 = .ok (.ifCond .eq 10, 3) := dk_153 0 10 (dk_at dksX5_close_1 15 rfl rfl)
theorem dX5_close_41 : decode cX5_close 41 = .ok (.iload_n 3, 1) := dk_29 (dk_at dksX5_close_1 18 rfl rfl)
theorem dX5_close_42 : decode cX5_close 42 = .ok (.bipush 15, 2) := dk_16 15 (dk_at dksX5_close_1 19 rfl rfl)
theorem dX5_close_44 : decode cX5_close 44 = .ok (.irem, 1) := dk_112 (dk_at dksX5_close_1 21 rfl rfl)
theorem dX5_close_45 : decode cX5_close 45 = .ok (.ifCond .eq 9, 3) := dk_153 0 9 (dk_at dksX5_close_2 0 rfl rfl)
theorem dX5_close_48 : decode cX5_close 48 = .ok (.aload_n 0, 1) := dk_42 (dk_at dksX5_close_2 3 rfl rfl)
theorem dX5_close_49 : decode cX5_close 49 = .ok (.iconst 2, 1) := dk_5 (dk_at dksX5_close_2 4 rfl rfl)
theorem dX5_close_50 : decode cX5_close 50 = .ok (.invokevirtual 83, 3) := dk_182 0 83 (dk_at dksX5_close_2 5 rfl rfl)
theorem dX5_close_53 : decode cX5_close 53 = .ok (.ireturn, 1) := dk_172 (dk_at dksX5_close_2 8 rfl rfl)
theorem dX5_close_54 : decode cX5_close 54 = .ok (.aload_n 0, 1) := dk_42 (dk_at dksX5_close_2 9 rfl rfl)
theorem dX5_close_55 : decode cX5_close 55 = .ok (.getfield 36, 3) := dk_180 0 36 (dk_at dksX5_close_2 10 rfl rfl)
theorem dX5_close_58 : decode cX5_close 58 = .ok (.iconst 3, 1) := dk_6 (dk_at dksX5_close_2 13 rfl rfl)
theorem dX5_close_59 : decode cX5_close 59 = .ok (.iaload, 1) := dk_46 (dk_at dksX5_close_2 14 rfl rfl)
theorem dX5_close_60 : decode cX5_close 60 = .ok (.bipush 16, 2) := dk_16 16 (dk_at dksX5_close_2 15 rfl rfl)
theorem dX5_close_62 : decode cX5_close 62 = .ok (.if_icmp .eq 13, 3) := dk_159 0 13 (dk_at dksX5_close_2 17 rfl rfl)
theorem dX5_close_65 : decode cX5_close 65 = .ok (.aload_n 0, 1) := dk_42 (dk_at dksX5_close_2 20 rfl rfl)
theorem dX5_close_66 : decode cX5_close 66 = .ok (.iload_n 1, 1) := dk_27 (dk_at dksX5_close_2 21 rfl rfl)
theorem dX5_close_67 : decode cX5_close 67 = .ok (.iload_n 2, 1) := dk_28 (dk_at dksX5_close_2 22 rfl rfl)
theorem dX5_close_68 : decode cX5_close 68 = .ok (.iload_n 3, 1) := dk_29 (dk_at dksX5_close_2 23 rfl rfl)
theorem dX5_close_69 : decode cX5_close 69 = .ok (.invokevirtual 376, 3) := dk_182 1 120 (dk_at dksX5_close_3 0 rfl rfl)
theorem dX5_close_72 : decode cX5_close 72 = .ok (.ifCond .eq 9, 3) := dk_153 0 9 (dk_at dksX5_close_3 3 rfl rfl)
theorem dX5_close_75 : decode cX5_close 75 = .ok (.aload_n 0, 1) := dk_42 (dk_at dksX5_close_3 6 rfl rfl)
theorem dX5_close_76 : decode cX5_close 76 = .ok (.iconst 3, 1) := dk_6 (dk_at dksX5_close_3 7 rfl rfl)
theorem dX5_close_77 : decode cX5_close 77 = .ok (.invokevirtual 83, 3) := dk_182 0 83 (dk_at dksX5_close_3 8 rfl rfl)
theorem dX5_close_80 : decode cX5_close 80 = .ok (.ireturn, 1) := dk_172 (dk_at dksX5_close_3 11 rfl rfl)
theorem dX5_close_81 : decode cX5_close 81 = .ok (.aload_n 0, 1) := dk_42 (dk_at dksX5_close_3 12 rfl rfl)
theorem dX5_close_82 : decode cX5_close 82 = .ok (.invokevirtual 314, 3) := dk_182 1 58 (dk_at dksX5_close_3 13 rfl rfl)
theorem dX5_close_85 : decode cX5_close 85 = .ok (.sipush 1004, 3) := dk_17 3 236 (dk_at dksX5_close_3 16 rfl rfl)
theorem dX5_close_88 : decode cX5_close 88 = .ok (.iconst 3, 1) := dk_6 (dk_at dksX5_close_3 19 rfl rfl)
theorem dX5_close_89 : decode cX5_close 89 = .ok (.aload_n 0, 1) := dk_42 (dk_at dksX5_close_3 20 rfl rfl)
theorem dX5_close_90 : decode cX5_close 90 = .ok (.getfield 36, 3) := dk_180 0 36 (dk_at dksX5_close_3 21 rfl rfl)
theorem dX5_close_93 : decode cX5_close 93 = .ok (.iconst 3, 1) := dk_6 (dk_at dksX5_close_4 0 rfl rfl)
theorem dX5_close_94 : decode cX5_close 94 = .ok (.iaload, 1) := dk_46 (dk_at dksX5_close_4 1 rfl rfl)
theorem dX5_close_95 : decode cX5_close 95 = .ok (.imul, 1) := dk_104 (dk_at dksX5_close_4 2 rfl rfl)
theorem dX5_close_96 : decode cX5_close 96 = .ok (.iadd, 1) := dk_96 (dk_at dksX5_close_4 3 rfl rfl)
theorem dX5_close_97 : decode cX5_close 97 = .ok (.istore 4, 2) := dk_54 4 (dk_at dksX5_close_4 4 rfl rfl)
theorem dX5_close_99 : decode cX5_close 99 = .ok (.aload_n 0, 1) := dk_42 (dk_at dksX5_close_4 6 rfl rfl)
theorem dX5_close_100 : decode cX5_close 100 = .ok (.getfield 36, 3) := dk_180 0 36 (dk_at dksX5_close_4 7 rfl rfl)
theorem dX5_close_103 : decode cX5_close 103 = .ok (.iload 4, 2) := dk_21 4 (dk_at dksX5_close_4 10 rfl rfl)
theorem dX5_close_105 : decode cX5_close 105 = .ok (.iload_n 1, 1) := dk_27 (dk_at dksX5_close_4 12 rfl rfl)
theorem dX5_close_106 : decode cX5_close 106 = .ok (.iastore, 1) := dk_79 (dk_at dksX5_close_4 13 rfl rfl)
theorem dX5_close_107 : decode cX5_close 107 = .ok (.aload_n 0, 1) := dk_42 (dk_at dksX5_close_4 14 rfl rfl)
theorem dX5_close_108 : decode cX5_close 108 = .ok (.getfield 36, 3) := dk_180 0 36 (dk_at dksX5_close_4 15 rfl rfl)
theorem dX5_close_111 : decode cX5_close 111 = .ok (.iload 4, 2) := dk_21 4 (dk_at dksX5_close_4 18 rfl rfl)
theorem dX5_close_113 : decode cX5_close 113 = .ok (.iconst 1, 1) := dk_4 (dk_at dksX5_close_4 20 rfl rfl)
theorem dX5_close_114 : decode cX5_close 114 = .ok (.iadd, 1) := dk_96 (dk_at dksX5_close_4 21 rfl rfl)
theorem dX5_close_115 : decode cX5_close 115 = .ok (.iload_n 2, 1) := dk_28 (dk_at dksX5_close_4 22 rfl rfl)
theorem dX5_close_116 : decode cX5_close 116 = .ok (.iastore, 1) := dk_79 (dk_at dksX5_close_4 23 rfl rfl)
theorem dX5_close_117 : decode cX5_close 117 = .ok (.aload_n 0, 1) := dk_42 (dk_at dksX5_close_5 0 rfl rfl)
theorem dX5_close_118 : decode cX5_close 118 = .ok (.getfield 36, 3) := dk_180 0 36 (dk_at dksX5_close_5 1 rfl rfl)
theorem dX5_close_121 : decode cX5_close 121 = .ok (.iload 4, 2) := dk_21 4 (dk_at dksX5_close_5 4 rfl rfl)
theorem dX5_close_123 : decode cX5_close 123 = .ok (.iconst 2, 1) := dk_5 (dk_at dksX5_close_5 6 rfl rfl)
theorem dX5_close_124 : decode cX5_close 124 = .ok (.iadd, 1) := dk_96 (dk_at dksX5_close_5 7 rfl rfl)
theorem dX5_close_125 : decode cX5_close 125 = .ok (.iload_n 3, 1) := dk_29 (dk_at dksX5_close_5 8 rfl rfl)
theorem dX5_close_126 : decode cX5_close 126 = .ok (.iastore, 1) := dk_79 (dk_at dksX5_close_5 9 rfl rfl)
theorem dX5_close_127 : decode cX5_close 127 = .ok (.aload_n 0, 1) := dk_42 (dk_at dksX5_close_5 10 rfl rfl)
theorem dX5_close_128 : decode cX5_close 128 = .ok (.getfield 36, 3) := dk_180 0 36 (dk_at dksX5_close_5 11 rfl rfl)
theorem dX5_close_131 : decode cX5_close 131 = .ok (.iconst 3, 1) := dk_6 (dk_at dksX5_close_5 14 rfl rfl)
theorem dX5_close_132 : decode cX5_close 132 = .ok (.dup2, 1) := dk_92 (dk_at dksX5_close_5 15 rfl rfl)
theorem dX5_close_133 : decode cX5_close 133 = .ok (.iaload, 1) := dk_46 (dk_at dksX5_close_5 16 rfl rfl)
theorem dX5_close_134 : decode cX5_close 134 = .ok (.iconst 1, 1) := dk_4 (dk_at dksX5_close_5 17 rfl rfl)
theorem dX5_close_135 : decode cX5_close 135 = .ok (.iadd, 1) := dk_96 (dk_at dksX5_close_5 18 rfl rfl)
theorem dX5_close_136 : decode cX5_close 136 = .ok (.iastore, 1) := dk_79 (dk_at dksX5_close_5 19 rfl rfl)
theorem dX5_close_137 : decode cX5_close 137 = .ok (.aload_n 0, 1) := dk_42 (dk_at dksX5_close_5 20 rfl rfl)
theorem dX5_close_138 : decode cX5_close 138 = .ok (.getfield 36, 3) := dk_180 0 36 (dk_at dksX5_close_5 21 rfl rfl)
theorem dX5_close_141 : decode cX5_close 141 = .ok (.iconst 3, 1) := dk_6 (dk_at dksX5_close_6 0 rfl rfl)
theorem dX5_close_142 : decode cX5_close 142 = .ok (.iaload, 1) := dk_46 (dk_at dksX5_close_6 1 rfl rfl)
theorem dX5_close_143 : decode cX5_close 143 = .ok (.ireturn, 1) := dk_172 (dk_at dksX5_close_6 2 rfl rfl)
abbrev cX5_isBookedIn : ByteArray := prog_17_method_90_code
def yX5_isBookedIn : MethodName := ⟨RX5, "isBookedIn", "(III)Z"⟩
def dkwX5_isBookedIn_2 : List UInt8 := [21, 4, 182, 0, 242, 28, 164, 0, 5, 4, 172, 132, 4, 1, 167, 255, 197, 3, 172]
abbrev dktX5_isBookedIn_2 : List UInt8 := dkwX5_isBookedIn_2 ++ []
def dkwX5_isBookedIn_1 : List UInt8 := [21, 4, 16, 9, 182, 0, 228, 27, 160, 0, 27, 42, 21, 4, 16, 10, 182, 0, 228, 29, 162, 0, 15, 42]
abbrev dktX5_isBookedIn_1 : List UInt8 := dkwX5_isBookedIn_1 ++ dktX5_isBookedIn_2
def dkwX5_isBookedIn_0 : List UInt8 := [3, 54, 4, 21, 4, 42, 180, 0, 36, 4, 46, 162, 0, 54, 42, 21, 4, 182, 0, 236, 153, 0, 39, 42]
abbrev dktX5_isBookedIn_0 : List UInt8 := dkwX5_isBookedIn_0 ++ dktX5_isBookedIn_1
theorem dksX5_isBookedIn_0 : cX5_isBookedIn.data.toList.drop 0 = dktX5_isBookedIn_0 := by decide +kernel
theorem dksX5_isBookedIn_1 : cX5_isBookedIn.data.toList.drop 24 = dktX5_isBookedIn_1 := dk_seg dksX5_isBookedIn_0 24 rfl rfl
theorem dksX5_isBookedIn_2 : cX5_isBookedIn.data.toList.drop 48 = dktX5_isBookedIn_2 := dk_seg dksX5_isBookedIn_1 24 rfl rfl
theorem dX5_isBookedIn_0 : decode cX5_isBookedIn 0 = .ok (.iconst 0, 1) := dk_3 (dk_at dksX5_isBookedIn_0 0 rfl rfl)
theorem dX5_isBookedIn_1 : decode cX5_isBookedIn 1 = .ok (.istore 4, 2) := dk_54 4 (dk_at dksX5_isBookedIn_0 1 rfl rfl)
theorem dX5_isBookedIn_3 : decode cX5_isBookedIn 3 = .ok (.iload 4, 2) := dk_21 4 (dk_at dksX5_isBookedIn_0 3 rfl rfl)
theorem dX5_isBookedIn_5 : decode cX5_isBookedIn 5 = .ok (.aload_n 0, 1) := dk_42 (dk_at dksX5_isBookedIn_0 5 rfl rfl)
theorem dX5_isBookedIn_6 : decode cX5_isBookedIn 6 = .ok (.getfield 36, 3) := dk_180 0 36 (dk_at dksX5_isBookedIn_0 6 rfl rfl)
theorem dX5_isBookedIn_9 : decode cX5_isBookedIn 9 = .ok (.iconst 1, 1) := dk_4 (dk_at dksX5_isBookedIn_0 9 rfl rfl)
theorem dX5_isBookedIn_10 : decode cX5_isBookedIn 10 = .ok (.iaload, 1) := dk_46 (dk_at dksX5_isBookedIn_0 10 rfl rfl)
theorem dX5_isBookedIn_11 : decode cX5_isBookedIn 11 = .ok (.if_icmp .ge 54, 3) := dk_162 0 54 (dk_at dksX5_isBookedIn_0 11 rfl rfl)
theorem dX5_isBookedIn_14 : decode cX5_isBookedIn 14 = .ok (.aload_n 0, 1) := dk_42 (dk_at dksX5_isBookedIn_0 14 rfl rfl)
theorem dX5_isBookedIn_15 : decode cX5_isBookedIn 15 = .ok (.iload 4, 2) := dk_21 4 (dk_at dksX5_isBookedIn_0 15 rfl rfl)
theorem dX5_isBookedIn_17 : decode cX5_isBookedIn 17 = .ok (.invokevirtual 236, 3) := dk_182 0 236 (dk_at dksX5_isBookedIn_0 17 rfl rfl)
theorem dX5_isBookedIn_20 : decode cX5_isBookedIn 20 = .ok (.ifCond .eq 39, 3) := dk_153 0 39 (dk_at dksX5_isBookedIn_0 20 rfl rfl)
theorem dX5_isBookedIn_23 : decode cX5_isBookedIn 23 = .ok (.aload_n 0, 1) := dk_42 (dk_at dksX5_isBookedIn_0 23 rfl rfl)
theorem dX5_isBookedIn_24 : decode cX5_isBookedIn 24 = .ok (.iload 4, 2) := dk_21 4 (dk_at dksX5_isBookedIn_1 0 rfl rfl)
theorem dX5_isBookedIn_26 : decode cX5_isBookedIn 26 = .ok (.bipush 9, 2) := dk_16 9 (dk_at dksX5_isBookedIn_1 2 rfl rfl)
theorem dX5_isBookedIn_28 : decode cX5_isBookedIn 28 = .ok (.invokevirtual 228, 3) := dk_182 0 228 (dk_at dksX5_isBookedIn_1 4 rfl rfl)
theorem dX5_isBookedIn_31 : decode cX5_isBookedIn 31 = .ok (.iload_n 1, 1) := dk_27 (dk_at dksX5_isBookedIn_1 7 rfl rfl)
theorem dX5_isBookedIn_32 : decode cX5_isBookedIn 32 = .ok (.if_icmp .ne 27, 3) := dk_160 0 27 (dk_at dksX5_isBookedIn_1 8 rfl rfl)
theorem dX5_isBookedIn_35 : decode cX5_isBookedIn 35 = .ok (.aload_n 0, 1) := dk_42 (dk_at dksX5_isBookedIn_1 11 rfl rfl)
theorem dX5_isBookedIn_36 : decode cX5_isBookedIn 36 = .ok (.iload 4, 2) := dk_21 4 (dk_at dksX5_isBookedIn_1 12 rfl rfl)
theorem dX5_isBookedIn_38 : decode cX5_isBookedIn 38 = .ok (.bipush 10, 2) := dk_16 10 (dk_at dksX5_isBookedIn_1 14 rfl rfl)
theorem dX5_isBookedIn_40 : decode cX5_isBookedIn 40 = .ok (.invokevirtual 228, 3) := dk_182 0 228 (dk_at dksX5_isBookedIn_1 16 rfl rfl)
theorem dX5_isBookedIn_43 : decode cX5_isBookedIn 43 = .ok (.iload_n 3, 1) := dk_29 (dk_at dksX5_isBookedIn_1 19 rfl rfl)
theorem dX5_isBookedIn_44 : decode cX5_isBookedIn 44 = .ok (.if_icmp .ge 15, 3) := dk_162 0 15 (dk_at dksX5_isBookedIn_1 20 rfl rfl)
theorem dX5_isBookedIn_47 : decode cX5_isBookedIn 47 = .ok (.aload_n 0, 1) := dk_42 (dk_at dksX5_isBookedIn_1 23 rfl rfl)
theorem dX5_isBookedIn_48 : decode cX5_isBookedIn 48 = .ok (.iload 4, 2) := dk_21 4 (dk_at dksX5_isBookedIn_2 0 rfl rfl)
theorem dX5_isBookedIn_50 : decode cX5_isBookedIn 50 = .ok (.invokevirtual 242, 3) := dk_182 0 242 (dk_at dksX5_isBookedIn_2 2 rfl rfl)
theorem dX5_isBookedIn_53 : decode cX5_isBookedIn 53 = .ok (.iload_n 2, 1) := dk_28 (dk_at dksX5_isBookedIn_2 5 rfl rfl)
theorem dX5_isBookedIn_54 : decode cX5_isBookedIn 54 = .ok (.if_icmp .le 5, 3) := dk_164 0 5 (dk_at dksX5_isBookedIn_2 6 rfl rfl)
theorem dX5_isBookedIn_57 : decode cX5_isBookedIn 57 = .ok (.iconst 1, 1) := dk_4 (dk_at dksX5_isBookedIn_2 9 rfl rfl)
theorem dX5_isBookedIn_58 : decode cX5_isBookedIn 58 = .ok (.ireturn, 1) := dk_172 (dk_at dksX5_isBookedIn_2 10 rfl rfl)
theorem dX5_isBookedIn_59 : decode cX5_isBookedIn 59 = .ok (.iinc 4 1, 3) := dk_132 4 1 (dk_at dksX5_isBookedIn_2 11 rfl rfl)
theorem dX5_isBookedIn_62 : decode cX5_isBookedIn 62 = .ok (.goto (-59), 3) := dk_167 255 197 (dk_at dksX5_isBookedIn_2 14 rfl rfl)
theorem dX5_isBookedIn_65 : decode cX5_isBookedIn 65 = .ok (.iconst 0, 1) := dk_3 (dk_at dksX5_isBookedIn_2 17 rfl rfl)
theorem dX5_isBookedIn_66 : decode cX5_isBookedIn 66 = .ok (.ireturn, 1) := dk_172 (dk_at dksX5_isBookedIn_2 18 rfl rfl)
abbrev cX5_advance : ByteArray := prog_17_method_92_code
def yX5_advance : MethodName := ⟨RX5, "advance", "(I)I"⟩
def dkwX5_advance_2 : List UInt8 := [96, 79, 42, 180, 0, 36, 3, 46, 172]
abbrev dktX5_advance_2 : List UInt8 := dkwX5_advance_2 ++ []
def dkwX5_advance_1 : List UInt8 := [96, 18, 182, 164, 0, 9, 42, 4, 182, 0, 83, 172, 42, 182, 1, 58, 42, 180, 0, 36, 3, 92, 46, 27]
abbrev dktX5_advance_1 : List UInt8 := dkwX5_advance_1 ++ dktX5_advance_2
def dkwX5_advance_0 : List UInt8 := [42, 3, 181, 0, 3, 27, 133, 10, 20, 1, 123, 184, 0, 90, 153, 0, 16, 42, 180, 0, 36, 3, 46, 27]
abbrev dktX5_advance_0 : List UInt8 := dkwX5_advance_0 ++ dktX5_advance_1
theorem dksX5_advance_0 : cX5_advance.data.toList.drop 0 = dktX5_advance_0 := by decide +kernel
theorem dksX5_advance_1 : cX5_advance.data.toList.drop 24 = dktX5_advance_1 := dk_seg dksX5_advance_0 24 rfl rfl
theorem dksX5_advance_2 : cX5_advance.data.toList.drop 48 = dktX5_advance_2 := dk_seg dksX5_advance_1 24 rfl rfl
theorem dX5_advance_0 : decode cX5_advance 0 = .ok (.aload_n 0, 1) := dk_42 (dk_at dksX5_advance_0 0 rfl rfl)
theorem dX5_advance_1 : decode cX5_advance 1 = .ok (.iconst 0, 1) := dk_3 (dk_at dksX5_advance_0 1 rfl rfl)
theorem dX5_advance_2 : decode cX5_advance 2 = .ok (.putfield 3, 3) := dk_181 0 3 (dk_at dksX5_advance_0 2 rfl rfl)
theorem dX5_advance_5 : decode cX5_advance 5 = .ok (.iload_n 1, 1) := dk_27 (dk_at dksX5_advance_0 5 rfl rfl)
theorem dX5_advance_6 : decode cX5_advance 6 = .ok (.i2l, 1) := dk_133 (dk_at dksX5_advance_0 6 rfl rfl)
theorem dX5_advance_7 : decode cX5_advance 7 = .ok (.lconst 1, 1) := dk_10 (dk_at dksX5_advance_0 7 rfl rfl)
theorem dX5_advance_8 : decode cX5_advance 8 = .ok (.ldc2_w 379, 3) := dk_20 1 123 (dk_at dksX5_advance_0 8 rfl rfl)
theorem dX5_advance_11 : decode cX5_advance 11 = .ok (.invokestatic 90, 3) := dk_184 0 90 (dk_at dksX5_advance_0 11 rfl rfl)
theorem dX5_advance_14 : decode cX5_advance 14 = .ok (.ifCond .eq 16, 3) := dk_153 0 16 (dk_at dksX5_advance_0 14 rfl rfl)
theorem dX5_advance_17 : decode cX5_advance 17 = .ok (.aload_n 0, 1) := dk_42 (dk_at dksX5_advance_0 17 rfl rfl)
theorem dX5_advance_18 : decode cX5_advance 18 = .ok (.getfield 36, 3) := dk_180 0 36 (dk_at dksX5_advance_0 18 rfl rfl)
theorem dX5_advance_21 : decode cX5_advance 21 = .ok (.iconst 0, 1) := dk_3 (dk_at dksX5_advance_0 21 rfl rfl)
theorem dX5_advance_22 : decode cX5_advance 22 = .ok (.iaload, 1) := dk_46 (dk_at dksX5_advance_0 22 rfl rfl)
theorem dX5_advance_23 : decode cX5_advance 23 = .ok (.iload_n 1, 1) := dk_27 (dk_at dksX5_advance_0 23 rfl rfl)
theorem dX5_advance_24 : decode cX5_advance 24 = .ok (.iadd, 1) := dk_96 (dk_at dksX5_advance_1 0 rfl rfl)
theorem dX5_advance_25 : decode cX5_advance 25 = .ok (.ldc 182, 2) := dk_18 182 (dk_at dksX5_advance_1 1 rfl rfl)
theorem dX5_advance_27 : decode cX5_advance 27 = .ok (.if_icmp .le 9, 3) := dk_164 0 9 (dk_at dksX5_advance_1 3 rfl rfl)
theorem dX5_advance_30 : decode cX5_advance 30 = .ok (.aload_n 0, 1) := dk_42 (dk_at dksX5_advance_1 6 rfl rfl)
theorem dX5_advance_31 : decode cX5_advance 31 = .ok (.iconst 1, 1) := dk_4 (dk_at dksX5_advance_1 7 rfl rfl)
theorem dX5_advance_32 : decode cX5_advance 32 = .ok (.invokevirtual 83, 3) := dk_182 0 83 (dk_at dksX5_advance_1 8 rfl rfl)
theorem dX5_advance_35 : decode cX5_advance 35 = .ok (.ireturn, 1) := dk_172 (dk_at dksX5_advance_1 11 rfl rfl)
theorem dX5_advance_36 : decode cX5_advance 36 = .ok (.aload_n 0, 1) := dk_42 (dk_at dksX5_advance_1 12 rfl rfl)
theorem dX5_advance_37 : decode cX5_advance 37 = .ok (.invokevirtual 314, 3) := dk_182 1 58 (dk_at dksX5_advance_1 13 rfl rfl)
theorem dX5_advance_40 : decode cX5_advance 40 = .ok (.aload_n 0, 1) := dk_42 (dk_at dksX5_advance_1 16 rfl rfl)
theorem dX5_advance_41 : decode cX5_advance 41 = .ok (.getfield 36, 3) := dk_180 0 36 (dk_at dksX5_advance_1 17 rfl rfl)
theorem dX5_advance_44 : decode cX5_advance 44 = .ok (.iconst 0, 1) := dk_3 (dk_at dksX5_advance_1 20 rfl rfl)
theorem dX5_advance_45 : decode cX5_advance 45 = .ok (.dup2, 1) := dk_92 (dk_at dksX5_advance_1 21 rfl rfl)
theorem dX5_advance_46 : decode cX5_advance 46 = .ok (.iaload, 1) := dk_46 (dk_at dksX5_advance_1 22 rfl rfl)
theorem dX5_advance_47 : decode cX5_advance 47 = .ok (.iload_n 1, 1) := dk_27 (dk_at dksX5_advance_1 23 rfl rfl)
theorem dX5_advance_48 : decode cX5_advance 48 = .ok (.iadd, 1) := dk_96 (dk_at dksX5_advance_2 0 rfl rfl)
theorem dX5_advance_49 : decode cX5_advance 49 = .ok (.iastore, 1) := dk_79 (dk_at dksX5_advance_2 1 rfl rfl)
theorem dX5_advance_50 : decode cX5_advance 50 = .ok (.aload_n 0, 1) := dk_42 (dk_at dksX5_advance_2 2 rfl rfl)
theorem dX5_advance_51 : decode cX5_advance 51 = .ok (.getfield 36, 3) := dk_180 0 36 (dk_at dksX5_advance_2 3 rfl rfl)
theorem dX5_advance_54 : decode cX5_advance 54 = .ok (.iconst 0, 1) := dk_3 (dk_at dksX5_advance_2 6 rfl rfl)
theorem dX5_advance_55 : decode cX5_advance 55 = .ok (.iaload, 1) := dk_46 (dk_at dksX5_advance_2 7 rfl rfl)
theorem dX5_advance_56 : decode cX5_advance 56 = .ok (.ireturn, 1) := dk_172 (dk_at dksX5_advance_2 8 rfl rfl)
abbrev cX5_setup : ByteArray := prog_17_method_93_code
def yX5_setup : MethodName := ⟨RX5, "setup", "(I)I"⟩
def dkwX5_setup_4 : List UInt8 := [8, 46, 172, 42, 4, 182, 0, 83, 172]
abbrev dktX5_setup_4 : List UInt8 := dkwX5_setup_4 ++ []
def dkwX5_setup_3 : List UInt8 := [180, 0, 36, 6, 46, 172, 42, 180, 0, 13, 6, 46, 172, 42, 180, 0, 13, 7, 46, 172, 42, 180, 0, 13]
abbrev dktX5_setup_3 : List UInt8 := dkwX5_setup_3 ++ dktX5_setup_4
def dkwX5_setup_2 : List UInt8 := [42, 180, 0, 13, 3, 46, 172, 42, 180, 0, 13, 4, 46, 172, 42, 180, 0, 13, 5, 46, 172, 42]
abbrev dktX5_setup_2 : List UInt8 := dkwX5_setup_2 ++ dktX5_setup_3
def dkwX5_setup_1 : List UInt8 := [170, 0, 0, 0, 0, 91, 0, 0, 0, 0, 0, 0, 0, 6, 0, 0, 0, 42, 0, 0, 0, 49, 0, 0, 0, 56, 0, 0, 0, 63, 0, 0, 0, 70, 0, 0, 0, 77, 0, 0, 0, 84]
abbrev dktX5_setup_1 : List UInt8 := dkwX5_setup_1 ++ dktX5_setup_2
def dkwX5_setup_0 : List UInt8 := [42, 3, 181, 0, 3, 27]
abbrev dktX5_setup_0 : List UInt8 := dkwX5_setup_0 ++ dktX5_setup_1
theorem dksX5_setup_0 : cX5_setup.data.toList.drop 0 = dktX5_setup_0 := by decide +kernel
theorem dksX5_setup_1 : cX5_setup.data.toList.drop 6 = dktX5_setup_1 := dk_seg dksX5_setup_0 6 rfl rfl
theorem dksX5_setup_2 : cX5_setup.data.toList.drop 48 = dktX5_setup_2 := dk_seg dksX5_setup_1 42 rfl rfl
theorem dksX5_setup_3 : cX5_setup.data.toList.drop 70 = dktX5_setup_3 := dk_seg dksX5_setup_2 22 rfl rfl
theorem dksX5_setup_4 : cX5_setup.data.toList.drop 94 = dktX5_setup_4 := dk_seg dksX5_setup_3 24 rfl rfl
theorem dX5_setup_0 : decode cX5_setup 0 = .ok (.aload_n 0, 1) := dk_42 (dk_at dksX5_setup_0 0 rfl rfl)
theorem dX5_setup_1 : decode cX5_setup 1 = .ok (.iconst 0, 1) := dk_3 (dk_at dksX5_setup_0 1 rfl rfl)
theorem dX5_setup_2 : decode cX5_setup 2 = .ok (.putfield 3, 3) := dk_181 0 3 (dk_at dksX5_setup_0 2 rfl rfl)
theorem dX5_setup_5 : decode cX5_setup 5 = .ok (.iload_n 1, 1) := dk_27 (dk_at dksX5_setup_0 5 rfl rfl)
theorem dX5_setup_6 : decode cX5_setup 6 = .ok (.tableswitch 91 0 6 #[42, 49, 56, 63, 70, 77, 84], 42) := by decide +kernel
theorem dX5_setup_48 : decode cX5_setup 48 = .ok (.aload_n 0, 1) := dk_42 (dk_at dksX5_setup_2 0 rfl rfl)
theorem dX5_setup_49 : decode cX5_setup 49 = .ok (.getfield 13, 3) := dk_180 0 13 (dk_at dksX5_setup_2 1 rfl rfl)
theorem dX5_setup_52 : decode cX5_setup 52 = .ok (.iconst 0, 1) := dk_3 (dk_at dksX5_setup_2 4 rfl rfl)
theorem dX5_setup_53 : decode cX5_setup 53 = .ok (.iaload, 1) := dk_46 (dk_at dksX5_setup_2 5 rfl rfl)
theorem dX5_setup_54 : decode cX5_setup 54 = .ok (.ireturn, 1) := dk_172 (dk_at dksX5_setup_2 6 rfl rfl)
theorem dX5_setup_55 : decode cX5_setup 55 = .ok (.aload_n 0, 1) := dk_42 (dk_at dksX5_setup_2 7 rfl rfl)
theorem dX5_setup_56 : decode cX5_setup 56 = .ok (.getfield 13, 3) := dk_180 0 13 (dk_at dksX5_setup_2 8 rfl rfl)
theorem dX5_setup_59 : decode cX5_setup 59 = .ok (.iconst 1, 1) := dk_4 (dk_at dksX5_setup_2 11 rfl rfl)
theorem dX5_setup_60 : decode cX5_setup 60 = .ok (.iaload, 1) := dk_46 (dk_at dksX5_setup_2 12 rfl rfl)
theorem dX5_setup_61 : decode cX5_setup 61 = .ok (.ireturn, 1) := dk_172 (dk_at dksX5_setup_2 13 rfl rfl)
theorem dX5_setup_62 : decode cX5_setup 62 = .ok (.aload_n 0, 1) := dk_42 (dk_at dksX5_setup_2 14 rfl rfl)
theorem dX5_setup_63 : decode cX5_setup 63 = .ok (.getfield 13, 3) := dk_180 0 13 (dk_at dksX5_setup_2 15 rfl rfl)
theorem dX5_setup_66 : decode cX5_setup 66 = .ok (.iconst 2, 1) := dk_5 (dk_at dksX5_setup_2 18 rfl rfl)
theorem dX5_setup_67 : decode cX5_setup 67 = .ok (.iaload, 1) := dk_46 (dk_at dksX5_setup_2 19 rfl rfl)
theorem dX5_setup_68 : decode cX5_setup 68 = .ok (.ireturn, 1) := dk_172 (dk_at dksX5_setup_2 20 rfl rfl)
theorem dX5_setup_69 : decode cX5_setup 69 = .ok (.aload_n 0, 1) := dk_42 (dk_at dksX5_setup_2 21 rfl rfl)
theorem dX5_setup_70 : decode cX5_setup 70 = .ok (.getfield 36, 3) := dk_180 0 36 (dk_at dksX5_setup_3 0 rfl rfl)
theorem dX5_setup_73 : decode cX5_setup 73 = .ok (.iconst 3, 1) := dk_6 (dk_at dksX5_setup_3 3 rfl rfl)
theorem dX5_setup_74 : decode cX5_setup 74 = .ok (.iaload, 1) := dk_46 (dk_at dksX5_setup_3 4 rfl rfl)
theorem dX5_setup_75 : decode cX5_setup 75 = .ok (.ireturn, 1) := dk_172 (dk_at dksX5_setup_3 5 rfl rfl)
theorem dX5_setup_76 : decode cX5_setup 76 = .ok (.aload_n 0, 1) := dk_42 (dk_at dksX5_setup_3 6 rfl rfl)
theorem dX5_setup_77 : decode cX5_setup 77 = .ok (.getfield 13, 3) := dk_180 0 13 (dk_at dksX5_setup_3 7 rfl rfl)
theorem dX5_setup_80 : decode cX5_setup 80 = .ok (.iconst 3, 1) := dk_6 (dk_at dksX5_setup_3 10 rfl rfl)
theorem dX5_setup_81 : decode cX5_setup 81 = .ok (.iaload, 1) := dk_46 (dk_at dksX5_setup_3 11 rfl rfl)
theorem dX5_setup_82 : decode cX5_setup 82 = .ok (.ireturn, 1) := dk_172 (dk_at dksX5_setup_3 12 rfl rfl)
theorem dX5_setup_83 : decode cX5_setup 83 = .ok (.aload_n 0, 1) := dk_42 (dk_at dksX5_setup_3 13 rfl rfl)
theorem dX5_setup_84 : decode cX5_setup 84 = .ok (.getfield 13, 3) := dk_180 0 13 (dk_at dksX5_setup_3 14 rfl rfl)
theorem dX5_setup_87 : decode cX5_setup 87 = .ok (.iconst 4, 1) := dk_7 (dk_at dksX5_setup_3 17 rfl rfl)
theorem dX5_setup_88 : decode cX5_setup 88 = .ok (.iaload, 1) := dk_46 (dk_at dksX5_setup_3 18 rfl rfl)
theorem dX5_setup_89 : decode cX5_setup 89 = .ok (.ireturn, 1) := dk_172 (dk_at dksX5_setup_3 19 rfl rfl)
theorem dX5_setup_90 : decode cX5_setup 90 = .ok (.aload_n 0, 1) := dk_42 (dk_at dksX5_setup_3 20 rfl rfl)
theorem dX5_setup_91 : decode cX5_setup 91 = .ok (.getfield 13, 3) := dk_180 0 13 (dk_at dksX5_setup_3 21 rfl rfl)
theorem dX5_setup_94 : decode cX5_setup 94 = .ok (.iconst 5, 1) := dk_8 (dk_at dksX5_setup_4 0 rfl rfl)
theorem dX5_setup_95 : decode cX5_setup 95 = .ok (.iaload, 1) := dk_46 (dk_at dksX5_setup_4 1 rfl rfl)
theorem dX5_setup_96 : decode cX5_setup 96 = .ok (.ireturn, 1) := dk_172 (dk_at dksX5_setup_4 2 rfl rfl)
theorem dX5_setup_97 : decode cX5_setup 97 = .ok (.aload_n 0, 1) := dk_42 (dk_at dksX5_setup_4 3 rfl rfl)
theorem dX5_setup_98 : decode cX5_setup 98 = .ok (.iconst 1, 1) := dk_4 (dk_at dksX5_setup_4 4 rfl rfl)
theorem dX5_setup_99 : decode cX5_setup 99 = .ok (.invokevirtual 83, 3) := dk_182 0 83 (dk_at dksX5_setup_4 5 rfl rfl)
theorem dX5_setup_102 : decode cX5_setup 102 = .ok (.ireturn, 1) := dk_172 (dk_at dksX5_setup_4 8 rfl rfl)
abbrev cX5_setupTime : ByteArray := prog_17_method_94_code
def yX5_setupTime : MethodName := ⟨RX5, "setupTime", "(II)I"⟩
def dkwX5_setupTime_1 : List UInt8 := [182, 0, 83, 172, 42, 27, 28, 182, 0, 245, 172]
abbrev dktX5_setupTime_1 : List UInt8 := dkwX5_setupTime_1 ++ []
def dkwX5_setupTime_0 : List UInt8 := [42, 3, 181, 0, 3, 42, 27, 182, 1, 30, 153, 0, 11, 42, 28, 182, 1, 30, 154, 0, 9, 42, 4]
abbrev dktX5_setupTime_0 : List UInt8 := dkwX5_setupTime_0 ++ dktX5_setupTime_1
theorem dksX5_setupTime_0 : cX5_setupTime.data.toList.drop 0 = dktX5_setupTime_0 := by decide +kernel
theorem dksX5_setupTime_1 : cX5_setupTime.data.toList.drop 23 = dktX5_setupTime_1 := dk_seg dksX5_setupTime_0 23 rfl rfl
theorem dX5_setupTime_0 : decode cX5_setupTime 0 = .ok (.aload_n 0, 1) := dk_42 (dk_at dksX5_setupTime_0 0 rfl rfl)
theorem dX5_setupTime_1 : decode cX5_setupTime 1 = .ok (.iconst 0, 1) := dk_3 (dk_at dksX5_setupTime_0 1 rfl rfl)
theorem dX5_setupTime_2 : decode cX5_setupTime 2 = .ok (.putfield 3, 3) := dk_181 0 3 (dk_at dksX5_setupTime_0 2 rfl rfl)
theorem dX5_setupTime_5 : decode cX5_setupTime 5 = .ok (.aload_n 0, 1) := dk_42 (dk_at dksX5_setupTime_0 5 rfl rfl)
theorem dX5_setupTime_6 : decode cX5_setupTime 6 = .ok (.iload_n 1, 1) := dk_27 (dk_at dksX5_setupTime_0 6 rfl rfl)
theorem dX5_setupTime_7 : decode cX5_setupTime 7 = .ok (.invokevirtual 286, 3) := dk_182 1 30 (dk_at dksX5_setupTime_0 7 rfl rfl)
theorem dX5_setupTime_10 : decode cX5_setupTime 10 = .ok (.ifCond .eq 11, 3) := dk_153 0 11 (dk_at dksX5_setupTime_0 10 rfl rfl)
theorem dX5_setupTime_13 : decode cX5_setupTime 13 = .ok (.aload_n 0, 1) := dk_42 (dk_at dksX5_setupTime_0 13 rfl rfl)
theorem dX5_setupTime_14 : decode cX5_setupTime 14 = .ok (.iload_n 2, 1) := dk_28 (dk_at dksX5_setupTime_0 14 rfl rfl)
theorem dX5_setupTime_15 : decode cX5_setupTime 15 = .ok (.invokevirtual 286, 3) := dk_182 1 30 (dk_at dksX5_setupTime_0 15 rfl rfl)
theorem dX5_setupTime_18 : decode cX5_setupTime 18 = .ok (.ifCond .ne 9, 3) := dk_154 0 9 (dk_at dksX5_setupTime_0 18 rfl rfl)
theorem dX5_setupTime_21 : decode cX5_setupTime 21 = .ok (.aload_n 0, 1) := dk_42 (dk_at dksX5_setupTime_0 21 rfl rfl)
theorem dX5_setupTime_22 : decode cX5_setupTime 22 = .ok (.iconst 1, 1) := dk_4 (dk_at dksX5_setupTime_0 22 rfl rfl)
theorem dX5_setupTime_23 : decode cX5_setupTime 23 = .ok (.invokevirtual 83, 3) := dk_182 0 83 (dk_at dksX5_setupTime_1 0 rfl rfl)
theorem dX5_setupTime_26 : decode cX5_setupTime 26 = .ok (.ireturn, 1) := dk_172 (dk_at dksX5_setupTime_1 3 rfl rfl)
theorem dX5_setupTime_27 : decode cX5_setupTime 27 = .ok (.aload_n 0, 1) := dk_42 (dk_at dksX5_setupTime_1 4 rfl rfl)
theorem dX5_setupTime_28 : decode cX5_setupTime 28 = .ok (.iload_n 1, 1) := dk_27 (dk_at dksX5_setupTime_1 5 rfl rfl)
theorem dX5_setupTime_29 : decode cX5_setupTime 29 = .ok (.iload_n 2, 1) := dk_28 (dk_at dksX5_setupTime_1 6 rfl rfl)
theorem dX5_setupTime_30 : decode cX5_setupTime 30 = .ok (.invokevirtual 245, 3) := dk_182 0 245 (dk_at dksX5_setupTime_1 7 rfl rfl)
theorem dX5_setupTime_33 : decode cX5_setupTime 33 = .ok (.ireturn, 1) := dk_172 (dk_at dksX5_setupTime_1 10 rfl rfl)
abbrev cX5_isClosed : ByteArray := prog_17_method_95_code
def yX5_isClosed : MethodName := ⟨RX5, "isClosed", "(II)Z"⟩
def dkwX5_isClosed_2 : List UInt8 := [182, 1, 10, 154, 0, 14, 42, 28, 28, 4, 96, 182, 1, 13, 153, 0, 7, 4, 167, 0, 4, 3, 172]
abbrev dktX5_isClosed_2 : List UInt8 := dkwX5_isClosed_2 ++ []
def dkwX5_isClosed_1 : List UInt8 := [154, 0, 7, 5, 167, 0, 4, 3, 181, 0, 3, 42, 180, 0, 3, 154, 0, 30, 42, 27, 28, 28, 4, 96]
abbrev dktX5_isClosed_1 : List UInt8 := dkwX5_isClosed_1 ++ dktX5_isClosed_2
def dkwX5_isClosed_0 : List UInt8 := [42, 42, 27, 182, 1, 42, 154, 0, 7, 4, 167, 0, 20, 28, 133, 9, 20, 1, 125, 184, 0, 90]
abbrev dktX5_isClosed_0 : List UInt8 := dkwX5_isClosed_0 ++ dktX5_isClosed_1
theorem dksX5_isClosed_0 : cX5_isClosed.data.toList.drop 0 = dktX5_isClosed_0 := by decide +kernel
theorem dksX5_isClosed_1 : cX5_isClosed.data.toList.drop 22 = dktX5_isClosed_1 := dk_seg dksX5_isClosed_0 22 rfl rfl
theorem dksX5_isClosed_2 : cX5_isClosed.data.toList.drop 46 = dktX5_isClosed_2 := dk_seg dksX5_isClosed_1 24 rfl rfl
theorem dX5_isClosed_0 : decode cX5_isClosed 0 = .ok (.aload_n 0, 1) := dk_42 (dk_at dksX5_isClosed_0 0 rfl rfl)
theorem dX5_isClosed_1 : decode cX5_isClosed 1 = .ok (.aload_n 0, 1) := dk_42 (dk_at dksX5_isClosed_0 1 rfl rfl)
theorem dX5_isClosed_2 : decode cX5_isClosed 2 = .ok (.iload_n 1, 1) := dk_27 (dk_at dksX5_isClosed_0 2 rfl rfl)
theorem dX5_isClosed_3 : decode cX5_isClosed 3 = .ok (.invokevirtual 298, 3) := dk_182 1 42 (dk_at dksX5_isClosed_0 3 rfl rfl)
theorem dX5_isClosed_6 : decode cX5_isClosed 6 = .ok (.ifCond .ne 7, 3) := dk_154 0 7 (dk_at dksX5_isClosed_0 6 rfl rfl)
theorem dX5_isClosed_9 : decode cX5_isClosed 9 = .ok (.iconst 1, 1) := dk_4 (dk_at dksX5_isClosed_0 9 rfl rfl)
theorem dX5_isClosed_10 : decode cX5_isClosed 10 = .ok (.goto 20, 3) := dk_167 0 20 (dk_at dksX5_isClosed_0 10 rfl rfl)
theorem dX5_isClosed_13 : decode cX5_isClosed 13 = .ok (.iload_n 2, 1) := dk_28 (dk_at dksX5_isClosed_0 13 rfl rfl)
theorem dX5_isClosed_14 : decode cX5_isClosed 14 = .ok (.i2l, 1) := dk_133 (dk_at dksX5_isClosed_0 14 rfl rfl)
theorem dX5_isClosed_15 : decode cX5_isClosed 15 = .ok (.lconst 0, 1) := dk_9 (dk_at dksX5_isClosed_0 15 rfl rfl)
theorem dX5_isClosed_16 : decode cX5_isClosed 16 = .ok (.ldc2_w 381, 3) := dk_20 1 125 (dk_at dksX5_isClosed_0 16 rfl rfl)
theorem dX5_isClosed_19 : decode cX5_isClosed 19 = .ok (.invokestatic 90, 3) := dk_184 0 90 (dk_at dksX5_isClosed_0 19 rfl rfl)
theorem dX5_isClosed_22 : decode cX5_isClosed 22 = .ok (.ifCond .ne 7, 3) := dk_154 0 7 (dk_at dksX5_isClosed_1 0 rfl rfl)
theorem dX5_isClosed_25 : decode cX5_isClosed 25 = .ok (.iconst 2, 1) := dk_5 (dk_at dksX5_isClosed_1 3 rfl rfl)
theorem dX5_isClosed_26 : decode cX5_isClosed 26 = .ok (.goto 4, 3) := dk_167 0 4 (dk_at dksX5_isClosed_1 4 rfl rfl)
theorem dX5_isClosed_29 : decode cX5_isClosed 29 = .ok (.iconst 0, 1) := dk_3 (dk_at dksX5_isClosed_1 7 rfl rfl)
theorem dX5_isClosed_30 : decode cX5_isClosed 30 = .ok (.putfield 3, 3) := dk_181 0 3 (dk_at dksX5_isClosed_1 8 rfl rfl)
theorem dX5_isClosed_33 : decode cX5_isClosed 33 = .ok (.aload_n 0, 1) := dk_42 (dk_at dksX5_isClosed_1 11 rfl rfl)
theorem dX5_isClosed_34 : decode cX5_isClosed 34 = .ok (.getfield 3, 3) := dk_180 0 3 (dk_at dksX5_isClosed_1 12 rfl rfl)
theorem dX5_isClosed_37 : decode cX5_isClosed 37 = .ok (.ifCond .ne 30, 3) := dk_154 0 30 (dk_at dksX5_isClosed_1 15 rfl rfl)
theorem dX5_isClosed_40 : decode cX5_isClosed 40 = .ok (.aload_n 0, 1) := dk_42 (dk_at dksX5_isClosed_1 18 rfl rfl)
theorem dX5_isClosed_41 : decode cX5_isClosed 41 = .ok (.iload_n 1, 1) := dk_27 (dk_at dksX5_isClosed_1 19 rfl rfl)
theorem dX5_isClosed_42 : decode cX5_isClosed 42 = .ok (.iload_n 2, 1) := dk_28 (dk_at dksX5_isClosed_1 20 rfl rfl)
theorem dX5_isClosed_43 : decode cX5_isClosed 43 = .ok (.iload_n 2, 1) := dk_28 (dk_at dksX5_isClosed_1 21 rfl rfl)
theorem dX5_isClosed_44 : decode cX5_isClosed 44 = .ok (.iconst 1, 1) := dk_4 (dk_at dksX5_isClosed_1 22 rfl rfl)
theorem dX5_isClosed_45 : decode cX5_isClosed 45 = .ok (.iadd, 1) := dk_96 (dk_at dksX5_isClosed_1 23 rfl rfl)
theorem dX5_isClosed_46 : decode cX5_isClosed 46 = .ok (.invokevirtual 266, 3) := dk_182 1 10 (dk_at dksX5_isClosed_2 0 rfl rfl)
theorem dX5_isClosed_49 : decode cX5_isClosed 49 = .ok (.ifCond .ne 14, 3) := dk_154 0 14 (dk_at dksX5_isClosed_2 3 rfl rfl)
theorem dX5_isClosed_52 : decode cX5_isClosed 52 = .ok (.aload_n 0, 1) := dk_42 (dk_at dksX5_isClosed_2 6 rfl rfl)
theorem dX5_isClosed_53 : decode cX5_isClosed 53 = .ok (.iload_n 2, 1) := dk_28 (dk_at dksX5_isClosed_2 7 rfl rfl)
theorem dX5_isClosed_54 : decode cX5_isClosed 54 = .ok (.iload_n 2, 1) := dk_28 (dk_at dksX5_isClosed_2 8 rfl rfl)
theorem dX5_isClosed_55 : decode cX5_isClosed 55 = .ok (.iconst 1, 1) := dk_4 (dk_at dksX5_isClosed_2 9 rfl rfl)
theorem dX5_isClosed_56 : decode cX5_isClosed 56 = .ok (.iadd, 1) := dk_96 (dk_at dksX5_isClosed_2 10 rfl rfl)
theorem dX5_isClosed_57 : decode cX5_isClosed 57 = .ok (.invokevirtual 269, 3) := dk_182 1 13 (dk_at dksX5_isClosed_2 11 rfl rfl)
theorem dX5_isClosed_60 : decode cX5_isClosed 60 = .ok (.ifCond .eq 7, 3) := dk_153 0 7 (dk_at dksX5_isClosed_2 14 rfl rfl)
theorem dX5_isClosed_63 : decode cX5_isClosed 63 = .ok (.iconst 1, 1) := dk_4 (dk_at dksX5_isClosed_2 17 rfl rfl)
theorem dX5_isClosed_64 : decode cX5_isClosed 64 = .ok (.goto 4, 3) := dk_167 0 4 (dk_at dksX5_isClosed_2 18 rfl rfl)
theorem dX5_isClosed_67 : decode cX5_isClosed 67 = .ok (.iconst 0, 1) := dk_3 (dk_at dksX5_isClosed_2 21 rfl rfl)
theorem dX5_isClosed_68 : decode cX5_isClosed 68 = .ok (.ireturn, 1) := dk_172 (dk_at dksX5_isClosed_2 22 rfl rfl)
abbrev cX5_feePercent : ByteArray := prog_17_method_96_code
def yX5_feePercent : MethodName := ⟨RX5, "feePercent", "(I)I"⟩
def dkwX5_feePercent_1 : List UInt8 := [27, 182, 1, 67, 172]
abbrev dktX5_feePercent_1 : List UInt8 := dkwX5_feePercent_1 ++ []
def dkwX5_feePercent_0 : List UInt8 := [42, 3, 181, 0, 3, 27, 133, 9, 20, 1, 127, 184, 0, 90, 154, 0, 9, 42, 4, 182, 0, 83, 172, 42]
abbrev dktX5_feePercent_0 : List UInt8 := dkwX5_feePercent_0 ++ dktX5_feePercent_1
theorem dksX5_feePercent_0 : cX5_feePercent.data.toList.drop 0 = dktX5_feePercent_0 := by decide +kernel
theorem dksX5_feePercent_1 : cX5_feePercent.data.toList.drop 24 = dktX5_feePercent_1 := dk_seg dksX5_feePercent_0 24 rfl rfl
theorem dX5_feePercent_0 : decode cX5_feePercent 0 = .ok (.aload_n 0, 1) := dk_42 (dk_at dksX5_feePercent_0 0 rfl rfl)
theorem dX5_feePercent_1 : decode cX5_feePercent 1 = .ok (.iconst 0, 1) := dk_3 (dk_at dksX5_feePercent_0 1 rfl rfl)
theorem dX5_feePercent_2 : decode cX5_feePercent 2 = .ok (.putfield 3, 3) := dk_181 0 3 (dk_at dksX5_feePercent_0 2 rfl rfl)
theorem dX5_feePercent_5 : decode cX5_feePercent 5 = .ok (.iload_n 1, 1) := dk_27 (dk_at dksX5_feePercent_0 5 rfl rfl)
theorem dX5_feePercent_6 : decode cX5_feePercent 6 = .ok (.i2l, 1) := dk_133 (dk_at dksX5_feePercent_0 6 rfl rfl)
theorem dX5_feePercent_7 : decode cX5_feePercent 7 = .ok (.lconst 0, 1) := dk_9 (dk_at dksX5_feePercent_0 7 rfl rfl)
theorem dX5_feePercent_8 : decode cX5_feePercent 8 = .ok (.ldc2_w 383, 3) := dk_20 1 127 (dk_at dksX5_feePercent_0 8 rfl rfl)
theorem dX5_feePercent_11 : decode cX5_feePercent 11 = .ok (.invokestatic 90, 3) := dk_184 0 90 (dk_at dksX5_feePercent_0 11 rfl rfl)
theorem dX5_feePercent_14 : decode cX5_feePercent 14 = .ok (.ifCond .ne 9, 3) := dk_154 0 9 (dk_at dksX5_feePercent_0 14 rfl rfl)
theorem dX5_feePercent_17 : decode cX5_feePercent 17 = .ok (.aload_n 0, 1) := dk_42 (dk_at dksX5_feePercent_0 17 rfl rfl)
theorem dX5_feePercent_18 : decode cX5_feePercent 18 = .ok (.iconst 1, 1) := dk_4 (dk_at dksX5_feePercent_0 18 rfl rfl)
theorem dX5_feePercent_19 : decode cX5_feePercent 19 = .ok (.invokevirtual 83, 3) := dk_182 0 83 (dk_at dksX5_feePercent_0 19 rfl rfl)
theorem dX5_feePercent_22 : decode cX5_feePercent 22 = .ok (.ireturn, 1) := dk_172 (dk_at dksX5_feePercent_0 22 rfl rfl)
theorem dX5_feePercent_23 : decode cX5_feePercent 23 = .ok (.aload_n 0, 1) := dk_42 (dk_at dksX5_feePercent_0 23 rfl rfl)
theorem dX5_feePercent_24 : decode cX5_feePercent 24 = .ok (.iload_n 1, 1) := dk_27 (dk_at dksX5_feePercent_1 0 rfl rfl)
theorem dX5_feePercent_25 : decode cX5_feePercent 25 = .ok (.invokevirtual 323, 3) := dk_182 1 67 (dk_at dksX5_feePercent_1 1 rfl rfl)
theorem dX5_feePercent_28 : decode cX5_feePercent 28 = .ok (.ireturn, 1) := dk_172 (dk_at dksX5_feePercent_1 4 rfl rfl)
abbrev cX5_now : ByteArray := prog_17_method_97_code
def yX5_now : MethodName := ⟨RX5, "now", "()I"⟩
def dkwX5_now_0 : List UInt8 := [42, 3, 181, 0, 3, 42, 180, 0, 36, 3, 46, 172]
abbrev dktX5_now_0 : List UInt8 := dkwX5_now_0 ++ []
theorem dksX5_now_0 : cX5_now.data.toList.drop 0 = dktX5_now_0 := by decide +kernel
theorem dX5_now_0 : decode cX5_now 0 = .ok (.aload_n 0, 1) := dk_42 (dk_at dksX5_now_0 0 rfl rfl)
theorem dX5_now_1 : decode cX5_now 1 = .ok (.iconst 0, 1) := dk_3 (dk_at dksX5_now_0 1 rfl rfl)
theorem dX5_now_2 : decode cX5_now 2 = .ok (.putfield 3, 3) := dk_181 0 3 (dk_at dksX5_now_0 2 rfl rfl)
theorem dX5_now_5 : decode cX5_now 5 = .ok (.aload_n 0, 1) := dk_42 (dk_at dksX5_now_0 5 rfl rfl)
theorem dX5_now_6 : decode cX5_now 6 = .ok (.getfield 36, 3) := dk_180 0 36 (dk_at dksX5_now_0 6 rfl rfl)
theorem dX5_now_9 : decode cX5_now 9 = .ok (.iconst 0, 1) := dk_3 (dk_at dksX5_now_0 9 rfl rfl)
theorem dX5_now_10 : decode cX5_now 10 = .ok (.iaload, 1) := dk_46 (dk_at dksX5_now_0 10 rfl rfl)
theorem dX5_now_11 : decode cX5_now 11 = .ok (.ireturn, 1) := dk_172 (dk_at dksX5_now_0 11 rfl rfl)
abbrev cX5_bookingCount : ByteArray := prog_17_method_98_code
def yX5_bookingCount : MethodName := ⟨RX5, "bookingCount", "()I"⟩
def dkwX5_bookingCount_0 : List UInt8 := [42, 3, 181, 0, 3, 42, 180, 0, 36, 4, 46, 172]
abbrev dktX5_bookingCount_0 : List UInt8 := dkwX5_bookingCount_0 ++ []
theorem dksX5_bookingCount_0 : cX5_bookingCount.data.toList.drop 0 = dktX5_bookingCount_0 := by decide +kernel
theorem dX5_bookingCount_0 : decode cX5_bookingCount 0 = .ok (.aload_n 0, 1) := dk_42 (dk_at dksX5_bookingCount_0 0 rfl rfl)
theorem dX5_bookingCount_1 : decode cX5_bookingCount 1 = .ok (.iconst 0, 1) := dk_3 (dk_at dksX5_bookingCount_0 1 rfl rfl)
theorem dX5_bookingCount_2 : decode cX5_bookingCount 2 = .ok (.putfield 3, 3) := dk_181 0 3 (dk_at dksX5_bookingCount_0 2 rfl rfl)
theorem dX5_bookingCount_5 : decode cX5_bookingCount 5 = .ok (.aload_n 0, 1) := dk_42 (dk_at dksX5_bookingCount_0 5 rfl rfl)
theorem dX5_bookingCount_6 : decode cX5_bookingCount 6 = .ok (.getfield 36, 3) := dk_180 0 36 (dk_at dksX5_bookingCount_0 6 rfl rfl)
theorem dX5_bookingCount_9 : decode cX5_bookingCount 9 = .ok (.iconst 1, 1) := dk_4 (dk_at dksX5_bookingCount_0 9 rfl rfl)
theorem dX5_bookingCount_10 : decode cX5_bookingCount 10 = .ok (.iaload, 1) := dk_46 (dk_at dksX5_bookingCount_0 10 rfl rfl)
theorem dX5_bookingCount_11 : decode cX5_bookingCount 11 = .ok (.ireturn, 1) := dk_172 (dk_at dksX5_bookingCount_0 11 rfl rfl)
abbrev cX5_booking : ByteArray := prog_17_method_99_code
def yX5_booking : MethodName := ⟨RX5, "booking", "(II)I"⟩
def dkwX5_booking_4 : List UInt8 := [182, 0, 228, 172, 42, 27, 16, 12, 182, 0, 228, 172, 42, 5, 182, 0, 83, 172]
abbrev dktX5_booking_4 : List UInt8 := dkwX5_booking_4 ++ []
def dkwX5_booking_3 : List UInt8 := [3, 182, 0, 228, 172, 42, 27, 4, 182, 0, 228, 172, 42, 27, 182, 1, 64, 172, 42, 27, 16, 11]
abbrev dktX5_booking_3 : List UInt8 := dkwX5_booking_3 ++ dktX5_booking_4
def dkwX5_booking_2 : List UInt8 := [42, 27, 16, 9, 182, 0, 228, 172, 42, 27, 16, 10, 182, 0, 228, 172, 42, 27, 182, 0, 242, 172, 42, 27]
abbrev dktX5_booking_2 : List UInt8 := dkwX5_booking_2 ++ dktX5_booking_3
def dkwX5_booking_1 : List UInt8 := [170, 0, 0, 0, 0, 0, 0, 106, 0, 0, 0, 0, 0, 0, 0, 7, 0, 0, 0, 48, 0, 0, 0, 56, 0, 0, 0, 64, 0, 0, 0, 70, 0, 0, 0, 77, 0, 0, 0, 84, 0, 0, 0, 90, 0, 0, 0, 98]
abbrev dktX5_booking_1 : List UInt8 := dkwX5_booking_1 ++ dktX5_booking_2
def dkwX5_booking_0 : List UInt8 := [42, 3, 181, 0, 3, 42, 27, 182, 1, 76, 154, 0, 9, 42, 4, 182, 0, 83, 172, 28]
abbrev dktX5_booking_0 : List UInt8 := dkwX5_booking_0 ++ dktX5_booking_1
theorem dksX5_booking_0 : cX5_booking.data.toList.drop 0 = dktX5_booking_0 := by decide +kernel
theorem dksX5_booking_1 : cX5_booking.data.toList.drop 20 = dktX5_booking_1 := dk_seg dksX5_booking_0 20 rfl rfl
theorem dksX5_booking_2 : cX5_booking.data.toList.drop 68 = dktX5_booking_2 := dk_seg dksX5_booking_1 48 rfl rfl
theorem dksX5_booking_3 : cX5_booking.data.toList.drop 92 = dktX5_booking_3 := dk_seg dksX5_booking_2 24 rfl rfl
theorem dksX5_booking_4 : cX5_booking.data.toList.drop 114 = dktX5_booking_4 := dk_seg dksX5_booking_3 22 rfl rfl
theorem dX5_booking_0 : decode cX5_booking 0 = .ok (.aload_n 0, 1) := dk_42 (dk_at dksX5_booking_0 0 rfl rfl)
theorem dX5_booking_1 : decode cX5_booking 1 = .ok (.iconst 0, 1) := dk_3 (dk_at dksX5_booking_0 1 rfl rfl)
theorem dX5_booking_2 : decode cX5_booking 2 = .ok (.putfield 3, 3) := dk_181 0 3 (dk_at dksX5_booking_0 2 rfl rfl)
theorem dX5_booking_5 : decode cX5_booking 5 = .ok (.aload_n 0, 1) := dk_42 (dk_at dksX5_booking_0 5 rfl rfl)
theorem dX5_booking_6 : decode cX5_booking 6 = .ok (.iload_n 1, 1) := dk_27 (dk_at dksX5_booking_0 6 rfl rfl)
theorem dX5_booking_7 : decode cX5_booking 7 = .ok (.invokevirtual 332, 3) := dk_182 1 76 (dk_at dksX5_booking_0 7 rfl rfl)
theorem dX5_booking_10 : decode cX5_booking 10 = .ok (.ifCond .ne 9, 3) := dk_154 0 9 (dk_at dksX5_booking_0 10 rfl rfl)
theorem dX5_booking_13 : decode cX5_booking 13 = .ok (.aload_n 0, 1) := dk_42 (dk_at dksX5_booking_0 13 rfl rfl)
theorem dX5_booking_14 : decode cX5_booking 14 = .ok (.iconst 1, 1) := dk_4 (dk_at dksX5_booking_0 14 rfl rfl)
theorem dX5_booking_15 : decode cX5_booking 15 = .ok (.invokevirtual 83, 3) := dk_182 0 83 (dk_at dksX5_booking_0 15 rfl rfl)
theorem dX5_booking_18 : decode cX5_booking 18 = .ok (.ireturn, 1) := dk_172 (dk_at dksX5_booking_0 18 rfl rfl)
theorem dX5_booking_19 : decode cX5_booking 19 = .ok (.iload_n 2, 1) := dk_28 (dk_at dksX5_booking_0 19 rfl rfl)
theorem dX5_booking_20 : decode cX5_booking 20 = .ok (.tableswitch 106 0 7 #[48, 56, 64, 70, 77, 84, 90, 98], 48) := by decide +kernel
theorem dX5_booking_68 : decode cX5_booking 68 = .ok (.aload_n 0, 1) := dk_42 (dk_at dksX5_booking_2 0 rfl rfl)
theorem dX5_booking_69 : decode cX5_booking 69 = .ok (.iload_n 1, 1) := dk_27 (dk_at dksX5_booking_2 1 rfl rfl)
theorem dX5_booking_70 : decode cX5_booking 70 = .ok (.bipush 9, 2) := dk_16 9 (dk_at dksX5_booking_2 2 rfl rfl)
theorem dX5_booking_72 : decode cX5_booking 72 = .ok (.invokevirtual 228, 3) := dk_182 0 228 (dk_at dksX5_booking_2 4 rfl rfl)
theorem dX5_booking_75 : decode cX5_booking 75 = .ok (.ireturn, 1) := dk_172 (dk_at dksX5_booking_2 7 rfl rfl)
theorem dX5_booking_76 : decode cX5_booking 76 = .ok (.aload_n 0, 1) := dk_42 (dk_at dksX5_booking_2 8 rfl rfl)
theorem dX5_booking_77 : decode cX5_booking 77 = .ok (.iload_n 1, 1) := dk_27 (dk_at dksX5_booking_2 9 rfl rfl)
theorem dX5_booking_78 : decode cX5_booking 78 = .ok (.bipush 10, 2) := dk_16 10 (dk_at dksX5_booking_2 10 rfl rfl)
theorem dX5_booking_80 : decode cX5_booking 80 = .ok (.invokevirtual 228, 3) := dk_182 0 228 (dk_at dksX5_booking_2 12 rfl rfl)
theorem dX5_booking_83 : decode cX5_booking 83 = .ok (.ireturn, 1) := dk_172 (dk_at dksX5_booking_2 15 rfl rfl)
theorem dX5_booking_84 : decode cX5_booking 84 = .ok (.aload_n 0, 1) := dk_42 (dk_at dksX5_booking_2 16 rfl rfl)
theorem dX5_booking_85 : decode cX5_booking 85 = .ok (.iload_n 1, 1) := dk_27 (dk_at dksX5_booking_2 17 rfl rfl)
theorem dX5_booking_86 : decode cX5_booking 86 = .ok (.invokevirtual 242, 3) := dk_182 0 242 (dk_at dksX5_booking_2 18 rfl rfl)
theorem dX5_booking_89 : decode cX5_booking 89 = .ok (.ireturn, 1) := dk_172 (dk_at dksX5_booking_2 21 rfl rfl)
theorem dX5_booking_90 : decode cX5_booking 90 = .ok (.aload_n 0, 1) := dk_42 (dk_at dksX5_booking_2 22 rfl rfl)
theorem dX5_booking_91 : decode cX5_booking 91 = .ok (.iload_n 1, 1) := dk_27 (dk_at dksX5_booking_2 23 rfl rfl)
theorem dX5_booking_92 : decode cX5_booking 92 = .ok (.iconst 0, 1) := dk_3 (dk_at dksX5_booking_3 0 rfl rfl)
theorem dX5_booking_93 : decode cX5_booking 93 = .ok (.invokevirtual 228, 3) := dk_182 0 228 (dk_at dksX5_booking_3 1 rfl rfl)
theorem dX5_booking_96 : decode cX5_booking 96 = .ok (.ireturn, 1) := dk_172 (dk_at dksX5_booking_3 4 rfl rfl)
theorem dX5_booking_97 : decode cX5_booking 97 = .ok (.aload_n 0, 1) := dk_42 (dk_at dksX5_booking_3 5 rfl rfl)
theorem dX5_booking_98 : decode cX5_booking 98 = .ok (.iload_n 1, 1) := dk_27 (dk_at dksX5_booking_3 6 rfl rfl)
theorem dX5_booking_99 : decode cX5_booking 99 = .ok (.iconst 1, 1) := dk_4 (dk_at dksX5_booking_3 7 rfl rfl)
theorem dX5_booking_100 : decode cX5_booking 100 = .ok (.invokevirtual 228, 3) := dk_182 0 228 (dk_at dksX5_booking_3 8 rfl rfl)
theorem dX5_booking_103 : decode cX5_booking 103 = .ok (.ireturn, 1) := dk_172 (dk_at dksX5_booking_3 11 rfl rfl)
theorem dX5_booking_104 : decode cX5_booking 104 = .ok (.aload_n 0, 1) := dk_42 (dk_at dksX5_booking_3 12 rfl rfl)
theorem dX5_booking_105 : decode cX5_booking 105 = .ok (.iload_n 1, 1) := dk_27 (dk_at dksX5_booking_3 13 rfl rfl)
theorem dX5_booking_106 : decode cX5_booking 106 = .ok (.invokevirtual 320, 3) := dk_182 1 64 (dk_at dksX5_booking_3 14 rfl rfl)
theorem dX5_booking_109 : decode cX5_booking 109 = .ok (.ireturn, 1) := dk_172 (dk_at dksX5_booking_3 17 rfl rfl)
theorem dX5_booking_110 : decode cX5_booking 110 = .ok (.aload_n 0, 1) := dk_42 (dk_at dksX5_booking_3 18 rfl rfl)
theorem dX5_booking_111 : decode cX5_booking 111 = .ok (.iload_n 1, 1) := dk_27 (dk_at dksX5_booking_3 19 rfl rfl)
theorem dX5_booking_112 : decode cX5_booking 112 = .ok (.bipush 11, 2) := dk_16 11 (dk_at dksX5_booking_3 20 rfl rfl)
theorem dX5_booking_114 : decode cX5_booking 114 = .ok (.invokevirtual 228, 3) := dk_182 0 228 (dk_at dksX5_booking_4 0 rfl rfl)
theorem dX5_booking_117 : decode cX5_booking 117 = .ok (.ireturn, 1) := dk_172 (dk_at dksX5_booking_4 3 rfl rfl)
theorem dX5_booking_118 : decode cX5_booking 118 = .ok (.aload_n 0, 1) := dk_42 (dk_at dksX5_booking_4 4 rfl rfl)
theorem dX5_booking_119 : decode cX5_booking 119 = .ok (.iload_n 1, 1) := dk_27 (dk_at dksX5_booking_4 5 rfl rfl)
theorem dX5_booking_120 : decode cX5_booking 120 = .ok (.bipush 12, 2) := dk_16 12 (dk_at dksX5_booking_4 6 rfl rfl)
theorem dX5_booking_122 : decode cX5_booking 122 = .ok (.invokevirtual 228, 3) := dk_182 0 228 (dk_at dksX5_booking_4 8 rfl rfl)
theorem dX5_booking_125 : decode cX5_booking 125 = .ok (.ireturn, 1) := dk_172 (dk_at dksX5_booking_4 11 rfl rfl)
theorem dX5_booking_126 : decode cX5_booking 126 = .ok (.aload_n 0, 1) := dk_42 (dk_at dksX5_booking_4 12 rfl rfl)
theorem dX5_booking_127 : decode cX5_booking 127 = .ok (.iconst 2, 1) := dk_5 (dk_at dksX5_booking_4 13 rfl rfl)
theorem dX5_booking_128 : decode cX5_booking 128 = .ok (.invokevirtual 83, 3) := dk_182 0 83 (dk_at dksX5_booking_4 14 rfl rfl)
theorem dX5_booking_131 : decode cX5_booking 131 = .ok (.ireturn, 1) := dk_172 (dk_at dksX5_booking_4 17 rfl rfl)
abbrev cX5_bookedNeed : ByteArray := prog_17_method_100_code
def yX5_bookedNeed : MethodName := ⟨RX5, "bookedNeed", "(II)I"⟩
def dkwX5_bookedNeed_1 : List UInt8 := [182, 0, 83, 172, 42, 27, 6, 28, 96, 182, 0, 228, 172]
abbrev dktX5_bookedNeed_1 : List UInt8 := dkwX5_bookedNeed_1 ++ []
def dkwX5_bookedNeed_0 : List UInt8 := [42, 3, 181, 0, 3, 42, 27, 182, 1, 76, 153, 0, 11, 42, 28, 182, 1, 39, 154, 0, 9, 42, 4]
abbrev dktX5_bookedNeed_0 : List UInt8 := dkwX5_bookedNeed_0 ++ dktX5_bookedNeed_1
theorem dksX5_bookedNeed_0 : cX5_bookedNeed.data.toList.drop 0 = dktX5_bookedNeed_0 := by decide +kernel
theorem dksX5_bookedNeed_1 : cX5_bookedNeed.data.toList.drop 23 = dktX5_bookedNeed_1 := dk_seg dksX5_bookedNeed_0 23 rfl rfl
theorem dX5_bookedNeed_0 : decode cX5_bookedNeed 0 = .ok (.aload_n 0, 1) := dk_42 (dk_at dksX5_bookedNeed_0 0 rfl rfl)
theorem dX5_bookedNeed_1 : decode cX5_bookedNeed 1 = .ok (.iconst 0, 1) := dk_3 (dk_at dksX5_bookedNeed_0 1 rfl rfl)
theorem dX5_bookedNeed_2 : decode cX5_bookedNeed 2 = .ok (.putfield 3, 3) := dk_181 0 3 (dk_at dksX5_bookedNeed_0 2 rfl rfl)
theorem dX5_bookedNeed_5 : decode cX5_bookedNeed 5 = .ok (.aload_n 0, 1) := dk_42 (dk_at dksX5_bookedNeed_0 5 rfl rfl)
theorem dX5_bookedNeed_6 : decode cX5_bookedNeed 6 = .ok (.iload_n 1, 1) := dk_27 (dk_at dksX5_bookedNeed_0 6 rfl rfl)
theorem dX5_bookedNeed_7 : decode cX5_bookedNeed 7 = .ok (.invokevirtual 332, 3) := dk_182 1 76 (dk_at dksX5_bookedNeed_0 7 rfl rfl)
theorem dX5_bookedNeed_10 : decode cX5_bookedNeed 10 = .ok (.ifCond .eq 11, 3) := dk_153 0 11 (dk_at dksX5_bookedNeed_0 10 rfl rfl)
theorem dX5_bookedNeed_13 : decode cX5_bookedNeed 13 = .ok (.aload_n 0, 1) := dk_42 (dk_at dksX5_bookedNeed_0 13 rfl rfl)
theorem dX5_bookedNeed_14 : decode cX5_bookedNeed 14 = .ok (.iload_n 2, 1) := dk_28 (dk_at dksX5_bookedNeed_0 14 rfl rfl)
theorem dX5_bookedNeed_15 : decode cX5_bookedNeed 15 = .ok (.invokevirtual 295, 3) := dk_182 1 39 (dk_at dksX5_bookedNeed_0 15 rfl rfl)
theorem dX5_bookedNeed_18 : decode cX5_bookedNeed 18 = .ok (.ifCond .ne 9, 3) := dk_154 0 9 (dk_at dksX5_bookedNeed_0 18 rfl rfl)
theorem dX5_bookedNeed_21 : decode cX5_bookedNeed 21 = .ok (.aload_n 0, 1) := dk_42 (dk_at dksX5_bookedNeed_0 21 rfl rfl)
theorem dX5_bookedNeed_22 : decode cX5_bookedNeed 22 = .ok (.iconst 1, 1) := dk_4 (dk_at dksX5_bookedNeed_0 22 rfl rfl)
theorem dX5_bookedNeed_23 : decode cX5_bookedNeed 23 = .ok (.invokevirtual 83, 3) := dk_182 0 83 (dk_at dksX5_bookedNeed_1 0 rfl rfl)
theorem dX5_bookedNeed_26 : decode cX5_bookedNeed 26 = .ok (.ireturn, 1) := dk_172 (dk_at dksX5_bookedNeed_1 3 rfl rfl)
theorem dX5_bookedNeed_27 : decode cX5_bookedNeed 27 = .ok (.aload_n 0, 1) := dk_42 (dk_at dksX5_bookedNeed_1 4 rfl rfl)
theorem dX5_bookedNeed_28 : decode cX5_bookedNeed 28 = .ok (.iload_n 1, 1) := dk_27 (dk_at dksX5_bookedNeed_1 5 rfl rfl)
theorem dX5_bookedNeed_29 : decode cX5_bookedNeed 29 = .ok (.iconst 3, 1) := dk_6 (dk_at dksX5_bookedNeed_1 6 rfl rfl)
theorem dX5_bookedNeed_30 : decode cX5_bookedNeed 30 = .ok (.iload_n 2, 1) := dk_28 (dk_at dksX5_bookedNeed_1 7 rfl rfl)
theorem dX5_bookedNeed_31 : decode cX5_bookedNeed 31 = .ok (.iadd, 1) := dk_96 (dk_at dksX5_bookedNeed_1 8 rfl rfl)
theorem dX5_bookedNeed_32 : decode cX5_bookedNeed 32 = .ok (.invokevirtual 228, 3) := dk_182 0 228 (dk_at dksX5_bookedNeed_1 9 rfl rfl)
theorem dX5_bookedNeed_35 : decode cX5_bookedNeed 35 = .ok (.ireturn, 1) := dk_172 (dk_at dksX5_bookedNeed_1 12 rfl rfl)
abbrev cX5_requestCount : ByteArray := prog_17_method_101_code
def yX5_requestCount : MethodName := ⟨RX5, "requestCount", "()I"⟩
def dkwX5_requestCount_0 : List UInt8 := [42, 3, 181, 0, 3, 42, 180, 0, 36, 5, 46, 172]
abbrev dktX5_requestCount_0 : List UInt8 := dkwX5_requestCount_0 ++ []
theorem dksX5_requestCount_0 : cX5_requestCount.data.toList.drop 0 = dktX5_requestCount_0 := by decide +kernel
theorem dX5_requestCount_0 : decode cX5_requestCount 0 = .ok (.aload_n 0, 1) := dk_42 (dk_at dksX5_requestCount_0 0 rfl rfl)
theorem dX5_requestCount_1 : decode cX5_requestCount 1 = .ok (.iconst 0, 1) := dk_3 (dk_at dksX5_requestCount_0 1 rfl rfl)
theorem dX5_requestCount_2 : decode cX5_requestCount 2 = .ok (.putfield 3, 3) := dk_181 0 3 (dk_at dksX5_requestCount_0 2 rfl rfl)
theorem dX5_requestCount_5 : decode cX5_requestCount 5 = .ok (.aload_n 0, 1) := dk_42 (dk_at dksX5_requestCount_0 5 rfl rfl)
theorem dX5_requestCount_6 : decode cX5_requestCount 6 = .ok (.getfield 36, 3) := dk_180 0 36 (dk_at dksX5_requestCount_0 6 rfl rfl)
theorem dX5_requestCount_9 : decode cX5_requestCount 9 = .ok (.iconst 2, 1) := dk_5 (dk_at dksX5_requestCount_0 9 rfl rfl)
theorem dX5_requestCount_10 : decode cX5_requestCount 10 = .ok (.iaload, 1) := dk_46 (dk_at dksX5_requestCount_0 10 rfl rfl)
theorem dX5_requestCount_11 : decode cX5_requestCount 11 = .ok (.ireturn, 1) := dk_172 (dk_at dksX5_requestCount_0 11 rfl rfl)
abbrev cX5_request : ByteArray := prog_17_method_102_code
def yX5_request : MethodName := ⟨RX5, "request", "(II)I"⟩
def dkwX5_request_5 : List UInt8 := [42, 180, 0, 36, 29, 4, 96, 46, 172, 42, 5, 182, 0, 83, 172]
abbrev dktX5_request_5 : List UInt8 := dkwX5_request_5 ++ []
def dkwX5_request_4 : List UInt8 := [29, 16, 10, 96, 46, 42, 180, 0, 36, 29, 5, 96, 46, 96, 172, 42, 180, 0, 36, 29, 3, 96, 46, 172]
abbrev dktX5_request_4 : List UInt8 := dkwX5_request_4 ++ dktX5_request_5
def dkwX5_request_3 : List UInt8 := [42, 180, 0, 36, 29, 16, 9, 96, 46, 172, 42, 180, 0, 36, 29, 16, 10, 96, 46, 172, 42, 180, 0, 36]
abbrev dktX5_request_3 : List UInt8 := dkwX5_request_3 ++ dktX5_request_4
def dkwX5_request_2 : List UInt8 := [170, 0, 0, 0, 90, 0, 0, 0, 0, 0, 0, 0, 4, 0, 0, 0, 33, 0, 0, 0, 43, 0, 0, 0, 53, 0, 0, 0, 72, 0, 0, 0, 81]
abbrev dktX5_request_2 : List UInt8 := dkwX5_request_2 ++ dktX5_request_3
def dkwX5_request_1 : List UInt8 := [4, 182, 0, 83, 172, 27, 184, 1, 70, 62, 28]
abbrev dktX5_request_1 : List UInt8 := dkwX5_request_1 ++ dktX5_request_2
def dkwX5_request_0 : List UInt8 := [42, 3, 181, 0, 3, 27, 133, 9, 42, 180, 0, 36, 5, 46, 4, 100, 133, 184, 0, 90, 154, 0, 9, 42]
abbrev dktX5_request_0 : List UInt8 := dkwX5_request_0 ++ dktX5_request_1
theorem dksX5_request_0 : cX5_request.data.toList.drop 0 = dktX5_request_0 := by decide +kernel
theorem dksX5_request_1 : cX5_request.data.toList.drop 24 = dktX5_request_1 := dk_seg dksX5_request_0 24 rfl rfl
theorem dksX5_request_2 : cX5_request.data.toList.drop 35 = dktX5_request_2 := dk_seg dksX5_request_1 11 rfl rfl
theorem dksX5_request_3 : cX5_request.data.toList.drop 68 = dktX5_request_3 := dk_seg dksX5_request_2 33 rfl rfl
theorem dksX5_request_4 : cX5_request.data.toList.drop 92 = dktX5_request_4 := dk_seg dksX5_request_3 24 rfl rfl
theorem dksX5_request_5 : cX5_request.data.toList.drop 116 = dktX5_request_5 := dk_seg dksX5_request_4 24 rfl rfl
theorem dX5_request_0 : decode cX5_request 0 = .ok (.aload_n 0, 1) := dk_42 (dk_at dksX5_request_0 0 rfl rfl)
theorem dX5_request_1 : decode cX5_request 1 = .ok (.iconst 0, 1) := dk_3 (dk_at dksX5_request_0 1 rfl rfl)
theorem dX5_request_2 : decode cX5_request 2 = .ok (.putfield 3, 3) := dk_181 0 3 (dk_at dksX5_request_0 2 rfl rfl)
theorem dX5_request_5 : decode cX5_request 5 = .ok (.iload_n 1, 1) := dk_27 (dk_at dksX5_request_0 5 rfl rfl)
theorem dX5_request_6 : decode cX5_request 6 = .ok (.i2l, 1) := dk_133 (dk_at dksX5_request_0 6 rfl rfl)
theorem dX5_request_7 : decode cX5_request 7 = .ok (.lconst 0, 1) := dk_9 (dk_at dksX5_request_0 7 rfl rfl)
theorem dX5_request_8 : decode cX5_request 8 = .ok (.aload_n 0, 1) := dk_42 (dk_at dksX5_request_0 8 rfl rfl)
theorem dX5_request_9 : decode cX5_request 9 = .ok (.getfield 36, 3) := dk_180 0 36 (dk_at dksX5_request_0 9 rfl rfl)
theorem dX5_request_12 : decode cX5_request 12 = .ok (.iconst 2, 1) := dk_5 (dk_at dksX5_request_0 12 rfl rfl)
theorem dX5_request_13 : decode cX5_request 13 = .ok (.iaload, 1) := dk_46 (dk_at dksX5_request_0 13 rfl rfl)
theorem dX5_request_14 : decode cX5_request 14 = .ok (.iconst 1, 1) := dk_4 (dk_at dksX5_request_0 14 rfl rfl)
theorem dX5_request_15 : decode cX5_request 15 = .ok (.isub, 1) := dk_100 (dk_at dksX5_request_0 15 rfl rfl)
theorem dX5_request_16 : decode cX5_request 16 = .ok (.i2l, 1) := dk_133 (dk_at dksX5_request_0 16 rfl rfl)
theorem dX5_request_17 : decode cX5_request 17 = .ok (.invokestatic 90, 3) := dk_184 0 90 (dk_at dksX5_request_0 17 rfl rfl)
theorem dX5_request_20 : decode cX5_request 20 = .ok (.ifCond .ne 9, 3) := dk_154 0 9 (dk_at dksX5_request_0 20 rfl rfl)
theorem dX5_request_23 : decode cX5_request 23 = .ok (.aload_n 0, 1) := dk_42 (dk_at dksX5_request_0 23 rfl rfl)
theorem dX5_request_24 : decode cX5_request 24 = .ok (.iconst 1, 1) := dk_4 (dk_at dksX5_request_1 0 rfl rfl)
theorem dX5_request_25 : decode cX5_request 25 = .ok (.invokevirtual 83, 3) := dk_182 0 83 (dk_at dksX5_request_1 1 rfl rfl)
theorem dX5_request_28 : decode cX5_request 28 = .ok (.ireturn, 1) := dk_172 (dk_at dksX5_request_1 4 rfl rfl)
theorem dX5_request_29 : decode cX5_request 29 = .ok (.iload_n 1, 1) := dk_27 (dk_at dksX5_request_1 5 rfl rfl)
theorem dX5_request_30 : decode cX5_request 30 = .ok (.invokestatic 326, 3) := dk_184 1 70 (dk_at dksX5_request_1 6 rfl rfl)
theorem dX5_request_33 : decode cX5_request 33 = .ok (.istore_n 3, 1) := dk_62 (dk_at dksX5_request_1 9 rfl rfl)
theorem dX5_request_34 : decode cX5_request 34 = .ok (.iload_n 2, 1) := dk_28 (dk_at dksX5_request_1 10 rfl rfl)
theorem dX5_request_35 : decode cX5_request 35 = .ok (.tableswitch 90 0 4 #[33, 43, 53, 72, 81], 33) := by decide +kernel
theorem dX5_request_68 : decode cX5_request 68 = .ok (.aload_n 0, 1) := dk_42 (dk_at dksX5_request_3 0 rfl rfl)
theorem dX5_request_69 : decode cX5_request 69 = .ok (.getfield 36, 3) := dk_180 0 36 (dk_at dksX5_request_3 1 rfl rfl)
theorem dX5_request_72 : decode cX5_request 72 = .ok (.iload_n 3, 1) := dk_29 (dk_at dksX5_request_3 4 rfl rfl)
theorem dX5_request_73 : decode cX5_request 73 = .ok (.bipush 9, 2) := dk_16 9 (dk_at dksX5_request_3 5 rfl rfl)
theorem dX5_request_75 : decode cX5_request 75 = .ok (.iadd, 1) := dk_96 (dk_at dksX5_request_3 7 rfl rfl)
theorem dX5_request_76 : decode cX5_request 76 = .ok (.iaload, 1) := dk_46 (dk_at dksX5_request_3 8 rfl rfl)
theorem dX5_request_77 : decode cX5_request 77 = .ok (.ireturn, 1) := dk_172 (dk_at dksX5_request_3 9 rfl rfl)
theorem dX5_request_78 : decode cX5_request 78 = .ok (.aload_n 0, 1) := dk_42 (dk_at dksX5_request_3 10 rfl rfl)
theorem dX5_request_79 : decode cX5_request 79 = .ok (.getfield 36, 3) := dk_180 0 36 (dk_at dksX5_request_3 11 rfl rfl)
theorem dX5_request_82 : decode cX5_request 82 = .ok (.iload_n 3, 1) := dk_29 (dk_at dksX5_request_3 14 rfl rfl)
theorem dX5_request_83 : decode cX5_request 83 = .ok (.bipush 10, 2) := dk_16 10 (dk_at dksX5_request_3 15 rfl rfl)
theorem dX5_request_85 : decode cX5_request 85 = .ok (.iadd, 1) := dk_96 (dk_at dksX5_request_3 17 rfl rfl)
theorem dX5_request_86 : decode cX5_request 86 = .ok (.iaload, 1) := dk_46 (dk_at dksX5_request_3 18 rfl rfl)
theorem dX5_request_87 : decode cX5_request 87 = .ok (.ireturn, 1) := dk_172 (dk_at dksX5_request_3 19 rfl rfl)
theorem dX5_request_88 : decode cX5_request 88 = .ok (.aload_n 0, 1) := dk_42 (dk_at dksX5_request_3 20 rfl rfl)
theorem dX5_request_89 : decode cX5_request 89 = .ok (.getfield 36, 3) := dk_180 0 36 (dk_at dksX5_request_3 21 rfl rfl)
theorem dX5_request_92 : decode cX5_request 92 = .ok (.iload_n 3, 1) := dk_29 (dk_at dksX5_request_4 0 rfl rfl)
theorem dX5_request_93 : decode cX5_request 93 = .ok (.bipush 10, 2) := dk_16 10 (dk_at dksX5_request_4 1 rfl rfl)
theorem dX5_request_95 : decode cX5_request 95 = .ok (.iadd, 1) := dk_96 (dk_at dksX5_request_4 3 rfl rfl)
theorem dX5_request_96 : decode cX5_request 96 = .ok (.iaload, 1) := dk_46 (dk_at dksX5_request_4 4 rfl rfl)
theorem dX5_request_97 : decode cX5_request 97 = .ok (.aload_n 0, 1) := dk_42 (dk_at dksX5_request_4 5 rfl rfl)
theorem dX5_request_98 : decode cX5_request 98 = .ok (.getfield 36, 3) := dk_180 0 36 (dk_at dksX5_request_4 6 rfl rfl)
theorem dX5_request_101 : decode cX5_request 101 = .ok (.iload_n 3, 1) := dk_29 (dk_at dksX5_request_4 9 rfl rfl)
theorem dX5_request_102 : decode cX5_request 102 = .ok (.iconst 2, 1) := dk_5 (dk_at dksX5_request_4 10 rfl rfl)
theorem dX5_request_103 : decode cX5_request 103 = .ok (.iadd, 1) := dk_96 (dk_at dksX5_request_4 11 rfl rfl)
theorem dX5_request_104 : decode cX5_request 104 = .ok (.iaload, 1) := dk_46 (dk_at dksX5_request_4 12 rfl rfl)
theorem dX5_request_105 : decode cX5_request 105 = .ok (.iadd, 1) := dk_96 (dk_at dksX5_request_4 13 rfl rfl)
theorem dX5_request_106 : decode cX5_request 106 = .ok (.ireturn, 1) := dk_172 (dk_at dksX5_request_4 14 rfl rfl)
theorem dX5_request_107 : decode cX5_request 107 = .ok (.aload_n 0, 1) := dk_42 (dk_at dksX5_request_4 15 rfl rfl)
theorem dX5_request_108 : decode cX5_request 108 = .ok (.getfield 36, 3) := dk_180 0 36 (dk_at dksX5_request_4 16 rfl rfl)
theorem dX5_request_111 : decode cX5_request 111 = .ok (.iload_n 3, 1) := dk_29 (dk_at dksX5_request_4 19 rfl rfl)
theorem dX5_request_112 : decode cX5_request 112 = .ok (.iconst 0, 1) := dk_3 (dk_at dksX5_request_4 20 rfl rfl)
theorem dX5_request_113 : decode cX5_request 113 = .ok (.iadd, 1) := dk_96 (dk_at dksX5_request_4 21 rfl rfl)
theorem dX5_request_114 : decode cX5_request 114 = .ok (.iaload, 1) := dk_46 (dk_at dksX5_request_4 22 rfl rfl)
theorem dX5_request_115 : decode cX5_request 115 = .ok (.ireturn, 1) := dk_172 (dk_at dksX5_request_4 23 rfl rfl)
theorem dX5_request_116 : decode cX5_request 116 = .ok (.aload_n 0, 1) := dk_42 (dk_at dksX5_request_5 0 rfl rfl)
theorem dX5_request_117 : decode cX5_request 117 = .ok (.getfield 36, 3) := dk_180 0 36 (dk_at dksX5_request_5 1 rfl rfl)
theorem dX5_request_120 : decode cX5_request 120 = .ok (.iload_n 3, 1) := dk_29 (dk_at dksX5_request_5 4 rfl rfl)
theorem dX5_request_121 : decode cX5_request 121 = .ok (.iconst 1, 1) := dk_4 (dk_at dksX5_request_5 5 rfl rfl)
theorem dX5_request_122 : decode cX5_request 122 = .ok (.iadd, 1) := dk_96 (dk_at dksX5_request_5 6 rfl rfl)
theorem dX5_request_123 : decode cX5_request 123 = .ok (.iaload, 1) := dk_46 (dk_at dksX5_request_5 7 rfl rfl)
theorem dX5_request_124 : decode cX5_request 124 = .ok (.ireturn, 1) := dk_172 (dk_at dksX5_request_5 8 rfl rfl)
theorem dX5_request_125 : decode cX5_request 125 = .ok (.aload_n 0, 1) := dk_42 (dk_at dksX5_request_5 9 rfl rfl)
theorem dX5_request_126 : decode cX5_request 126 = .ok (.iconst 2, 1) := dk_5 (dk_at dksX5_request_5 10 rfl rfl)
theorem dX5_request_127 : decode cX5_request 127 = .ok (.invokevirtual 83, 3) := dk_182 0 83 (dk_at dksX5_request_5 11 rfl rfl)
theorem dX5_request_130 : decode cX5_request 130 = .ok (.ireturn, 1) := dk_172 (dk_at dksX5_request_5 14 rfl rfl)
abbrev cX5_revenue : ByteArray := prog_17_method_103_code
def yX5_revenue : MethodName := ⟨RX5, "revenue", "()I"⟩
def dkwX5_revenue_2 : List UInt8 := [132, 2, 1, 167, 255, 217, 27, 172]
abbrev dktX5_revenue_2 : List UInt8 := dkwX5_revenue_2 ++ []
def dkwX5_revenue_1 : List UInt8 := [182, 0, 236, 153, 0, 11, 42, 28, 182, 1, 64, 167, 0, 10, 42, 28, 16, 12, 182, 0, 228, 96, 60]
abbrev dktX5_revenue_1 : List UInt8 := dkwX5_revenue_1 ++ dktX5_revenue_2
def dkwX5_revenue_0 : List UInt8 := [42, 3, 181, 0, 3, 3, 60, 3, 61, 28, 42, 180, 0, 36, 4, 46, 162, 0, 35, 27, 42, 28]
abbrev dktX5_revenue_0 : List UInt8 := dkwX5_revenue_0 ++ dktX5_revenue_1
theorem dksX5_revenue_0 : cX5_revenue.data.toList.drop 0 = dktX5_revenue_0 := by decide +kernel
theorem dksX5_revenue_1 : cX5_revenue.data.toList.drop 22 = dktX5_revenue_1 := dk_seg dksX5_revenue_0 22 rfl rfl
theorem dksX5_revenue_2 : cX5_revenue.data.toList.drop 45 = dktX5_revenue_2 := dk_seg dksX5_revenue_1 23 rfl rfl
theorem dX5_revenue_0 : decode cX5_revenue 0 = .ok (.aload_n 0, 1) := dk_42 (dk_at dksX5_revenue_0 0 rfl rfl)
theorem dX5_revenue_1 : decode cX5_revenue 1 = .ok (.iconst 0, 1) := dk_3 (dk_at dksX5_revenue_0 1 rfl rfl)
theorem dX5_revenue_2 : decode cX5_revenue 2 = .ok (.putfield 3, 3) := dk_181 0 3 (dk_at dksX5_revenue_0 2 rfl rfl)
theorem dX5_revenue_5 : decode cX5_revenue 5 = .ok (.iconst 0, 1) := dk_3 (dk_at dksX5_revenue_0 5 rfl rfl)
theorem dX5_revenue_6 : decode cX5_revenue 6 = .ok (.istore_n 1, 1) := dk_60 (dk_at dksX5_revenue_0 6 rfl rfl)
theorem dX5_revenue_7 : decode cX5_revenue 7 = .ok (.iconst 0, 1) := dk_3 (dk_at dksX5_revenue_0 7 rfl rfl)
theorem dX5_revenue_8 : decode cX5_revenue 8 = .ok (.istore_n 2, 1) := dk_61 (dk_at dksX5_revenue_0 8 rfl rfl)
theorem dX5_revenue_9 : decode cX5_revenue 9 = .ok (.iload_n 2, 1) := dk_28 (dk_at dksX5_revenue_0 9 rfl rfl)
theorem dX5_revenue_10 : decode cX5_revenue 10 = .ok (.aload_n 0, 1) := dk_42 (dk_at dksX5_revenue_0 10 rfl rfl)
theorem dX5_revenue_11 : decode cX5_revenue 11 = .ok (.getfield 36, 3) := dk_180 0 36 (dk_at dksX5_revenue_0 11 rfl rfl)
theorem dX5_revenue_14 : decode cX5_revenue 14 = .ok (.iconst 1, 1) := dk_4 (dk_at dksX5_revenue_0 14 rfl rfl)
theorem dX5_revenue_15 : decode cX5_revenue 15 = .ok (.iaload, 1) := dk_46 (dk_at dksX5_revenue_0 15 rfl rfl)
theorem dX5_revenue_16 : decode cX5_revenue 16 = .ok (.if_icmp .ge 35, 3) := dk_162 0 35 (dk_at dksX5_revenue_0 16 rfl rfl)
theorem dX5_revenue_19 : decode cX5_revenue 19 = .ok (.iload_n 1, 1) := dk_27 (dk_at dksX5_revenue_0 19 rfl rfl)
theorem dX5_revenue_20 : decode cX5_revenue 20 = .ok (.aload_n 0, 1) := dk_42 (dk_at dksX5_revenue_0 20 rfl rfl)
theorem dX5_revenue_21 : decode cX5_revenue 21 = .ok (.iload_n 2, 1) := dk_28 (dk_at dksX5_revenue_0 21 rfl rfl)
theorem dX5_revenue_22 : decode cX5_revenue 22 = .ok (.invokevirtual 236, 3) := dk_182 0 236 (dk_at dksX5_revenue_1 0 rfl rfl)
theorem dX5_revenue_25 : decode cX5_revenue 25 = .ok (.ifCond .eq 11, 3) := dk_153 0 11 (dk_at dksX5_revenue_1 3 rfl rfl)
theorem dX5_revenue_28 : decode cX5_revenue 28 = .ok (.aload_n 0, 1) := dk_42 (dk_at dksX5_revenue_1 6 rfl rfl)
theorem dX5_revenue_29 : decode cX5_revenue 29 = .ok (.iload_n 2, 1) := dk_28 (dk_at dksX5_revenue_1 7 rfl rfl)
theorem dX5_revenue_30 : decode cX5_revenue 30 = .ok (.invokevirtual 320, 3) := dk_182 1 64 (dk_at dksX5_revenue_1 8 rfl rfl)
theorem dX5_revenue_33 : decode cX5_revenue 33 = .ok (.goto 10, 3) := dk_167 0 10 (dk_at dksX5_revenue_1 11 rfl rfl)
theorem dX5_revenue_36 : decode cX5_revenue 36 = .ok (.aload_n 0, 1) := dk_42 (dk_at dksX5_revenue_1 14 rfl rfl)
theorem dX5_revenue_37 : decode cX5_revenue 37 = .ok (.iload_n 2, 1) := dk_28 (dk_at dksX5_revenue_1 15 rfl rfl)
theorem dX5_revenue_38 : decode cX5_revenue 38 = .ok (.bipush 12, 2) := dk_16 12 (dk_at dksX5_revenue_1 16 rfl rfl)
theorem dX5_revenue_40 : decode cX5_revenue 40 = .ok (.invokevirtual 228, 3) := dk_182 0 228 (dk_at dksX5_revenue_1 18 rfl rfl)
theorem dX5_revenue_43 : decode cX5_revenue 43 = .ok (.iadd, 1) := dk_96 (dk_at dksX5_revenue_1 21 rfl rfl)
theorem dX5_revenue_44 : decode cX5_revenue 44 = .ok (.istore_n 1, 1) := dk_60 (dk_at dksX5_revenue_1 22 rfl rfl)
theorem dX5_revenue_45 : decode cX5_revenue 45 = .ok (.iinc 2 1, 3) := dk_132 2 1 (dk_at dksX5_revenue_2 0 rfl rfl)
theorem dX5_revenue_48 : decode cX5_revenue 48 = .ok (.goto (-39), 3) := dk_167 255 217 (dk_at dksX5_revenue_2 3 rfl rfl)
theorem dX5_revenue_51 : decode cX5_revenue 51 = .ok (.iload_n 1, 1) := dk_27 (dk_at dksX5_revenue_2 6 rfl rfl)
theorem dX5_revenue_52 : decode cX5_revenue 52 = .ok (.ireturn, 1) := dk_172 (dk_at dksX5_revenue_2 7 rfl rfl)
abbrev cX5_problem : ByteArray := prog_17_method_105_code
def yX5_problem : MethodName := ⟨RX5, "problem", "(II)I"⟩
def dkwX5_problem_1 : List UInt8 := [182, 1, 55, 172]
abbrev dktX5_problem_1 : List UInt8 := dkwX5_problem_1 ++ []
def dkwX5_problem_0 : List UInt8 := [42, 42, 27, 28, 182, 1, 129, 181, 0, 3, 42, 180, 0, 3, 158, 0, 7, 3, 167, 0, 9, 42, 27, 28]
abbrev dktX5_problem_0 : List UInt8 := dkwX5_problem_0 ++ dktX5_problem_1
theorem dksX5_problem_0 : cX5_problem.data.toList.drop 0 = dktX5_problem_0 := by decide +kernel
theorem dksX5_problem_1 : cX5_problem.data.toList.drop 24 = dktX5_problem_1 := dk_seg dksX5_problem_0 24 rfl rfl
theorem dX5_problem_0 : decode cX5_problem 0 = .ok (.aload_n 0, 1) := dk_42 (dk_at dksX5_problem_0 0 rfl rfl)
theorem dX5_problem_1 : decode cX5_problem 1 = .ok (.aload_n 0, 1) := dk_42 (dk_at dksX5_problem_0 1 rfl rfl)
theorem dX5_problem_2 : decode cX5_problem 2 = .ok (.iload_n 1, 1) := dk_27 (dk_at dksX5_problem_0 2 rfl rfl)
theorem dX5_problem_3 : decode cX5_problem 3 = .ok (.iload_n 2, 1) := dk_28 (dk_at dksX5_problem_0 3 rfl rfl)
theorem dX5_problem_4 : decode cX5_problem 4 = .ok (.invokevirtual 385, 3) := dk_182 1 129 (dk_at dksX5_problem_0 4 rfl rfl)
theorem dX5_problem_7 : decode cX5_problem 7 = .ok (.putfield 3, 3) := dk_181 0 3 (dk_at dksX5_problem_0 7 rfl rfl)
theorem dX5_problem_10 : decode cX5_problem 10 = .ok (.aload_n 0, 1) := dk_42 (dk_at dksX5_problem_0 10 rfl rfl)
theorem dX5_problem_11 : decode cX5_problem 11 = .ok (.getfield 3, 3) := dk_180 0 3 (dk_at dksX5_problem_0 11 rfl rfl)
theorem dX5_problem_14 : decode cX5_problem 14 = .ok (.ifCond .le 7, 3) := dk_158 0 7 (dk_at dksX5_problem_0 14 rfl rfl)
theorem dX5_problem_17 : decode cX5_problem 17 = .ok (.iconst 0, 1) := dk_3 (dk_at dksX5_problem_0 17 rfl rfl)
theorem dX5_problem_18 : decode cX5_problem 18 = .ok (.goto 9, 3) := dk_167 0 9 (dk_at dksX5_problem_0 18 rfl rfl)
theorem dX5_problem_21 : decode cX5_problem 21 = .ok (.aload_n 0, 1) := dk_42 (dk_at dksX5_problem_0 21 rfl rfl)
theorem dX5_problem_22 : decode cX5_problem 22 = .ok (.iload_n 1, 1) := dk_27 (dk_at dksX5_problem_0 22 rfl rfl)
theorem dX5_problem_23 : decode cX5_problem 23 = .ok (.iload_n 2, 1) := dk_28 (dk_at dksX5_problem_0 23 rfl rfl)
theorem dX5_problem_24 : decode cX5_problem 24 = .ok (.invokevirtual 311, 3) := dk_182 1 55 (dk_at dksX5_problem_1 0 rfl rfl)
theorem dX5_problem_27 : decode cX5_problem 27 = .ok (.ireturn, 1) := dk_172 (dk_at dksX5_problem_1 3 rfl rfl)
abbrev cX5_whyNotDraft : ByteArray := prog_17_method_104_code
def yX5_whyNotDraft : MethodName := ⟨RX5, "whyNotDraft", "(II)I"⟩
def dkwX5_whyNotDraft_1 : List UInt8 := [29, 172]
abbrev dktX5_whyNotDraft_1 : List UInt8 := dkwX5_whyNotDraft_1 ++ []
def dkwX5_whyNotDraft_0 : List UInt8 := [42, 27, 28, 182, 1, 52, 62, 29, 154, 0, 16, 42, 180, 0, 13, 4, 46, 154, 0, 7, 6, 167, 0, 4]
abbrev dktX5_whyNotDraft_0 : List UInt8 := dkwX5_whyNotDraft_0 ++ dktX5_whyNotDraft_1
theorem dksX5_whyNotDraft_0 : cX5_whyNotDraft.data.toList.drop 0 = dktX5_whyNotDraft_0 := by decide +kernel
theorem dksX5_whyNotDraft_1 : cX5_whyNotDraft.data.toList.drop 24 = dktX5_whyNotDraft_1 := dk_seg dksX5_whyNotDraft_0 24 rfl rfl
theorem dX5_whyNotDraft_0 : decode cX5_whyNotDraft 0 = .ok (.aload_n 0, 1) := dk_42 (dk_at dksX5_whyNotDraft_0 0 rfl rfl)
theorem dX5_whyNotDraft_1 : decode cX5_whyNotDraft 1 = .ok (.iload_n 1, 1) := dk_27 (dk_at dksX5_whyNotDraft_0 1 rfl rfl)
theorem dX5_whyNotDraft_2 : decode cX5_whyNotDraft 2 = .ok (.iload_n 2, 1) := dk_28 (dk_at dksX5_whyNotDraft_0 2 rfl rfl)
theorem dX5_whyNotDraft_3 : decode cX5_whyNotDraft 3 = .ok (.invokevirtual 308, 3) := dk_182 1 52 (dk_at dksX5_whyNotDraft_0 3 rfl rfl)
theorem dX5_whyNotDraft_6 : decode cX5_whyNotDraft 6 = .ok (.istore_n 3, 1) := dk_62 (dk_at dksX5_whyNotDraft_0 6 rfl rfl)
theorem dX5_whyNotDraft_7 : decode cX5_whyNotDraft 7 = .ok (.iload_n 3, 1) := dk_29 (dk_at dksX5_whyNotDraft_0 7 rfl rfl)
theorem dX5_whyNotDraft_8 : decode cX5_whyNotDraft 8 = .ok (.ifCond .ne 16, 3) := dk_154 0 16 (dk_at dksX5_whyNotDraft_0 8 rfl rfl)
theorem dX5_whyNotDraft_11 : decode cX5_whyNotDraft 11 = .ok (.aload_n 0, 1) := dk_42 (dk_at dksX5_whyNotDraft_0 11 rfl rfl)
theorem dX5_whyNotDraft_12 : decode cX5_whyNotDraft 12 = .ok (.getfield 13, 3) := dk_180 0 13 (dk_at dksX5_whyNotDraft_0 12 rfl rfl)
theorem dX5_whyNotDraft_15 : decode cX5_whyNotDraft 15 = .ok (.iconst 1, 1) := dk_4 (dk_at dksX5_whyNotDraft_0 15 rfl rfl)
theorem dX5_whyNotDraft_16 : decode cX5_whyNotDraft 16 = .ok (.iaload, 1) := dk_46 (dk_at dksX5_whyNotDraft_0 16 rfl rfl)
theorem dX5_whyNotDraft_17 : decode cX5_whyNotDraft 17 = .ok (.ifCond .ne 7, 3) := dk_154 0 7 (dk_at dksX5_whyNotDraft_0 17 rfl rfl)
theorem dX5_whyNotDraft_20 : decode cX5_whyNotDraft 20 = .ok (.iconst 3, 1) := dk_6 (dk_at dksX5_whyNotDraft_0 20 rfl rfl)
theorem dX5_whyNotDraft_21 : decode cX5_whyNotDraft 21 = .ok (.goto 4, 3) := dk_167 0 4 (dk_at dksX5_whyNotDraft_0 21 rfl rfl)
theorem dX5_whyNotDraft_24 : decode cX5_whyNotDraft 24 = .ok (.iload_n 3, 1) := dk_29 (dk_at dksX5_whyNotDraft_1 0 rfl rfl)
theorem dX5_whyNotDraft_25 : decode cX5_whyNotDraft 25 = .ok (.ireturn, 1) := dk_172 (dk_at dksX5_whyNotDraft_1 1 rfl rfl)
abbrev cX5_price : ByteArray := prog_17_method_106_code
def yX5_price : MethodName := ⟨RX5, "price", "(II)I"⟩
def dkwX5_price_1 : List UInt8 := [180, 0, 30, 3, 27, 28, 182, 0, 232, 172]
abbrev dktX5_price_1 : List UInt8 := dkwX5_price_1 ++ []
def dkwX5_price_0 : List UInt8 := [42, 42, 27, 28, 182, 1, 52, 181, 0, 3, 42, 180, 0, 3, 158, 0, 7, 3, 167, 0, 14, 42, 42]
abbrev dktX5_price_0 : List UInt8 := dkwX5_price_0 ++ dktX5_price_1
theorem dksX5_price_0 : cX5_price.data.toList.drop 0 = dktX5_price_0 := by decide +kernel
theorem dksX5_price_1 : cX5_price.data.toList.drop 23 = dktX5_price_1 := dk_seg dksX5_price_0 23 rfl rfl
theorem dX5_price_0 : decode cX5_price 0 = .ok (.aload_n 0, 1) := dk_42 (dk_at dksX5_price_0 0 rfl rfl)
theorem dX5_price_1 : decode cX5_price 1 = .ok (.aload_n 0, 1) := dk_42 (dk_at dksX5_price_0 1 rfl rfl)
theorem dX5_price_2 : decode cX5_price 2 = .ok (.iload_n 1, 1) := dk_27 (dk_at dksX5_price_0 2 rfl rfl)
theorem dX5_price_3 : decode cX5_price 3 = .ok (.iload_n 2, 1) := dk_28 (dk_at dksX5_price_0 3 rfl rfl)
theorem dX5_price_4 : decode cX5_price 4 = .ok (.invokevirtual 308, 3) := dk_182 1 52 (dk_at dksX5_price_0 4 rfl rfl)
theorem dX5_price_7 : decode cX5_price 7 = .ok (.putfield 3, 3) := dk_181 0 3 (dk_at dksX5_price_0 7 rfl rfl)
theorem dX5_price_10 : decode cX5_price 10 = .ok (.aload_n 0, 1) := dk_42 (dk_at dksX5_price_0 10 rfl rfl)
theorem dX5_price_11 : decode cX5_price 11 = .ok (.getfield 3, 3) := dk_180 0 3 (dk_at dksX5_price_0 11 rfl rfl)
theorem dX5_price_14 : decode cX5_price 14 = .ok (.ifCond .le 7, 3) := dk_158 0 7 (dk_at dksX5_price_0 14 rfl rfl)
theorem dX5_price_17 : decode cX5_price 17 = .ok (.iconst 0, 1) := dk_3 (dk_at dksX5_price_0 17 rfl rfl)
theorem dX5_price_18 : decode cX5_price 18 = .ok (.goto 14, 3) := dk_167 0 14 (dk_at dksX5_price_0 18 rfl rfl)
theorem dX5_price_21 : decode cX5_price 21 = .ok (.aload_n 0, 1) := dk_42 (dk_at dksX5_price_0 21 rfl rfl)
theorem dX5_price_22 : decode cX5_price 22 = .ok (.aload_n 0, 1) := dk_42 (dk_at dksX5_price_0 22 rfl rfl)
theorem dX5_price_23 : decode cX5_price 23 = .ok (.getfield 30, 3) := dk_180 0 30 (dk_at dksX5_price_1 0 rfl rfl)
theorem dX5_price_26 : decode cX5_price 26 = .ok (.iconst 0, 1) := dk_3 (dk_at dksX5_price_1 3 rfl rfl)
theorem dX5_price_27 : decode cX5_price 27 = .ok (.iload_n 1, 1) := dk_27 (dk_at dksX5_price_1 4 rfl rfl)
theorem dX5_price_28 : decode cX5_price 28 = .ok (.iload_n 2, 1) := dk_28 (dk_at dksX5_price_1 5 rfl rfl)
theorem dX5_price_29 : decode cX5_price 29 = .ok (.invokevirtual 232, 3) := dk_182 0 232 (dk_at dksX5_price_1 6 rfl rfl)
theorem dX5_price_32 : decode cX5_price 32 = .ok (.ireturn, 1) := dk_172 (dk_at dksX5_price_1 9 rfl rfl)
abbrev cX5_earliest : ByteArray := prog_17_method_108_code
def yX5_earliest : MethodName := ⟨RX5, "earliest", "(II)I"⟩
def dkwX5_earliest_3 : List UInt8 := [182, 0, 83, 167, 0, 4, 29, 172]
abbrev dktX5_earliest_3 : List UInt8 := dkwX5_earliest_3 ++ []
def dkwX5_earliest_2 : List UInt8 := [42, 180, 0, 3, 158, 0, 5, 3, 172, 42, 27, 28, 182, 1, 132, 62, 29, 2, 160, 0, 11, 42, 7]
abbrev dktX5_earliest_2 : List UInt8 := dkwX5_earliest_2 ++ dktX5_earliest_3
def dkwX5_earliest_1 : List UInt8 := [154, 0, 7, 5, 167, 0, 17, 42, 180, 0, 13, 4, 46, 154, 0, 7, 6, 167, 0, 4, 3, 181, 0, 3]
abbrev dktX5_earliest_1 : List UInt8 := dkwX5_earliest_1 ++ dktX5_earliest_2
def dkwX5_earliest_0 : List UInt8 := [42, 42, 27, 182, 1, 42, 154, 0, 7, 4, 167, 0, 33, 28, 133, 9, 20, 0, 223, 184, 0, 90]
abbrev dktX5_earliest_0 : List UInt8 := dkwX5_earliest_0 ++ dktX5_earliest_1
theorem dksX5_earliest_0 : cX5_earliest.data.toList.drop 0 = dktX5_earliest_0 := by decide +kernel
theorem dksX5_earliest_1 : cX5_earliest.data.toList.drop 22 = dktX5_earliest_1 := dk_seg dksX5_earliest_0 22 rfl rfl
theorem dksX5_earliest_2 : cX5_earliest.data.toList.drop 46 = dktX5_earliest_2 := dk_seg dksX5_earliest_1 24 rfl rfl
theorem dksX5_earliest_3 : cX5_earliest.data.toList.drop 69 = dktX5_earliest_3 := dk_seg dksX5_earliest_2 23 rfl rfl
theorem dX5_earliest_0 : decode cX5_earliest 0 = .ok (.aload_n 0, 1) := dk_42 (dk_at dksX5_earliest_0 0 rfl rfl)
theorem dX5_earliest_1 : decode cX5_earliest 1 = .ok (.aload_n 0, 1) := dk_42 (dk_at dksX5_earliest_0 1 rfl rfl)
theorem dX5_earliest_2 : decode cX5_earliest 2 = .ok (.iload_n 1, 1) := dk_27 (dk_at dksX5_earliest_0 2 rfl rfl)
theorem dX5_earliest_3 : decode cX5_earliest 3 = .ok (.invokevirtual 298, 3) := dk_182 1 42 (dk_at dksX5_earliest_0 3 rfl rfl)
theorem dX5_earliest_6 : decode cX5_earliest 6 = .ok (.ifCond .ne 7, 3) := dk_154 0 7 (dk_at dksX5_earliest_0 6 rfl rfl)
theorem dX5_earliest_9 : decode cX5_earliest 9 = .ok (.iconst 1, 1) := dk_4 (dk_at dksX5_earliest_0 9 rfl rfl)
theorem dX5_earliest_10 : decode cX5_earliest 10 = .ok (.goto 33, 3) := dk_167 0 33 (dk_at dksX5_earliest_0 10 rfl rfl)
theorem dX5_earliest_13 : decode cX5_earliest 13 = .ok (.iload_n 2, 1) := dk_28 (dk_at dksX5_earliest_0 13 rfl rfl)
theorem dX5_earliest_14 : decode cX5_earliest 14 = .ok (.i2l, 1) := dk_133 (dk_at dksX5_earliest_0 14 rfl rfl)
theorem dX5_earliest_15 : decode cX5_earliest 15 = .ok (.lconst 0, 1) := dk_9 (dk_at dksX5_earliest_0 15 rfl rfl)
theorem dX5_earliest_16 : decode cX5_earliest 16 = .ok (.ldc2_w 223, 3) := dk_20 0 223 (dk_at dksX5_earliest_0 16 rfl rfl)
theorem dX5_earliest_19 : decode cX5_earliest 19 = .ok (.invokestatic 90, 3) := dk_184 0 90 (dk_at dksX5_earliest_0 19 rfl rfl)
theorem dX5_earliest_22 : decode cX5_earliest 22 = .ok (.ifCond .ne 7, 3) := dk_154 0 7 (dk_at dksX5_earliest_1 0 rfl rfl)
theorem dX5_earliest_25 : decode cX5_earliest 25 = .ok (.iconst 2, 1) := dk_5 (dk_at dksX5_earliest_1 3 rfl rfl)
theorem dX5_earliest_26 : decode cX5_earliest 26 = .ok (.goto 17, 3) := dk_167 0 17 (dk_at dksX5_earliest_1 4 rfl rfl)
theorem dX5_earliest_29 : decode cX5_earliest 29 = .ok (.aload_n 0, 1) := dk_42 (dk_at dksX5_earliest_1 7 rfl rfl)
theorem dX5_earliest_30 : decode cX5_earliest 30 = .ok (.getfield 13, 3) := dk_180 0 13 (dk_at dksX5_earliest_1 8 rfl rfl)
theorem dX5_earliest_33 : decode cX5_earliest 33 = .ok (.iconst 1, 1) := dk_4 (dk_at dksX5_earliest_1 11 rfl rfl)
theorem dX5_earliest_34 : decode cX5_earliest 34 = .ok (.iaload, 1) := dk_46 (dk_at dksX5_earliest_1 12 rfl rfl)
theorem dX5_earliest_35 : decode cX5_earliest 35 = .ok (.ifCond .ne 7, 3) := dk_154 0 7 (dk_at dksX5_earliest_1 13 rfl rfl)
theorem dX5_earliest_38 : decode cX5_earliest 38 = .ok (.iconst 3, 1) := dk_6 (dk_at dksX5_earliest_1 16 rfl rfl)
theorem dX5_earliest_39 : decode cX5_earliest 39 = .ok (.goto 4, 3) := dk_167 0 4 (dk_at dksX5_earliest_1 17 rfl rfl)
theorem dX5_earliest_42 : decode cX5_earliest 42 = .ok (.iconst 0, 1) := dk_3 (dk_at dksX5_earliest_1 20 rfl rfl)
theorem dX5_earliest_43 : decode cX5_earliest 43 = .ok (.putfield 3, 3) := dk_181 0 3 (dk_at dksX5_earliest_1 21 rfl rfl)
theorem dX5_earliest_46 : decode cX5_earliest 46 = .ok (.aload_n 0, 1) := dk_42 (dk_at dksX5_earliest_2 0 rfl rfl)
theorem dX5_earliest_47 : decode cX5_earliest 47 = .ok (.getfield 3, 3) := dk_180 0 3 (dk_at dksX5_earliest_2 1 rfl rfl)
theorem dX5_earliest_50 : decode cX5_earliest 50 = .ok (.ifCond .le 5, 3) := dk_158 0 5 (dk_at dksX5_earliest_2 4 rfl rfl)
theorem dX5_earliest_53 : decode cX5_earliest 53 = .ok (.iconst 0, 1) := dk_3 (dk_at dksX5_earliest_2 7 rfl rfl)
theorem dX5_earliest_54 : decode cX5_earliest 54 = .ok (.ireturn, 1) := dk_172 (dk_at dksX5_earliest_2 8 rfl rfl)
theorem dX5_earliest_55 : decode cX5_earliest 55 = .ok (.aload_n 0, 1) := dk_42 (dk_at dksX5_earliest_2 9 rfl rfl)
theorem dX5_earliest_56 : decode cX5_earliest 56 = .ok (.iload_n 1, 1) := dk_27 (dk_at dksX5_earliest_2 10 rfl rfl)
theorem dX5_earliest_57 : decode cX5_earliest 57 = .ok (.iload_n 2, 1) := dk_28 (dk_at dksX5_earliest_2 11 rfl rfl)
theorem dX5_earliest_58 : decode cX5_earliest 58 = .ok (.invokevirtual 388, 3) := dk_182 1 132 (dk_at dksX5_earliest_2 12 rfl rfl)
theorem dX5_earliest_61 : decode cX5_earliest 61 = .ok (.istore_n 3, 1) := dk_62 (dk_at dksX5_earliest_2 15 rfl rfl)
theorem dX5_earliest_62 : decode cX5_earliest 62 = .ok (.iload_n 3, 1) := dk_29 (dk_at dksX5_earliest_2 16 rfl rfl)
theorem dX5_earliest_63 : decode cX5_earliest 63 = .ok (.iconst (-1), 1) := dk_2 (dk_at dksX5_earliest_2 17 rfl rfl)
theorem dX5_earliest_64 : decode cX5_earliest 64 = .ok (.if_icmp .ne 11, 3) := dk_160 0 11 (dk_at dksX5_earliest_2 18 rfl rfl)
theorem dX5_earliest_67 : decode cX5_earliest 67 = .ok (.aload_n 0, 1) := dk_42 (dk_at dksX5_earliest_2 21 rfl rfl)
theorem dX5_earliest_68 : decode cX5_earliest 68 = .ok (.iconst 4, 1) := dk_7 (dk_at dksX5_earliest_2 22 rfl rfl)
theorem dX5_earliest_69 : decode cX5_earliest 69 = .ok (.invokevirtual 83, 3) := dk_182 0 83 (dk_at dksX5_earliest_3 0 rfl rfl)
theorem dX5_earliest_72 : decode cX5_earliest 72 = .ok (.goto 4, 3) := dk_167 0 4 (dk_at dksX5_earliest_3 3 rfl rfl)
theorem dX5_earliest_75 : decode cX5_earliest 75 = .ok (.iload_n 3, 1) := dk_29 (dk_at dksX5_earliest_3 6 rfl rfl)
theorem dX5_earliest_76 : decode cX5_earliest 76 = .ok (.ireturn, 1) := dk_172 (dk_at dksX5_earliest_3 7 rfl rfl)
abbrev cX5_earliestIn : ByteArray := prog_17_method_107_code
def yX5_earliestIn : MethodName := ⟨RX5, "earliestIn", "(II)I"⟩
def dkwX5_earliestIn_1 : List UInt8 := [182, 1, 55, 154, 0, 5, 29, 172, 132, 3, 15, 167, 255, 236, 2, 172]
abbrev dktX5_earliestIn_1 : List UInt8 := dkwX5_earliestIn_1 ++ []
def dkwX5_earliestIn_0 : List UInt8 := [28, 16, 15, 96, 4, 100, 16, 15, 108, 16, 15, 104, 62, 29, 18, 181, 163, 0, 20, 42, 27, 29]
abbrev dktX5_earliestIn_0 : List UInt8 := dkwX5_earliestIn_0 ++ dktX5_earliestIn_1
theorem dksX5_earliestIn_0 : cX5_earliestIn.data.toList.drop 0 = dktX5_earliestIn_0 := by decide +kernel
theorem dksX5_earliestIn_1 : cX5_earliestIn.data.toList.drop 22 = dktX5_earliestIn_1 := dk_seg dksX5_earliestIn_0 22 rfl rfl
theorem dX5_earliestIn_0 : decode cX5_earliestIn 0 = .ok (.iload_n 2, 1) := dk_28 (dk_at dksX5_earliestIn_0 0 rfl rfl)
theorem dX5_earliestIn_1 : decode cX5_earliestIn 1 = .ok (.bipush 15, 2) := dk_16 15 (dk_at dksX5_earliestIn_0 1 rfl rfl)
theorem dX5_earliestIn_3 : decode cX5_earliestIn 3 = .ok (.iadd, 1) := dk_96 (dk_at dksX5_earliestIn_0 3 rfl rfl)
theorem dX5_earliestIn_4 : decode cX5_earliestIn 4 = .ok (.iconst 1, 1) := dk_4 (dk_at dksX5_earliestIn_0 4 rfl rfl)
theorem dX5_earliestIn_5 : decode cX5_earliestIn 5 = .ok (.isub, 1) := dk_100 (dk_at dksX5_earliestIn_0 5 rfl rfl)
theorem dX5_earliestIn_6 : decode cX5_earliestIn 6 = .ok (.bipush 15, 2) := dk_16 15 (dk_at dksX5_earliestIn_0 6 rfl rfl)
theorem dX5_earliestIn_8 : decode cX5_earliestIn 8 = .ok (.idiv, 1) := dk_108 (dk_at dksX5_earliestIn_0 8 rfl rfl)
theorem dX5_earliestIn_9 : decode cX5_earliestIn 9 = .ok (.bipush 15, 2) := dk_16 15 (dk_at dksX5_earliestIn_0 9 rfl rfl)
theorem dX5_earliestIn_11 : decode cX5_earliestIn 11 = .ok (.imul, 1) := dk_104 (dk_at dksX5_earliestIn_0 11 rfl rfl)
theorem dX5_earliestIn_12 : decode cX5_earliestIn 12 = .ok (.istore_n 3, 1) := dk_62 (dk_at dksX5_earliestIn_0 12 rfl rfl)
theorem dX5_earliestIn_13 : decode cX5_earliestIn 13 = .ok (.iload_n 3, 1) := dk_29 (dk_at dksX5_earliestIn_0 13 rfl rfl)
theorem dX5_earliestIn_14 : decode cX5_earliestIn 14 = .ok (.ldc 181, 2) := dk_18 181 (dk_at dksX5_earliestIn_0 14 rfl rfl)
theorem dX5_earliestIn_16 : decode cX5_earliestIn 16 = .ok (.if_icmp .gt 20, 3) := dk_163 0 20 (dk_at dksX5_earliestIn_0 16 rfl rfl)
theorem dX5_earliestIn_19 : decode cX5_earliestIn 19 = .ok (.aload_n 0, 1) := dk_42 (dk_at dksX5_earliestIn_0 19 rfl rfl)
theorem dX5_earliestIn_20 : decode cX5_earliestIn 20 = .ok (.iload_n 1, 1) := dk_27 (dk_at dksX5_earliestIn_0 20 rfl rfl)
theorem dX5_earliestIn_21 : decode cX5_earliestIn 21 = .ok (.iload_n 3, 1) := dk_29 (dk_at dksX5_earliestIn_0 21 rfl rfl)
theorem dX5_earliestIn_22 : decode cX5_earliestIn 22 = .ok (.invokevirtual 311, 3) := dk_182 1 55 (dk_at dksX5_earliestIn_1 0 rfl rfl)
theorem dX5_earliestIn_25 : decode cX5_earliestIn 25 = .ok (.ifCond .ne 5, 3) := dk_154 0 5 (dk_at dksX5_earliestIn_1 3 rfl rfl)
theorem dX5_earliestIn_28 : decode cX5_earliestIn 28 = .ok (.iload_n 3, 1) := dk_29 (dk_at dksX5_earliestIn_1 6 rfl rfl)
theorem dX5_earliestIn_29 : decode cX5_earliestIn 29 = .ok (.ireturn, 1) := dk_172 (dk_at dksX5_earliestIn_1 7 rfl rfl)
theorem dX5_earliestIn_30 : decode cX5_earliestIn 30 = .ok (.iinc 3 15, 3) := dk_132 3 15 (dk_at dksX5_earliestIn_1 8 rfl rfl)
theorem dX5_earliestIn_33 : decode cX5_earliestIn 33 = .ok (.goto (-20), 3) := dk_167 255 236 (dk_at dksX5_earliestIn_1 11 rfl rfl)
theorem dX5_earliestIn_36 : decode cX5_earliestIn 36 = .ok (.iconst (-1), 1) := dk_2 (dk_at dksX5_earliestIn_1 14 rfl rfl)
theorem dX5_earliestIn_37 : decode cX5_earliestIn 37 = .ok (.ireturn, 1) := dk_172 (dk_at dksX5_earliestIn_1 15 rfl rfl)
abbrev cX5_earliestHall : ByteArray := prog_17_method_109_code
def yX5_earliestHall : MethodName := ⟨RX5, "earliestHall", "(I)I"⟩
def dkwX5_earliestHall_4 : List UInt8 := [28, 2, 160, 0, 11, 42, 6, 182, 0, 83, 167, 0, 4, 28, 172]
abbrev dktX5_earliestHall_4 : List UInt8 := dkwX5_earliestHall_4 ++ []
def dkwX5_earliestHall_3 : List UInt8 := [21, 5, 2, 159, 0, 15, 21, 5, 29, 162, 0, 9, 21, 5, 62, 21, 4, 61, 132, 4, 1, 167, 255, 215]
abbrev dktX5_earliestHall_3 : List UInt8 := dkwX5_earliestHall_3 ++ dktX5_earliestHall_4
def dkwX5_earliestHall_2 : List UInt8 := [62, 3, 54, 4, 21, 4, 42, 180, 0, 13, 3, 46, 162, 0, 36, 42, 21, 4, 27, 182, 1, 132, 54, 5]
abbrev dktX5_earliestHall_2 : List UInt8 := dkwX5_earliestHall_2 ++ dktX5_earliestHall_3
def dkwX5_earliestHall_1 : List UInt8 := [154, 0, 7, 5, 167, 0, 4, 3, 181, 0, 3, 42, 180, 0, 3, 158, 0, 5, 3, 172, 2, 61, 18, 182]
abbrev dktX5_earliestHall_1 : List UInt8 := dkwX5_earliestHall_1 ++ dktX5_earliestHall_2
def dkwX5_earliestHall_0 : List UInt8 := [42, 27, 133, 9, 20, 0, 223, 184, 0, 90, 154, 0, 7, 4, 167, 0, 17, 42, 180, 0, 13, 4, 46]
abbrev dktX5_earliestHall_0 : List UInt8 := dkwX5_earliestHall_0 ++ dktX5_earliestHall_1
theorem dksX5_earliestHall_0 : cX5_earliestHall.data.toList.drop 0 = dktX5_earliestHall_0 := by decide +kernel
theorem dksX5_earliestHall_1 : cX5_earliestHall.data.toList.drop 23 = dktX5_earliestHall_1 := dk_seg dksX5_earliestHall_0 23 rfl rfl
theorem dksX5_earliestHall_2 : cX5_earliestHall.data.toList.drop 47 = dktX5_earliestHall_2 := dk_seg dksX5_earliestHall_1 24 rfl rfl
theorem dksX5_earliestHall_3 : cX5_earliestHall.data.toList.drop 71 = dktX5_earliestHall_3 := dk_seg dksX5_earliestHall_2 24 rfl rfl
theorem dksX5_earliestHall_4 : cX5_earliestHall.data.toList.drop 95 = dktX5_earliestHall_4 := dk_seg dksX5_earliestHall_3 24 rfl rfl
theorem dX5_earliestHall_0 : decode cX5_earliestHall 0 = .ok (.aload_n 0, 1) := dk_42 (dk_at dksX5_earliestHall_0 0 rfl rfl)
theorem dX5_earliestHall_1 : decode cX5_earliestHall 1 = .ok (.iload_n 1, 1) := dk_27 (dk_at dksX5_earliestHall_0 1 rfl rfl)
theorem dX5_earliestHall_2 : decode cX5_earliestHall 2 = .ok (.i2l, 1) := dk_133 (dk_at dksX5_earliestHall_0 2 rfl rfl)
theorem dX5_earliestHall_3 : decode cX5_earliestHall 3 = .ok (.lconst 0, 1) := dk_9 (dk_at dksX5_earliestHall_0 3 rfl rfl)
theorem dX5_earliestHall_4 : decode cX5_earliestHall 4 = .ok (.ldc2_w 223, 3) := dk_20 0 223 (dk_at dksX5_earliestHall_0 4 rfl rfl)
theorem dX5_earliestHall_7 : decode cX5_earliestHall 7 = .ok (.invokestatic 90, 3) := dk_184 0 90 (dk_at dksX5_earliestHall_0 7 rfl rfl)
theorem dX5_earliestHall_10 : decode cX5_earliestHall 10 = .ok (.ifCond .ne 7, 3) := dk_154 0 7 (dk_at dksX5_earliestHall_0 10 rfl rfl)
theorem dX5_earliestHall_13 : decode cX5_earliestHall 13 = .ok (.iconst 1, 1) := dk_4 (dk_at dksX5_earliestHall_0 13 rfl rfl)
theorem dX5_earliestHall_14 : decode cX5_earliestHall 14 = .ok (.goto 17, 3) := dk_167 0 17 (dk_at dksX5_earliestHall_0 14 rfl rfl)
theorem dX5_earliestHall_17 : decode cX5_earliestHall 17 = .ok (.aload_n 0, 1) := dk_42 (dk_at dksX5_earliestHall_0 17 rfl rfl)
theorem dX5_earliestHall_18 : decode cX5_earliestHall 18 = .ok (.getfield 13, 3) := dk_180 0 13 (dk_at dksX5_earliestHall_0 18 rfl rfl)
theorem dX5_earliestHall_21 : decode cX5_earliestHall 21 = .ok (.iconst 1, 1) := dk_4 (dk_at dksX5_earliestHall_0 21 rfl rfl)
theorem dX5_earliestHall_22 : decode cX5_earliestHall 22 = .ok (.iaload, 1) := dk_46 (dk_at dksX5_earliestHall_0 22 rfl rfl)
theorem dX5_earliestHall_23 : decode cX5_earliestHall 23 = .ok (.ifCond .ne 7, 3) := dk_154 0 7 (dk_at dksX5_earliestHall_1 0 rfl rfl)
theorem dX5_earliestHall_26 : decode cX5_earliestHall 26 = .ok (.iconst 2, 1) := dk_5 (dk_at dksX5_earliestHall_1 3 rfl rfl)
theorem dX5_earliestHall_27 : decode cX5_earliestHall 27 = .ok (.goto 4, 3) := dk_167 0 4 (dk_at dksX5_earliestHall_1 4 rfl rfl)
theorem dX5_earliestHall_30 : decode cX5_earliestHall 30 = .ok (.iconst 0, 1) := dk_3 (dk_at dksX5_earliestHall_1 7 rfl rfl)
theorem dX5_earliestHall_31 : decode cX5_earliestHall 31 = .ok (.putfield 3, 3) := dk_181 0 3 (dk_at dksX5_earliestHall_1 8 rfl rfl)
theorem dX5_earliestHall_34 : decode cX5_earliestHall 34 = .ok (.aload_n 0, 1) := dk_42 (dk_at dksX5_earliestHall_1 11 rfl rfl)
theorem dX5_earliestHall_35 : decode cX5_earliestHall 35 = .ok (.getfield 3, 3) := dk_180 0 3 (dk_at dksX5_earliestHall_1 12 rfl rfl)
theorem dX5_earliestHall_38 : decode cX5_earliestHall 38 = .ok (.ifCond .le 5, 3) := dk_158 0 5 (dk_at dksX5_earliestHall_1 15 rfl rfl)
theorem dX5_earliestHall_41 : decode cX5_earliestHall 41 = .ok (.iconst 0, 1) := dk_3 (dk_at dksX5_earliestHall_1 18 rfl rfl)
theorem dX5_earliestHall_42 : decode cX5_earliestHall 42 = .ok (.ireturn, 1) := dk_172 (dk_at dksX5_earliestHall_1 19 rfl rfl)
theorem dX5_earliestHall_43 : decode cX5_earliestHall 43 = .ok (.iconst (-1), 1) := dk_2 (dk_at dksX5_earliestHall_1 20 rfl rfl)
theorem dX5_earliestHall_44 : decode cX5_earliestHall 44 = .ok (.istore_n 2, 1) := dk_61 (dk_at dksX5_earliestHall_1 21 rfl rfl)
theorem dX5_earliestHall_45 : decode cX5_earliestHall 45 = .ok (.ldc 182, 2) := dk_18 182 (dk_at dksX5_earliestHall_1 22 rfl rfl)
theorem dX5_earliestHall_47 : decode cX5_earliestHall 47 = .ok (.istore_n 3, 1) := dk_62 (dk_at dksX5_earliestHall_2 0 rfl rfl)
theorem dX5_earliestHall_48 : decode cX5_earliestHall 48 = .ok (.iconst 0, 1) := dk_3 (dk_at dksX5_earliestHall_2 1 rfl rfl)
theorem dX5_earliestHall_49 : decode cX5_earliestHall 49 = .ok (.istore 4, 2) := dk_54 4 (dk_at dksX5_earliestHall_2 2 rfl rfl)
theorem dX5_earliestHall_51 : decode cX5_earliestHall 51 = .ok (.iload 4, 2) := dk_21 4 (dk_at dksX5_earliestHall_2 4 rfl rfl)
theorem dX5_earliestHall_53 : decode cX5_earliestHall 53 = .ok (.aload_n 0, 1) := dk_42 (dk_at dksX5_earliestHall_2 6 rfl rfl)
theorem dX5_earliestHall_54 : decode cX5_earliestHall 54 = .ok (.getfield 13, 3) := dk_180 0 13 (dk_at dksX5_earliestHall_2 7 rfl rfl)
theorem dX5_earliestHall_57 : decode cX5_earliestHall 57 = .ok (.iconst 0, 1) := dk_3 (dk_at dksX5_earliestHall_2 10 rfl rfl)
theorem dX5_earliestHall_58 : decode cX5_earliestHall 58 = .ok (.iaload, 1) := dk_46 (dk_at dksX5_earliestHall_2 11 rfl rfl)
theorem dX5_earliestHall_59 : decode cX5_earliestHall 59 = .ok (.if_icmp .ge 36, 3) := dk_162 0 36 (dk_at dksX5_earliestHall_2 12 rfl rfl)
theorem dX5_earliestHall_62 : decode cX5_earliestHall 62 = .ok (.aload_n 0, 1) := dk_42 (dk_at dksX5_earliestHall_2 15 rfl rfl)
theorem dX5_earliestHall_63 : decode cX5_earliestHall 63 = .ok (.iload 4, 2) := dk_21 4 (dk_at dksX5_earliestHall_2 16 rfl rfl)
theorem dX5_earliestHall_65 : decode cX5_earliestHall 65 = .ok (.iload_n 1, 1) := dk_27 (dk_at dksX5_earliestHall_2 18 rfl rfl)
theorem dX5_earliestHall_66 : decode cX5_earliestHall 66 = .ok (.invokevirtual 388, 3) := dk_182 1 132 (dk_at dksX5_earliestHall_2 19 rfl rfl)
theorem dX5_earliestHall_69 : decode cX5_earliestHall 69 = .ok (.istore 5, 2) := dk_54 5 (dk_at dksX5_earliestHall_2 22 rfl rfl)
theorem dX5_earliestHall_71 : decode cX5_earliestHall 71 = .ok (.iload 5, 2) := dk_21 5 (dk_at dksX5_earliestHall_3 0 rfl rfl)
theorem dX5_earliestHall_73 : decode cX5_earliestHall 73 = .ok (.iconst (-1), 1) := dk_2 (dk_at dksX5_earliestHall_3 2 rfl rfl)
theorem dX5_earliestHall_74 : decode cX5_earliestHall 74 = .ok (.if_icmp .eq 15, 3) := dk_159 0 15 (dk_at dksX5_earliestHall_3 3 rfl rfl)
theorem dX5_earliestHall_77 : decode cX5_earliestHall 77 = .ok (.iload 5, 2) := dk_21 5 (dk_at dksX5_earliestHall_3 6 rfl rfl)
theorem dX5_earliestHall_79 : decode cX5_earliestHall 79 = .ok (.iload_n 3, 1) := dk_29 (dk_at dksX5_earliestHall_3 8 rfl rfl)
theorem dX5_earliestHall_80 : decode cX5_earliestHall 80 = .ok (.if_icmp .ge 9, 3) := dk_162 0 9 (dk_at dksX5_earliestHall_3 9 rfl rfl)
theorem dX5_earliestHall_83 : decode cX5_earliestHall 83 = .ok (.iload 5, 2) := dk_21 5 (dk_at dksX5_earliestHall_3 12 rfl rfl)
theorem dX5_earliestHall_85 : decode cX5_earliestHall 85 = .ok (.istore_n 3, 1) := dk_62 (dk_at dksX5_earliestHall_3 14 rfl rfl)
theorem dX5_earliestHall_86 : decode cX5_earliestHall 86 = .ok (.iload 4, 2) := dk_21 4 (dk_at dksX5_earliestHall_3 15 rfl rfl)
theorem dX5_earliestHall_88 : decode cX5_earliestHall 88 = .ok (.istore_n 2, 1) := dk_61 (dk_at dksX5_earliestHall_3 17 rfl rfl)
theorem dX5_earliestHall_89 : decode cX5_earliestHall 89 = .ok (.iinc 4 1, 3) := dk_132 4 1 (dk_at dksX5_earliestHall_3 18 rfl rfl)
theorem dX5_earliestHall_92 : decode cX5_earliestHall 92 = .ok (.goto (-41), 3) := dk_167 255 215 (dk_at dksX5_earliestHall_3 21 rfl rfl)
theorem dX5_earliestHall_95 : decode cX5_earliestHall 95 = .ok (.iload_n 2, 1) := dk_28 (dk_at dksX5_earliestHall_4 0 rfl rfl)
theorem dX5_earliestHall_96 : decode cX5_earliestHall 96 = .ok (.iconst (-1), 1) := dk_2 (dk_at dksX5_earliestHall_4 1 rfl rfl)
theorem dX5_earliestHall_97 : decode cX5_earliestHall 97 = .ok (.if_icmp .ne 11, 3) := dk_160 0 11 (dk_at dksX5_earliestHall_4 2 rfl rfl)
theorem dX5_earliestHall_100 : decode cX5_earliestHall 100 = .ok (.aload_n 0, 1) := dk_42 (dk_at dksX5_earliestHall_4 5 rfl rfl)
theorem dX5_earliestHall_101 : decode cX5_earliestHall 101 = .ok (.iconst 3, 1) := dk_6 (dk_at dksX5_earliestHall_4 6 rfl rfl)
theorem dX5_earliestHall_102 : decode cX5_earliestHall 102 = .ok (.invokevirtual 83, 3) := dk_182 0 83 (dk_at dksX5_earliestHall_4 7 rfl rfl)
theorem dX5_earliestHall_105 : decode cX5_earliestHall 105 = .ok (.goto 4, 3) := dk_167 0 4 (dk_at dksX5_earliestHall_4 10 rfl rfl)
theorem dX5_earliestHall_108 : decode cX5_earliestHall 108 = .ok (.iload_n 2, 1) := dk_28 (dk_at dksX5_earliestHall_4 13 rfl rfl)
theorem dX5_earliestHall_109 : decode cX5_earliestHall 109 = .ok (.ireturn, 1) := dk_172 (dk_at dksX5_earliestHall_4 14 rfl rfl)
abbrev cX5_conflicts : ByteArray := prog_17_method_110_code
def yX5_conflicts : MethodName := ⟨RX5, "conflicts", "(II)J"⟩
def dkwX5_conflicts_3 : List UInt8 := [33, 173]
abbrev dktX5_conflicts_3 : List UInt8 := dkwX5_conflicts_3 ++ []
def dkwX5_conflicts_2 : List UInt8 := [27, 28, 182, 0, 248, 153, 0, 10, 10, 21, 5, 121, 167, 0, 4, 9, 129, 66, 132, 5, 1, 167, 255, 220]
abbrev dktX5_conflicts_2 : List UInt8 := dkwX5_conflicts_2 ++ dktX5_conflicts_3
def dkwX5_conflicts_1 : List UInt8 := [3, 182, 1, 23, 9, 66, 3, 54, 5, 21, 5, 42, 180, 0, 36, 4, 46, 162, 0, 31, 33, 42, 21, 5]
abbrev dktX5_conflicts_1 : List UInt8 := dkwX5_conflicts_1 ++ dktX5_conflicts_2
def dkwX5_conflicts_0 : List UInt8 := [42, 42, 27, 28, 182, 1, 129, 181, 0, 3, 42, 180, 0, 3, 158, 0, 5, 9, 173, 42, 42, 180, 0, 30]
abbrev dktX5_conflicts_0 : List UInt8 := dkwX5_conflicts_0 ++ dktX5_conflicts_1
theorem dksX5_conflicts_0 : cX5_conflicts.data.toList.drop 0 = dktX5_conflicts_0 := by decide +kernel
theorem dksX5_conflicts_1 : cX5_conflicts.data.toList.drop 24 = dktX5_conflicts_1 := dk_seg dksX5_conflicts_0 24 rfl rfl
theorem dksX5_conflicts_2 : cX5_conflicts.data.toList.drop 48 = dktX5_conflicts_2 := dk_seg dksX5_conflicts_1 24 rfl rfl
theorem dksX5_conflicts_3 : cX5_conflicts.data.toList.drop 72 = dktX5_conflicts_3 := dk_seg dksX5_conflicts_2 24 rfl rfl
theorem dX5_conflicts_0 : decode cX5_conflicts 0 = .ok (.aload_n 0, 1) := dk_42 (dk_at dksX5_conflicts_0 0 rfl rfl)
theorem dX5_conflicts_1 : decode cX5_conflicts 1 = .ok (.aload_n 0, 1) := dk_42 (dk_at dksX5_conflicts_0 1 rfl rfl)
theorem dX5_conflicts_2 : decode cX5_conflicts 2 = .ok (.iload_n 1, 1) := dk_27 (dk_at dksX5_conflicts_0 2 rfl rfl)
theorem dX5_conflicts_3 : decode cX5_conflicts 3 = .ok (.iload_n 2, 1) := dk_28 (dk_at dksX5_conflicts_0 3 rfl rfl)
theorem dX5_conflicts_4 : decode cX5_conflicts 4 = .ok (.invokevirtual 385, 3) := dk_182 1 129 (dk_at dksX5_conflicts_0 4 rfl rfl)
theorem dX5_conflicts_7 : decode cX5_conflicts 7 = .ok (.putfield 3, 3) := dk_181 0 3 (dk_at dksX5_conflicts_0 7 rfl rfl)
theorem dX5_conflicts_10 : decode cX5_conflicts 10 = .ok (.aload_n 0, 1) := dk_42 (dk_at dksX5_conflicts_0 10 rfl rfl)
theorem dX5_conflicts_11 : decode cX5_conflicts 11 = .ok (.getfield 3, 3) := dk_180 0 3 (dk_at dksX5_conflicts_0 11 rfl rfl)
theorem dX5_conflicts_14 : decode cX5_conflicts 14 = .ok (.ifCond .le 5, 3) := dk_158 0 5 (dk_at dksX5_conflicts_0 14 rfl rfl)
theorem dX5_conflicts_17 : decode cX5_conflicts 17 = .ok (.lconst 0, 1) := dk_9 (dk_at dksX5_conflicts_0 17 rfl rfl)
theorem dX5_conflicts_18 : decode cX5_conflicts 18 = .ok (.lreturn, 1) := dk_173 (dk_at dksX5_conflicts_0 18 rfl rfl)
theorem dX5_conflicts_19 : decode cX5_conflicts 19 = .ok (.aload_n 0, 1) := dk_42 (dk_at dksX5_conflicts_0 19 rfl rfl)
theorem dX5_conflicts_20 : decode cX5_conflicts 20 = .ok (.aload_n 0, 1) := dk_42 (dk_at dksX5_conflicts_0 20 rfl rfl)
theorem dX5_conflicts_21 : decode cX5_conflicts 21 = .ok (.getfield 30, 3) := dk_180 0 30 (dk_at dksX5_conflicts_0 21 rfl rfl)
theorem dX5_conflicts_24 : decode cX5_conflicts 24 = .ok (.iconst 0, 1) := dk_3 (dk_at dksX5_conflicts_1 0 rfl rfl)
theorem dX5_conflicts_25 : decode cX5_conflicts 25 = .ok (.invokevirtual 279, 3) := dk_182 1 23 (dk_at dksX5_conflicts_1 1 rfl rfl)
theorem dX5_conflicts_28 : decode cX5_conflicts 28 = .ok (.lconst 0, 1) := dk_9 (dk_at dksX5_conflicts_1 4 rfl rfl)
theorem dX5_conflicts_29 : decode cX5_conflicts 29 = .ok (.lstore_n 3, 1) := dk_66 (dk_at dksX5_conflicts_1 5 rfl rfl)
theorem dX5_conflicts_30 : decode cX5_conflicts 30 = .ok (.iconst 0, 1) := dk_3 (dk_at dksX5_conflicts_1 6 rfl rfl)
theorem dX5_conflicts_31 : decode cX5_conflicts 31 = .ok (.istore 5, 2) := dk_54 5 (dk_at dksX5_conflicts_1 7 rfl rfl)
theorem dX5_conflicts_33 : decode cX5_conflicts 33 = .ok (.iload 5, 2) := dk_21 5 (dk_at dksX5_conflicts_1 9 rfl rfl)
theorem dX5_conflicts_35 : decode cX5_conflicts 35 = .ok (.aload_n 0, 1) := dk_42 (dk_at dksX5_conflicts_1 11 rfl rfl)
theorem dX5_conflicts_36 : decode cX5_conflicts 36 = .ok (.getfield 36, 3) := dk_180 0 36 (dk_at dksX5_conflicts_1 12 rfl rfl)
theorem dX5_conflicts_39 : decode cX5_conflicts 39 = .ok (.iconst 1, 1) := dk_4 (dk_at dksX5_conflicts_1 15 rfl rfl)
theorem dX5_conflicts_40 : decode cX5_conflicts 40 = .ok (.iaload, 1) := dk_46 (dk_at dksX5_conflicts_1 16 rfl rfl)
theorem dX5_conflicts_41 : decode cX5_conflicts 41 = .ok (.if_icmp .ge 31, 3) := dk_162 0 31 (dk_at dksX5_conflicts_1 17 rfl rfl)
theorem dX5_conflicts_44 : decode cX5_conflicts 44 = .ok (.lload_n 3, 1) := dk_33 (dk_at dksX5_conflicts_1 20 rfl rfl)
theorem dX5_conflicts_45 : decode cX5_conflicts 45 = .ok (.aload_n 0, 1) := dk_42 (dk_at dksX5_conflicts_1 21 rfl rfl)
theorem dX5_conflicts_46 : decode cX5_conflicts 46 = .ok (.iload 5, 2) := dk_21 5 (dk_at dksX5_conflicts_1 22 rfl rfl)
theorem dX5_conflicts_48 : decode cX5_conflicts 48 = .ok (.iload_n 1, 1) := dk_27 (dk_at dksX5_conflicts_2 0 rfl rfl)
theorem dX5_conflicts_49 : decode cX5_conflicts 49 = .ok (.iload_n 2, 1) := dk_28 (dk_at dksX5_conflicts_2 1 rfl rfl)
theorem dX5_conflicts_50 : decode cX5_conflicts 50 = .ok (.invokevirtual 248, 3) := dk_182 0 248 (dk_at dksX5_conflicts_2 2 rfl rfl)
theorem dX5_conflicts_53 : decode cX5_conflicts 53 = .ok (.ifCond .eq 10, 3) := dk_153 0 10 (dk_at dksX5_conflicts_2 5 rfl rfl)
theorem dX5_conflicts_56 : decode cX5_conflicts 56 = .ok (.lconst 1, 1) := dk_10 (dk_at dksX5_conflicts_2 8 rfl rfl)
theorem dX5_conflicts_57 : decode cX5_conflicts 57 = .ok (.iload 5, 2) := dk_21 5 (dk_at dksX5_conflicts_2 9 rfl rfl)
theorem dX5_conflicts_59 : decode cX5_conflicts 59 = .ok (.lshl, 1) := dk_121 (dk_at dksX5_conflicts_2 11 rfl rfl)
theorem dX5_conflicts_60 : decode cX5_conflicts 60 = .ok (.goto 4, 3) := dk_167 0 4 (dk_at dksX5_conflicts_2 12 rfl rfl)
theorem dX5_conflicts_63 : decode cX5_conflicts 63 = .ok (.lconst 0, 1) := dk_9 (dk_at dksX5_conflicts_2 15 rfl rfl)
theorem dX5_conflicts_64 : decode cX5_conflicts 64 = .ok (.lor, 1) := dk_129 (dk_at dksX5_conflicts_2 16 rfl rfl)
theorem dX5_conflicts_65 : decode cX5_conflicts 65 = .ok (.lstore_n 3, 1) := dk_66 (dk_at dksX5_conflicts_2 17 rfl rfl)
theorem dX5_conflicts_66 : decode cX5_conflicts 66 = .ok (.iinc 5 1, 3) := dk_132 5 1 (dk_at dksX5_conflicts_2 18 rfl rfl)
theorem dX5_conflicts_69 : decode cX5_conflicts 69 = .ok (.goto (-36), 3) := dk_167 255 220 (dk_at dksX5_conflicts_2 21 rfl rfl)
theorem dX5_conflicts_72 : decode cX5_conflicts 72 = .ok (.lload_n 3, 1) := dk_33 (dk_at dksX5_conflicts_3 0 rfl rfl)
theorem dX5_conflicts_73 : decode cX5_conflicts 73 = .ok (.lreturn, 1) := dk_173 (dk_at dksX5_conflicts_3 1 rfl rfl)
abbrev cX5_moveProblem : ByteArray := prog_17_method_111_code
def yX5_moveProblem : MethodName := ⟨RX5, "moveProblem", "(III)I"⟩
def dkwX5_moveProblem_1 : List UInt8 := [182, 0, 236, 153, 0, 13, 42, 27, 28, 29, 182, 1, 91, 167, 0, 8, 42, 6, 182, 0, 83, 172]
abbrev dktX5_moveProblem_1 : List UInt8 := dkwX5_moveProblem_1 ++ []
def dkwX5_moveProblem_0 : List UInt8 := [42, 42, 27, 28, 29, 182, 1, 88, 181, 0, 3, 42, 180, 0, 3, 158, 0, 5, 3, 172, 42, 27]
abbrev dktX5_moveProblem_0 : List UInt8 := dkwX5_moveProblem_0 ++ dktX5_moveProblem_1
theorem dksX5_moveProblem_0 : cX5_moveProblem.data.toList.drop 0 = dktX5_moveProblem_0 := by decide +kernel
theorem dksX5_moveProblem_1 : cX5_moveProblem.data.toList.drop 22 = dktX5_moveProblem_1 := dk_seg dksX5_moveProblem_0 22 rfl rfl
theorem dX5_moveProblem_0 : decode cX5_moveProblem 0 = .ok (.aload_n 0, 1) := dk_42 (dk_at dksX5_moveProblem_0 0 rfl rfl)
theorem dX5_moveProblem_1 : decode cX5_moveProblem 1 = .ok (.aload_n 0, 1) := dk_42 (dk_at dksX5_moveProblem_0 1 rfl rfl)
theorem dX5_moveProblem_2 : decode cX5_moveProblem 2 = .ok (.iload_n 1, 1) := dk_27 (dk_at dksX5_moveProblem_0 2 rfl rfl)
theorem dX5_moveProblem_3 : decode cX5_moveProblem 3 = .ok (.iload_n 2, 1) := dk_28 (dk_at dksX5_moveProblem_0 3 rfl rfl)
theorem dX5_moveProblem_4 : decode cX5_moveProblem 4 = .ok (.iload_n 3, 1) := dk_29 (dk_at dksX5_moveProblem_0 4 rfl rfl)
theorem dX5_moveProblem_5 : decode cX5_moveProblem 5 = .ok (.invokevirtual 344, 3) := dk_182 1 88 (dk_at dksX5_moveProblem_0 5 rfl rfl)
theorem dX5_moveProblem_8 : decode cX5_moveProblem 8 = .ok (.putfield 3, 3) := dk_181 0 3 (dk_at dksX5_moveProblem_0 8 rfl rfl)
theorem dX5_moveProblem_11 : decode cX5_moveProblem 11 = .ok (.aload_n 0, 1) := dk_42 (dk_at dksX5_moveProblem_0 11 rfl rfl)
theorem dX5_moveProblem_12 : decode cX5_moveProblem 12 = .ok (.getfield 3, 3) := dk_180 0 3 (dk_at dksX5_moveProblem_0 12 rfl rfl)
theorem dX5_moveProblem_15 : decode cX5_moveProblem 15 = .ok (.ifCond .le 5, 3) := dk_158 0 5 (dk_at dksX5_moveProblem_0 15 rfl rfl)
theorem dX5_moveProblem_18 : decode cX5_moveProblem 18 = .ok (.iconst 0, 1) := dk_3 (dk_at dksX5_moveProblem_0 18 rfl rfl)
theorem dX5_moveProblem_19 : decode cX5_moveProblem 19 = .ok (.ireturn, 1) := dk_172 (dk_at dksX5_moveProblem_0 19 rfl rfl)
theorem dX5_moveProblem_20 : decode cX5_moveProblem 20 = .ok (.aload_n 0, 1) := dk_42 (dk_at dksX5_moveProblem_0 20 rfl rfl)
theorem dX5_moveProblem_21 : decode cX5_moveProblem 21 = .ok (.iload_n 1, 1) := dk_27 (dk_at dksX5_moveProblem_0 21 rfl rfl)
theorem dX5_moveProblem_22 : decode cX5_moveProblem 22 = .ok (.invokevirtual 236, 3) := dk_182 0 236 (dk_at dksX5_moveProblem_1 0 rfl rfl)
theorem dX5_moveProblem_25 : decode cX5_moveProblem 25 = .ok (.ifCond .eq 13, 3) := dk_153 0 13 (dk_at dksX5_moveProblem_1 3 rfl rfl)
theorem dX5_moveProblem_28 : decode cX5_moveProblem 28 = .ok (.aload_n 0, 1) := dk_42 (dk_at dksX5_moveProblem_1 6 rfl rfl)
theorem dX5_moveProblem_29 : decode cX5_moveProblem 29 = .ok (.iload_n 1, 1) := dk_27 (dk_at dksX5_moveProblem_1 7 rfl rfl)
theorem dX5_moveProblem_30 : decode cX5_moveProblem 30 = .ok (.iload_n 2, 1) := dk_28 (dk_at dksX5_moveProblem_1 8 rfl rfl)
theorem dX5_moveProblem_31 : decode cX5_moveProblem 31 = .ok (.iload_n 3, 1) := dk_29 (dk_at dksX5_moveProblem_1 9 rfl rfl)
theorem dX5_moveProblem_32 : decode cX5_moveProblem 32 = .ok (.invokevirtual 347, 3) := dk_182 1 91 (dk_at dksX5_moveProblem_1 10 rfl rfl)
theorem dX5_moveProblem_35 : decode cX5_moveProblem 35 = .ok (.goto 8, 3) := dk_167 0 8 (dk_at dksX5_moveProblem_1 13 rfl rfl)
theorem dX5_moveProblem_38 : decode cX5_moveProblem 38 = .ok (.aload_n 0, 1) := dk_42 (dk_at dksX5_moveProblem_1 16 rfl rfl)
theorem dX5_moveProblem_39 : decode cX5_moveProblem 39 = .ok (.iconst 3, 1) := dk_6 (dk_at dksX5_moveProblem_1 17 rfl rfl)
theorem dX5_moveProblem_40 : decode cX5_moveProblem 40 = .ok (.invokevirtual 83, 3) := dk_182 0 83 (dk_at dksX5_moveProblem_1 18 rfl rfl)
theorem dX5_moveProblem_43 : decode cX5_moveProblem 43 = .ok (.ireturn, 1) := dk_172 (dk_at dksX5_moveProblem_1 21 rfl rfl)
abbrev cX5_chain : ByteArray := prog_17_method_112_code
def yX5_chain : MethodName := ⟨RX5, "chain", "(IIII)I"⟩
def dkwX5_chain_4 : List UInt8 := [164, 0, 7, 2, 167, 0, 12, 42, 180, 0, 55, 21, 4, 4, 100, 46, 172]
abbrev dktX5_chain_4 : List UInt8 := dkwX5_chain_4 ++ []
def dkwX5_chain_3 : List UInt8 := [7, 182, 0, 83, 172, 21, 4, 154, 0, 10, 42, 180, 1, 97, 167, 0, 25, 21, 4, 42, 180, 1, 97]
abbrev dktX5_chain_3 : List UInt8 := dkwX5_chain_3 ++ dktX5_chain_4
def dkwX5_chain_2 : List UInt8 := [27, 182, 0, 236, 154, 0, 9, 42, 6, 182, 0, 83, 172, 42, 27, 28, 29, 182, 1, 106, 154, 0, 9, 42]
abbrev dktX5_chain_2 : List UInt8 := dkwX5_chain_2 ++ dktX5_chain_3
def dkwX5_chain_1 : List UInt8 := [20, 1, 135, 184, 0, 90, 154, 0, 8, 42, 5, 181, 0, 3, 42, 180, 0, 3, 158, 0, 5, 3, 172, 42]
abbrev dktX5_chain_1 : List UInt8 := dkwX5_chain_1 ++ dktX5_chain_2
def dkwX5_chain_0 : List UInt8 := [42, 42, 27, 28, 29, 182, 1, 88, 181, 0, 3, 42, 180, 0, 3, 154, 0, 21, 21, 4, 133, 9]
abbrev dktX5_chain_0 : List UInt8 := dkwX5_chain_0 ++ dktX5_chain_1
theorem dksX5_chain_0 : cX5_chain.data.toList.drop 0 = dktX5_chain_0 := by decide +kernel
theorem dksX5_chain_1 : cX5_chain.data.toList.drop 22 = dktX5_chain_1 := dk_seg dksX5_chain_0 22 rfl rfl
theorem dksX5_chain_2 : cX5_chain.data.toList.drop 46 = dktX5_chain_2 := dk_seg dksX5_chain_1 24 rfl rfl
theorem dksX5_chain_3 : cX5_chain.data.toList.drop 70 = dktX5_chain_3 := dk_seg dksX5_chain_2 24 rfl rfl
theorem dksX5_chain_4 : cX5_chain.data.toList.drop 93 = dktX5_chain_4 := dk_seg dksX5_chain_3 23 rfl rfl
theorem dX5_chain_0 : decode cX5_chain 0 = .ok (.aload_n 0, 1) := dk_42 (dk_at dksX5_chain_0 0 rfl rfl)
theorem dX5_chain_1 : decode cX5_chain 1 = .ok (.aload_n 0, 1) := dk_42 (dk_at dksX5_chain_0 1 rfl rfl)
theorem dX5_chain_2 : decode cX5_chain 2 = .ok (.iload_n 1, 1) := dk_27 (dk_at dksX5_chain_0 2 rfl rfl)
theorem dX5_chain_3 : decode cX5_chain 3 = .ok (.iload_n 2, 1) := dk_28 (dk_at dksX5_chain_0 3 rfl rfl)
theorem dX5_chain_4 : decode cX5_chain 4 = .ok (.iload_n 3, 1) := dk_29 (dk_at dksX5_chain_0 4 rfl rfl)
theorem dX5_chain_5 : decode cX5_chain 5 = .ok (.invokevirtual 344, 3) := dk_182 1 88 (dk_at dksX5_chain_0 5 rfl rfl)
theorem dX5_chain_8 : decode cX5_chain 8 = .ok (.putfield 3, 3) := dk_181 0 3 (dk_at dksX5_chain_0 8 rfl rfl)
theorem dX5_chain_11 : decode cX5_chain 11 = .ok (.aload_n 0, 1) := dk_42 (dk_at dksX5_chain_0 11 rfl rfl)
theorem dX5_chain_12 : decode cX5_chain 12 = .ok (.getfield 3, 3) := dk_180 0 3 (dk_at dksX5_chain_0 12 rfl rfl)
theorem dX5_chain_15 : decode cX5_chain 15 = .ok (.ifCond .ne 21, 3) := dk_154 0 21 (dk_at dksX5_chain_0 15 rfl rfl)
theorem dX5_chain_18 : decode cX5_chain 18 = .ok (.iload 4, 2) := dk_21 4 (dk_at dksX5_chain_0 18 rfl rfl)
theorem dX5_chain_20 : decode cX5_chain 20 = .ok (.i2l, 1) := dk_133 (dk_at dksX5_chain_0 20 rfl rfl)
theorem dX5_chain_21 : decode cX5_chain 21 = .ok (.lconst 0, 1) := dk_9 (dk_at dksX5_chain_0 21 rfl rfl)
theorem dX5_chain_22 : decode cX5_chain 22 = .ok (.ldc2_w 391, 3) := dk_20 1 135 (dk_at dksX5_chain_1 0 rfl rfl)
theorem dX5_chain_25 : decode cX5_chain 25 = .ok (.invokestatic 90, 3) := dk_184 0 90 (dk_at dksX5_chain_1 3 rfl rfl)
theorem dX5_chain_28 : decode cX5_chain 28 = .ok (.ifCond .ne 8, 3) := dk_154 0 8 (dk_at dksX5_chain_1 6 rfl rfl)
theorem dX5_chain_31 : decode cX5_chain 31 = .ok (.aload_n 0, 1) := dk_42 (dk_at dksX5_chain_1 9 rfl rfl)
theorem dX5_chain_32 : decode cX5_chain 32 = .ok (.iconst 2, 1) := dk_5 (dk_at dksX5_chain_1 10 rfl rfl)
theorem dX5_chain_33 : decode cX5_chain 33 = .ok (.putfield 3, 3) := dk_181 0 3 (dk_at dksX5_chain_1 11 rfl rfl)
theorem dX5_chain_36 : decode cX5_chain 36 = .ok (.aload_n 0, 1) := dk_42 (dk_at dksX5_chain_1 14 rfl rfl)
theorem dX5_chain_37 : decode cX5_chain 37 = .ok (.getfield 3, 3) := dk_180 0 3 (dk_at dksX5_chain_1 15 rfl rfl)
theorem dX5_chain_40 : decode cX5_chain 40 = .ok (.ifCond .le 5, 3) := dk_158 0 5 (dk_at dksX5_chain_1 18 rfl rfl)
theorem dX5_chain_43 : decode cX5_chain 43 = .ok (.iconst 0, 1) := dk_3 (dk_at dksX5_chain_1 21 rfl rfl)
theorem dX5_chain_44 : decode cX5_chain 44 = .ok (.ireturn, 1) := dk_172 (dk_at dksX5_chain_1 22 rfl rfl)
theorem dX5_chain_45 : decode cX5_chain 45 = .ok (.aload_n 0, 1) := dk_42 (dk_at dksX5_chain_1 23 rfl rfl)
theorem dX5_chain_46 : decode cX5_chain 46 = .ok (.iload_n 1, 1) := dk_27 (dk_at dksX5_chain_2 0 rfl rfl)
theorem dX5_chain_47 : decode cX5_chain 47 = .ok (.invokevirtual 236, 3) := dk_182 0 236 (dk_at dksX5_chain_2 1 rfl rfl)
theorem dX5_chain_50 : decode cX5_chain 50 = .ok (.ifCond .ne 9, 3) := dk_154 0 9 (dk_at dksX5_chain_2 4 rfl rfl)
theorem dX5_chain_53 : decode cX5_chain 53 = .ok (.aload_n 0, 1) := dk_42 (dk_at dksX5_chain_2 7 rfl rfl)
theorem dX5_chain_54 : decode cX5_chain 54 = .ok (.iconst 3, 1) := dk_6 (dk_at dksX5_chain_2 8 rfl rfl)
theorem dX5_chain_55 : decode cX5_chain 55 = .ok (.invokevirtual 83, 3) := dk_182 0 83 (dk_at dksX5_chain_2 9 rfl rfl)
theorem dX5_chain_58 : decode cX5_chain 58 = .ok (.ireturn, 1) := dk_172 (dk_at dksX5_chain_2 12 rfl rfl)
theorem dX5_chain_59 : decode cX5_chain 59 = .ok (.aload_n 0, 1) := dk_42 (dk_at dksX5_chain_2 13 rfl rfl)
theorem dX5_chain_60 : decode cX5_chain 60 = .ok (.iload_n 1, 1) := dk_27 (dk_at dksX5_chain_2 14 rfl rfl)
theorem dX5_chain_61 : decode cX5_chain 61 = .ok (.iload_n 2, 1) := dk_28 (dk_at dksX5_chain_2 15 rfl rfl)
theorem dX5_chain_62 : decode cX5_chain 62 = .ok (.iload_n 3, 1) := dk_29 (dk_at dksX5_chain_2 16 rfl rfl)
theorem dX5_chain_63 : decode cX5_chain 63 = .ok (.invokevirtual 362, 3) := dk_182 1 106 (dk_at dksX5_chain_2 17 rfl rfl)
theorem dX5_chain_66 : decode cX5_chain 66 = .ok (.ifCond .ne 9, 3) := dk_154 0 9 (dk_at dksX5_chain_2 20 rfl rfl)
theorem dX5_chain_69 : decode cX5_chain 69 = .ok (.aload_n 0, 1) := dk_42 (dk_at dksX5_chain_2 23 rfl rfl)
theorem dX5_chain_70 : decode cX5_chain 70 = .ok (.iconst 4, 1) := dk_7 (dk_at dksX5_chain_3 0 rfl rfl)
theorem dX5_chain_71 : decode cX5_chain 71 = .ok (.invokevirtual 83, 3) := dk_182 0 83 (dk_at dksX5_chain_3 1 rfl rfl)
theorem dX5_chain_74 : decode cX5_chain 74 = .ok (.ireturn, 1) := dk_172 (dk_at dksX5_chain_3 4 rfl rfl)
theorem dX5_chain_75 : decode cX5_chain 75 = .ok (.iload 4, 2) := dk_21 4 (dk_at dksX5_chain_3 5 rfl rfl)
theorem dX5_chain_77 : decode cX5_chain 77 = .ok (.ifCond .ne 10, 3) := dk_154 0 10 (dk_at dksX5_chain_3 7 rfl rfl)
theorem dX5_chain_80 : decode cX5_chain 80 = .ok (.aload_n 0, 1) := dk_42 (dk_at dksX5_chain_3 10 rfl rfl)
theorem dX5_chain_81 : decode cX5_chain 81 = .ok (.getfield 353, 3) := dk_180 1 97 (dk_at dksX5_chain_3 11 rfl rfl)
theorem dX5_chain_84 : decode cX5_chain 84 = .ok (.goto 25, 3) := dk_167 0 25 (dk_at dksX5_chain_3 14 rfl rfl)
theorem dX5_chain_87 : decode cX5_chain 87 = .ok (.iload 4, 2) := dk_21 4 (dk_at dksX5_chain_3 17 rfl rfl)
theorem dX5_chain_89 : decode cX5_chain 89 = .ok (.aload_n 0, 1) := dk_42 (dk_at dksX5_chain_3 19 rfl rfl)
theorem dX5_chain_90 : decode cX5_chain 90 = .ok (.getfield 353, 3) := dk_180 1 97 (dk_at dksX5_chain_3 20 rfl rfl)
theorem dX5_chain_93 : decode cX5_chain 93 = .ok (.if_icmp .le 7, 3) := dk_164 0 7 (dk_at dksX5_chain_4 0 rfl rfl)
theorem dX5_chain_96 : decode cX5_chain 96 = .ok (.iconst (-1), 1) := dk_2 (dk_at dksX5_chain_4 3 rfl rfl)
theorem dX5_chain_97 : decode cX5_chain 97 = .ok (.goto 12, 3) := dk_167 0 12 (dk_at dksX5_chain_4 4 rfl rfl)
theorem dX5_chain_100 : decode cX5_chain 100 = .ok (.aload_n 0, 1) := dk_42 (dk_at dksX5_chain_4 7 rfl rfl)
theorem dX5_chain_101 : decode cX5_chain 101 = .ok (.getfield 55, 3) := dk_180 0 55 (dk_at dksX5_chain_4 8 rfl rfl)
theorem dX5_chain_104 : decode cX5_chain 104 = .ok (.iload 4, 2) := dk_21 4 (dk_at dksX5_chain_4 11 rfl rfl)
theorem dX5_chain_106 : decode cX5_chain 106 = .ok (.iconst 1, 1) := dk_4 (dk_at dksX5_chain_4 13 rfl rfl)
theorem dX5_chain_107 : decode cX5_chain 107 = .ok (.isub, 1) := dk_100 (dk_at dksX5_chain_4 14 rfl rfl)
theorem dX5_chain_108 : decode cX5_chain 108 = .ok (.iaload, 1) := dk_46 (dk_at dksX5_chain_4 15 rfl rfl)
theorem dX5_chain_109 : decode cX5_chain 109 = .ok (.ireturn, 1) := dk_172 (dk_at dksX5_chain_4 16 rfl rfl)
abbrev cX5_swapProblem : ByteArray := prog_17_method_113_code
def yX5_swapProblem : MethodName := ⟨RX5, "swapProblem", "(II)I"⟩
def dkwX5_swapProblem_1 : List UInt8 := [182, 1, 115, 172]
abbrev dktX5_swapProblem_1 : List UInt8 := dkwX5_swapProblem_1 ++ []
def dkwX5_swapProblem_0 : List UInt8 := [42, 42, 27, 28, 182, 1, 112, 181, 0, 3, 42, 180, 0, 3, 158, 0, 7, 3, 167, 0, 9, 42, 27, 28]
abbrev dktX5_swapProblem_0 : List UInt8 := dkwX5_swapProblem_0 ++ dktX5_swapProblem_1
theorem dksX5_swapProblem_0 : cX5_swapProblem.data.toList.drop 0 = dktX5_swapProblem_0 := by decide +kernel
theorem dksX5_swapProblem_1 : cX5_swapProblem.data.toList.drop 24 = dktX5_swapProblem_1 := dk_seg dksX5_swapProblem_0 24 rfl rfl
theorem dX5_swapProblem_0 : decode cX5_swapProblem 0 = .ok (.aload_n 0, 1) := dk_42 (dk_at dksX5_swapProblem_0 0 rfl rfl)
theorem dX5_swapProblem_1 : decode cX5_swapProblem 1 = .ok (.aload_n 0, 1) := dk_42 (dk_at dksX5_swapProblem_0 1 rfl rfl)
theorem dX5_swapProblem_2 : decode cX5_swapProblem 2 = .ok (.iload_n 1, 1) := dk_27 (dk_at dksX5_swapProblem_0 2 rfl rfl)
theorem dX5_swapProblem_3 : decode cX5_swapProblem 3 = .ok (.iload_n 2, 1) := dk_28 (dk_at dksX5_swapProblem_0 3 rfl rfl)
theorem dX5_swapProblem_4 : decode cX5_swapProblem 4 = .ok (.invokevirtual 368, 3) := dk_182 1 112 (dk_at dksX5_swapProblem_0 4 rfl rfl)
theorem dX5_swapProblem_7 : decode cX5_swapProblem 7 = .ok (.putfield 3, 3) := dk_181 0 3 (dk_at dksX5_swapProblem_0 7 rfl rfl)
theorem dX5_swapProblem_10 : decode cX5_swapProblem 10 = .ok (.aload_n 0, 1) := dk_42 (dk_at dksX5_swapProblem_0 10 rfl rfl)
theorem dX5_swapProblem_11 : decode cX5_swapProblem 11 = .ok (.getfield 3, 3) := dk_180 0 3 (dk_at dksX5_swapProblem_0 11 rfl rfl)
theorem dX5_swapProblem_14 : decode cX5_swapProblem 14 = .ok (.ifCond .le 7, 3) := dk_158 0 7 (dk_at dksX5_swapProblem_0 14 rfl rfl)
theorem dX5_swapProblem_17 : decode cX5_swapProblem 17 = .ok (.iconst 0, 1) := dk_3 (dk_at dksX5_swapProblem_0 17 rfl rfl)
theorem dX5_swapProblem_18 : decode cX5_swapProblem 18 = .ok (.goto 9, 3) := dk_167 0 9 (dk_at dksX5_swapProblem_0 18 rfl rfl)
theorem dX5_swapProblem_21 : decode cX5_swapProblem 21 = .ok (.aload_n 0, 1) := dk_42 (dk_at dksX5_swapProblem_0 21 rfl rfl)
theorem dX5_swapProblem_22 : decode cX5_swapProblem 22 = .ok (.iload_n 1, 1) := dk_27 (dk_at dksX5_swapProblem_0 22 rfl rfl)
theorem dX5_swapProblem_23 : decode cX5_swapProblem 23 = .ok (.iload_n 2, 1) := dk_28 (dk_at dksX5_swapProblem_0 23 rfl rfl)
theorem dX5_swapProblem_24 : decode cX5_swapProblem 24 = .ok (.invokevirtual 371, 3) := dk_182 1 115 (dk_at dksX5_swapProblem_1 0 rfl rfl)
theorem dX5_swapProblem_27 : decode cX5_swapProblem 27 = .ok (.ireturn, 1) := dk_172 (dk_at dksX5_swapProblem_1 3 rfl rfl)
abbrev cX5_feeNow : ByteArray := prog_17_method_114_code
def yX5_feeNow : MethodName := ⟨RX5, "feeNow", "(I)I"⟩
def dkwX5_feeNow_1 : List UInt8 := [167, 0, 4, 3, 181, 0, 3, 42, 180, 0, 3, 158, 0, 7, 3, 167, 0, 8, 42, 27, 182, 1, 82, 172]
abbrev dktX5_feeNow_1 : List UInt8 := dkwX5_feeNow_1 ++ []
def dkwX5_feeNow_0 : List UInt8 := [42, 42, 27, 182, 1, 76, 154, 0, 7, 4, 167, 0, 16, 42, 27, 182, 1, 79, 154, 0, 7, 5]
abbrev dktX5_feeNow_0 : List UInt8 := dkwX5_feeNow_0 ++ dktX5_feeNow_1
theorem dksX5_feeNow_0 : cX5_feeNow.data.toList.drop 0 = dktX5_feeNow_0 := by decide +kernel
theorem dksX5_feeNow_1 : cX5_feeNow.data.toList.drop 22 = dktX5_feeNow_1 := dk_seg dksX5_feeNow_0 22 rfl rfl
theorem dX5_feeNow_0 : decode cX5_feeNow 0 = .ok (.aload_n 0, 1) := dk_42 (dk_at dksX5_feeNow_0 0 rfl rfl)
theorem dX5_feeNow_1 : decode cX5_feeNow 1 = .ok (.aload_n 0, 1) := dk_42 (dk_at dksX5_feeNow_0 1 rfl rfl)
theorem dX5_feeNow_2 : decode cX5_feeNow 2 = .ok (.iload_n 1, 1) := dk_27 (dk_at dksX5_feeNow_0 2 rfl rfl)
theorem dX5_feeNow_3 : decode cX5_feeNow 3 = .ok (.invokevirtual 332, 3) := dk_182 1 76 (dk_at dksX5_feeNow_0 3 rfl rfl)
theorem dX5_feeNow_6 : decode cX5_feeNow 6 = .ok (.ifCond .ne 7, 3) := dk_154 0 7 (dk_at dksX5_feeNow_0 6 rfl rfl)
theorem dX5_feeNow_9 : decode cX5_feeNow 9 = .ok (.iconst 1, 1) := dk_4 (dk_at dksX5_feeNow_0 9 rfl rfl)
theorem dX5_feeNow_10 : decode cX5_feeNow 10 = .ok (.goto 16, 3) := dk_167 0 16 (dk_at dksX5_feeNow_0 10 rfl rfl)
theorem dX5_feeNow_13 : decode cX5_feeNow 13 = .ok (.aload_n 0, 1) := dk_42 (dk_at dksX5_feeNow_0 13 rfl rfl)
theorem dX5_feeNow_14 : decode cX5_feeNow 14 = .ok (.iload_n 1, 1) := dk_27 (dk_at dksX5_feeNow_0 14 rfl rfl)
theorem dX5_feeNow_15 : decode cX5_feeNow 15 = .ok (.invokevirtual 335, 3) := dk_182 1 79 (dk_at dksX5_feeNow_0 15 rfl rfl)
theorem dX5_feeNow_18 : decode cX5_feeNow 18 = .ok (.ifCond .ne 7, 3) := dk_154 0 7 (dk_at dksX5_feeNow_0 18 rfl rfl)
theorem dX5_feeNow_21 : decode cX5_feeNow 21 = .ok (.iconst 2, 1) := dk_5 (dk_at dksX5_feeNow_0 21 rfl rfl)
theorem dX5_feeNow_22 : decode cX5_feeNow 22 = .ok (.goto 4, 3) := dk_167 0 4 (dk_at dksX5_feeNow_1 0 rfl rfl)
theorem dX5_feeNow_25 : decode cX5_feeNow 25 = .ok (.iconst 0, 1) := dk_3 (dk_at dksX5_feeNow_1 3 rfl rfl)
theorem dX5_feeNow_26 : decode cX5_feeNow 26 = .ok (.putfield 3, 3) := dk_181 0 3 (dk_at dksX5_feeNow_1 4 rfl rfl)
theorem dX5_feeNow_29 : decode cX5_feeNow 29 = .ok (.aload_n 0, 1) := dk_42 (dk_at dksX5_feeNow_1 7 rfl rfl)
theorem dX5_feeNow_30 : decode cX5_feeNow 30 = .ok (.getfield 3, 3) := dk_180 0 3 (dk_at dksX5_feeNow_1 8 rfl rfl)
theorem dX5_feeNow_33 : decode cX5_feeNow 33 = .ok (.ifCond .le 7, 3) := dk_158 0 7 (dk_at dksX5_feeNow_1 11 rfl rfl)
theorem dX5_feeNow_36 : decode cX5_feeNow 36 = .ok (.iconst 0, 1) := dk_3 (dk_at dksX5_feeNow_1 14 rfl rfl)
theorem dX5_feeNow_37 : decode cX5_feeNow 37 = .ok (.goto 8, 3) := dk_167 0 8 (dk_at dksX5_feeNow_1 15 rfl rfl)
theorem dX5_feeNow_40 : decode cX5_feeNow 40 = .ok (.aload_n 0, 1) := dk_42 (dk_at dksX5_feeNow_1 18 rfl rfl)
theorem dX5_feeNow_41 : decode cX5_feeNow 41 = .ok (.iload_n 1, 1) := dk_27 (dk_at dksX5_feeNow_1 19 rfl rfl)
theorem dX5_feeNow_42 : decode cX5_feeNow 42 = .ok (.invokevirtual 338, 3) := dk_182 1 82 (dk_at dksX5_feeNow_1 20 rfl rfl)
theorem dX5_feeNow_45 : decode cX5_feeNow 45 = .ok (.ireturn, 1) := dk_172 (dk_at dksX5_feeNow_1 23 rfl rfl)
abbrev cX5_inUse : ByteArray := prog_17_method_115_code
def yX5_inUse : MethodName := ⟨RX5, "inUse", "(II)I"⟩
def dkwX5_inUse_2 : List UInt8 := [28, 182, 0, 252, 172]
abbrev dktX5_inUse_2 : List UInt8 := dkwX5_inUse_2 ++ []
def dkwX5_inUse_1 : List UInt8 := [154, 0, 7, 5, 167, 0, 4, 3, 181, 0, 3, 42, 180, 0, 3, 158, 0, 7, 3, 167, 0, 9, 42, 27]
abbrev dktX5_inUse_1 : List UInt8 := dkwX5_inUse_1 ++ dktX5_inUse_2
def dkwX5_inUse_0 : List UInt8 := [42, 42, 27, 182, 1, 39, 154, 0, 7, 4, 167, 0, 20, 28, 133, 9, 20, 1, 125, 184, 0, 90]
abbrev dktX5_inUse_0 : List UInt8 := dkwX5_inUse_0 ++ dktX5_inUse_1
theorem dksX5_inUse_0 : cX5_inUse.data.toList.drop 0 = dktX5_inUse_0 := by decide +kernel
theorem dksX5_inUse_1 : cX5_inUse.data.toList.drop 22 = dktX5_inUse_1 := dk_seg dksX5_inUse_0 22 rfl rfl
theorem dksX5_inUse_2 : cX5_inUse.data.toList.drop 46 = dktX5_inUse_2 := dk_seg dksX5_inUse_1 24 rfl rfl
theorem dX5_inUse_0 : decode cX5_inUse 0 = .ok (.aload_n 0, 1) := dk_42 (dk_at dksX5_inUse_0 0 rfl rfl)
theorem dX5_inUse_1 : decode cX5_inUse 1 = .ok (.aload_n 0, 1) := dk_42 (dk_at dksX5_inUse_0 1 rfl rfl)
theorem dX5_inUse_2 : decode cX5_inUse 2 = .ok (.iload_n 1, 1) := dk_27 (dk_at dksX5_inUse_0 2 rfl rfl)
theorem dX5_inUse_3 : decode cX5_inUse 3 = .ok (.invokevirtual 295, 3) := dk_182 1 39 (dk_at dksX5_inUse_0 3 rfl rfl)
theorem dX5_inUse_6 : decode cX5_inUse 6 = .ok (.ifCond .ne 7, 3) := dk_154 0 7 (dk_at dksX5_inUse_0 6 rfl rfl)
theorem dX5_inUse_9 : decode cX5_inUse 9 = .ok (.iconst 1, 1) := dk_4 (dk_at dksX5_inUse_0 9 rfl rfl)
theorem dX5_inUse_10 : decode cX5_inUse 10 = .ok (.goto 20, 3) := dk_167 0 20 (dk_at dksX5_inUse_0 10 rfl rfl)
theorem dX5_inUse_13 : decode cX5_inUse 13 = .ok (.iload_n 2, 1) := dk_28 (dk_at dksX5_inUse_0 13 rfl rfl)
theorem dX5_inUse_14 : decode cX5_inUse 14 = .ok (.i2l, 1) := dk_133 (dk_at dksX5_inUse_0 14 rfl rfl)
theorem dX5_inUse_15 : decode cX5_inUse 15 = .ok (.lconst 0, 1) := dk_9 (dk_at dksX5_inUse_0 15 rfl rfl)
theorem dX5_inUse_16 : decode cX5_inUse 16 = .ok (.ldc2_w 381, 3) := dk_20 1 125 (dk_at dksX5_inUse_0 16 rfl rfl)
theorem dX5_inUse_19 : decode cX5_inUse 19 = .ok (.invokestatic 90, 3) := dk_184 0 90 (dk_at dksX5_inUse_0 19 rfl rfl)
theorem dX5_inUse_22 : decode cX5_inUse 22 = .ok (.ifCond .ne 7, 3) := dk_154 0 7 (dk_at dksX5_inUse_1 0 rfl rfl)
theorem dX5_inUse_25 : decode cX5_inUse 25 = .ok (.iconst 2, 1) := dk_5 (dk_at dksX5_inUse_1 3 rfl rfl)
theorem dX5_inUse_26 : decode cX5_inUse 26 = .ok (.goto 4, 3) := dk_167 0 4 (dk_at dksX5_inUse_1 4 rfl rfl)
theorem dX5_inUse_29 : decode cX5_inUse 29 = .ok (.iconst 0, 1) := dk_3 (dk_at dksX5_inUse_1 7 rfl rfl)
theorem dX5_inUse_30 : decode cX5_inUse 30 = .ok (.putfield 3, 3) := dk_181 0 3 (dk_at dksX5_inUse_1 8 rfl rfl)
theorem dX5_inUse_33 : decode cX5_inUse 33 = .ok (.aload_n 0, 1) := dk_42 (dk_at dksX5_inUse_1 11 rfl rfl)
theorem dX5_inUse_34 : decode cX5_inUse 34 = .ok (.getfield 3, 3) := dk_180 0 3 (dk_at dksX5_inUse_1 12 rfl rfl)
theorem dX5_inUse_37 : decode cX5_inUse 37 = .ok (.ifCond .le 7, 3) := dk_158 0 7 (dk_at dksX5_inUse_1 15 rfl rfl)
theorem dX5_inUse_40 : decode cX5_inUse 40 = .ok (.iconst 0, 1) := dk_3 (dk_at dksX5_inUse_1 18 rfl rfl)
theorem dX5_inUse_41 : decode cX5_inUse 41 = .ok (.goto 9, 3) := dk_167 0 9 (dk_at dksX5_inUse_1 19 rfl rfl)
theorem dX5_inUse_44 : decode cX5_inUse 44 = .ok (.aload_n 0, 1) := dk_42 (dk_at dksX5_inUse_1 22 rfl rfl)
theorem dX5_inUse_45 : decode cX5_inUse 45 = .ok (.iload_n 1, 1) := dk_27 (dk_at dksX5_inUse_1 23 rfl rfl)
theorem dX5_inUse_46 : decode cX5_inUse 46 = .ok (.iload_n 2, 1) := dk_28 (dk_at dksX5_inUse_2 0 rfl rfl)
theorem dX5_inUse_47 : decode cX5_inUse 47 = .ok (.invokevirtual 252, 3) := dk_182 0 252 (dk_at dksX5_inUse_2 1 rfl rfl)
theorem dX5_inUse_50 : decode cX5_inUse 50 = .ok (.ireturn, 1) := dk_172 (dk_at dksX5_inUse_2 4 rfl rfl)
abbrev cX5_useAt : ByteArray := prog_17_method_57_code
def yX5_useAt : MethodName := ⟨RX5, "useAt", "(II)I"⟩
def dkwX5_useAt_4 : List UInt8 := [167, 255, 177, 21, 4, 172]
abbrev dktX5_useAt_4 : List UInt8 := dkwX5_useAt_4 ++ []
def dkwX5_useAt_3 : List UInt8 := [21, 6, 153, 0, 15, 42, 21, 5, 6, 27, 96, 182, 0, 228, 167, 0, 4, 3, 96, 54, 4, 132, 5, 1]
abbrev dktX5_useAt_3 : List UInt8 := dkwX5_useAt_3 ++ dktX5_useAt_4
def dkwX5_useAt_2 : List UInt8 := [161, 0, 19, 28, 42, 21, 5, 182, 0, 242, 29, 96, 162, 0, 7, 4, 167, 0, 4, 3, 54, 6, 21, 4]
abbrev dktX5_useAt_2 : List UInt8 := dkwX5_useAt_2 ++ dktX5_useAt_3
def dkwX5_useAt_1 : List UInt8 := [162, 0, 74, 42, 21, 5, 182, 0, 239, 153, 0, 33, 28, 42, 21, 5, 16, 10, 182, 0, 228, 29, 100]
abbrev dktX5_useAt_1 : List UInt8 := dkwX5_useAt_1 ++ dktX5_useAt_2
def dkwX5_useAt_0 : List UInt8 := [42, 180, 0, 13, 16, 44, 27, 96, 46, 62, 3, 54, 4, 3, 54, 5, 21, 5, 42, 180, 0, 36, 4, 46]
abbrev dktX5_useAt_0 : List UInt8 := dkwX5_useAt_0 ++ dktX5_useAt_1
theorem dksX5_useAt_0 : cX5_useAt.data.toList.drop 0 = dktX5_useAt_0 := by decide +kernel
theorem dksX5_useAt_1 : cX5_useAt.data.toList.drop 24 = dktX5_useAt_1 := dk_seg dksX5_useAt_0 24 rfl rfl
theorem dksX5_useAt_2 : cX5_useAt.data.toList.drop 47 = dktX5_useAt_2 := dk_seg dksX5_useAt_1 23 rfl rfl
theorem dksX5_useAt_3 : cX5_useAt.data.toList.drop 71 = dktX5_useAt_3 := dk_seg dksX5_useAt_2 24 rfl rfl
theorem dksX5_useAt_4 : cX5_useAt.data.toList.drop 95 = dktX5_useAt_4 := dk_seg dksX5_useAt_3 24 rfl rfl
theorem dX5_useAt_0 : decode cX5_useAt 0 = .ok (.aload_n 0, 1) := dk_42 (dk_at dksX5_useAt_0 0 rfl rfl)
theorem dX5_useAt_1 : decode cX5_useAt 1 = .ok (.getfield 13, 3) := dk_180 0 13 (dk_at dksX5_useAt_0 1 rfl rfl)
theorem dX5_useAt_4 : decode cX5_useAt 4 = .ok (.bipush 44, 2) := dk_16 44 (dk_at dksX5_useAt_0 4 rfl rfl)
theorem dX5_useAt_6 : decode cX5_useAt 6 = .ok (.iload_n 1, 1) := dk_27 (dk_at dksX5_useAt_0 6 rfl rfl)
theorem dX5_useAt_7 : decode cX5_useAt 7 = .ok (.iadd, 1) := dk_96 (dk_at dksX5_useAt_0 7 rfl rfl)
theorem dX5_useAt_8 : decode cX5_useAt 8 = .ok (.iaload, 1) := dk_46 (dk_at dksX5_useAt_0 8 rfl rfl)
theorem dX5_useAt_9 : decode cX5_useAt 9 = .ok (.istore_n 3, 1) := dk_62 (dk_at dksX5_useAt_0 9 rfl rfl)
theorem dX5_useAt_10 : decode cX5_useAt 10 = .ok (.iconst 0, 1) := dk_3 (dk_at dksX5_useAt_0 10 rfl rfl)
theorem dX5_useAt_11 : decode cX5_useAt 11 = .ok (.istore 4, 2) := dk_54 4 (dk_at dksX5_useAt_0 11 rfl rfl)
theorem dX5_useAt_13 : decode cX5_useAt 13 = .ok (.iconst 0, 1) := dk_3 (dk_at dksX5_useAt_0 13 rfl rfl)
theorem dX5_useAt_14 : decode cX5_useAt 14 = .ok (.istore 5, 2) := dk_54 5 (dk_at dksX5_useAt_0 14 rfl rfl)
theorem dX5_useAt_16 : decode cX5_useAt 16 = .ok (.iload 5, 2) := dk_21 5 (dk_at dksX5_useAt_0 16 rfl rfl)
theorem dX5_useAt_18 : decode cX5_useAt 18 = .ok (.aload_n 0, 1) := dk_42 (dk_at dksX5_useAt_0 18 rfl rfl)
theorem dX5_useAt_19 : decode cX5_useAt 19 = .ok (.getfield 36, 3) := dk_180 0 36 (dk_at dksX5_useAt_0 19 rfl rfl)
theorem dX5_useAt_22 : decode cX5_useAt 22 = .ok (.iconst 1, 1) := dk_4 (dk_at dksX5_useAt_0 22 rfl rfl)
theorem dX5_useAt_23 : decode cX5_useAt 23 = .ok (.iaload, 1) := dk_46 (dk_at dksX5_useAt_0 23 rfl rfl)
theorem dX5_useAt_24 : decode cX5_useAt 24 = .ok (.if_icmp .ge 74, 3) := dk_162 0 74 (dk_at dksX5_useAt_1 0 rfl rfl)
theorem dX5_useAt_27 : decode cX5_useAt 27 = .ok (.aload_n 0, 1) := dk_42 (dk_at dksX5_useAt_1 3 rfl rfl)
theorem dX5_useAt_28 : decode cX5_useAt 28 = .ok (.iload 5, 2) := dk_21 5 (dk_at dksX5_useAt_1 4 rfl rfl)
theorem dX5_useAt_30 : decode cX5_useAt 30 = .ok (.invokevirtual 239, 3) := dk_182 0 239 (dk_at dksX5_useAt_1 6 rfl rfl)
theorem dX5_useAt_33 : decode cX5_useAt 33 = .ok (.ifCond .eq 33, 3) := dk_153 0 33 (dk_at dksX5_useAt_1 9 rfl rfl)
theorem dX5_useAt_36 : decode cX5_useAt 36 = .ok (.iload_n 2, 1) := dk_28 (dk_at dksX5_useAt_1 12 rfl rfl)
theorem dX5_useAt_37 : decode cX5_useAt 37 = .ok (.aload_n 0, 1) := dk_42 (dk_at dksX5_useAt_1 13 rfl rfl)
theorem dX5_useAt_38 : decode cX5_useAt 38 = .ok (.iload 5, 2) := dk_21 5 (dk_at dksX5_useAt_1 14 rfl rfl)
theorem dX5_useAt_40 : decode cX5_useAt 40 = .ok (.bipush 10, 2) := dk_16 10 (dk_at dksX5_useAt_1 16 rfl rfl)
theorem dX5_useAt_42 : decode cX5_useAt 42 = .ok (.invokevirtual 228, 3) := dk_182 0 228 (dk_at dksX5_useAt_1 18 rfl rfl)
theorem dX5_useAt_45 : decode cX5_useAt 45 = .ok (.iload_n 3, 1) := dk_29 (dk_at dksX5_useAt_1 21 rfl rfl)
theorem dX5_useAt_46 : decode cX5_useAt 46 = .ok (.isub, 1) := dk_100 (dk_at dksX5_useAt_1 22 rfl rfl)
theorem dX5_useAt_47 : decode cX5_useAt 47 = .ok (.if_icmp .lt 19, 3) := dk_161 0 19 (dk_at dksX5_useAt_2 0 rfl rfl)
theorem dX5_useAt_50 : decode cX5_useAt 50 = .ok (.iload_n 2, 1) := dk_28 (dk_at dksX5_useAt_2 3 rfl rfl)
theorem dX5_useAt_51 : decode cX5_useAt 51 = .ok (.aload_n 0, 1) := dk_42 (dk_at dksX5_useAt_2 4 rfl rfl)
theorem dX5_useAt_52 : decode cX5_useAt 52 = .ok (.iload 5, 2) := dk_21 5 (dk_at dksX5_useAt_2 5 rfl rfl)
theorem dX5_useAt_54 : decode cX5_useAt 54 = .ok (.invokevirtual 242, 3) := dk_182 0 242 (dk_at dksX5_useAt_2 7 rfl rfl)
theorem dX5_useAt_57 : decode cX5_useAt 57 = .ok (.iload_n 3, 1) := dk_29 (dk_at dksX5_useAt_2 10 rfl rfl)
theorem dX5_useAt_58 : decode cX5_useAt 58 = .ok (.iadd, 1) := dk_96 (dk_at dksX5_useAt_2 11 rfl rfl)
theorem dX5_useAt_59 : decode cX5_useAt 59 = .ok (.if_icmp .ge 7, 3) := dk_162 0 7 (dk_at dksX5_useAt_2 12 rfl rfl)
theorem dX5_useAt_62 : decode cX5_useAt 62 = .ok (.iconst 1, 1) := dk_4 (dk_at dksX5_useAt_2 15 rfl rfl)
theorem dX5_useAt_63 : decode cX5_useAt 63 = .ok (.goto 4, 3) := dk_167 0 4 (dk_at dksX5_useAt_2 16 rfl rfl)
theorem dX5_useAt_66 : decode cX5_useAt 66 = .ok (.iconst 0, 1) := dk_3 (dk_at dksX5_useAt_2 19 rfl rfl)
theorem dX5_useAt_67 : decode cX5_useAt 67 = .ok (.istore 6, 2) := dk_54 6 (dk_at dksX5_useAt_2 20 rfl rfl)
theorem dX5_useAt_69 : decode cX5_useAt 69 = .ok (.iload 4, 2) := dk_21 4 (dk_at dksX5_useAt_2 22 rfl rfl)
theorem dX5_useAt_71 : decode cX5_useAt 71 = .ok (.iload 6, 2) := dk_21 6 (dk_at dksX5_useAt_3 0 rfl rfl)
theorem dX5_useAt_73 : decode cX5_useAt 73 = .ok (.ifCond .eq 15, 3) := dk_153 0 15 (dk_at dksX5_useAt_3 2 rfl rfl)
theorem dX5_useAt_76 : decode cX5_useAt 76 = .ok (.aload_n 0, 1) := dk_42 (dk_at dksX5_useAt_3 5 rfl rfl)
theorem dX5_useAt_77 : decode cX5_useAt 77 = .ok (.iload 5, 2) := dk_21 5 (dk_at dksX5_useAt_3 6 rfl rfl)
theorem dX5_useAt_79 : decode cX5_useAt 79 = .ok (.iconst 3, 1) := dk_6 (dk_at dksX5_useAt_3 8 rfl rfl)
theorem dX5_useAt_80 : decode cX5_useAt 80 = .ok (.iload_n 1, 1) := dk_27 (dk_at dksX5_useAt_3 9 rfl rfl)
theorem dX5_useAt_81 : decode cX5_useAt 81 = .ok (.iadd, 1) := dk_96 (dk_at dksX5_useAt_3 10 rfl rfl)
theorem dX5_useAt_82 : decode cX5_useAt 82 = .ok (.invokevirtual 228, 3) := dk_182 0 228 (dk_at dksX5_useAt_3 11 rfl rfl)
theorem dX5_useAt_85 : decode cX5_useAt 85 = .ok (.goto 4, 3) := dk_167 0 4 (dk_at dksX5_useAt_3 14 rfl rfl)
theorem dX5_useAt_88 : decode cX5_useAt 88 = .ok (.iconst 0, 1) := dk_3 (dk_at dksX5_useAt_3 17 rfl rfl)
theorem dX5_useAt_89 : decode cX5_useAt 89 = .ok (.iadd, 1) := dk_96 (dk_at dksX5_useAt_3 18 rfl rfl)
theorem dX5_useAt_90 : decode cX5_useAt 90 = .ok (.istore 4, 2) := dk_54 4 (dk_at dksX5_useAt_3 19 rfl rfl)
theorem dX5_useAt_92 : decode cX5_useAt 92 = .ok (.iinc 5 1, 3) := dk_132 5 1 (dk_at dksX5_useAt_3 21 rfl rfl)
theorem dX5_useAt_95 : decode cX5_useAt 95 = .ok (.goto (-79), 3) := dk_167 255 177 (dk_at dksX5_useAt_4 0 rfl rfl)
theorem dX5_useAt_98 : decode cX5_useAt 98 = .ok (.iload 4, 2) := dk_21 4 (dk_at dksX5_useAt_4 3 rfl rfl)
theorem dX5_useAt_100 : decode cX5_useAt 100 = .ok (.ireturn, 1) := dk_172 (dk_at dksX5_useAt_4 5 rfl rfl)
abbrev cX5_peak : ByteArray := prog_17_method_116_code
def yX5_peak : MethodName := ⟨RX5, "peak", "(II)I"⟩
def dkwX5_peak_2 : List UInt8 := [17, 5, 160, 28, 104, 17, 5, 160, 28, 4, 96, 104, 182, 1, 139, 172]
abbrev dktX5_peak_2 : List UInt8 := dkwX5_peak_2 ++ []
def dkwX5_peak_1 : List UInt8 := [154, 0, 7, 5, 167, 0, 4, 3, 181, 0, 3, 42, 180, 0, 3, 158, 0, 7, 3, 167, 0, 20, 42, 27]
abbrev dktX5_peak_1 : List UInt8 := dkwX5_peak_1 ++ dktX5_peak_2
def dkwX5_peak_0 : List UInt8 := [42, 42, 27, 182, 1, 39, 154, 0, 7, 4, 167, 0, 20, 28, 133, 9, 20, 1, 137, 184, 0, 90]
abbrev dktX5_peak_0 : List UInt8 := dkwX5_peak_0 ++ dktX5_peak_1
theorem dksX5_peak_0 : cX5_peak.data.toList.drop 0 = dktX5_peak_0 := by decide +kernel
theorem dksX5_peak_1 : cX5_peak.data.toList.drop 22 = dktX5_peak_1 := dk_seg dksX5_peak_0 22 rfl rfl
theorem dksX5_peak_2 : cX5_peak.data.toList.drop 46 = dktX5_peak_2 := dk_seg dksX5_peak_1 24 rfl rfl
theorem dX5_peak_0 : decode cX5_peak 0 = .ok (.aload_n 0, 1) := dk_42 (dk_at dksX5_peak_0 0 rfl rfl)
theorem dX5_peak_1 : decode cX5_peak 1 = .ok (.aload_n 0, 1) := dk_42 (dk_at dksX5_peak_0 1 rfl rfl)
theorem dX5_peak_2 : decode cX5_peak 2 = .ok (.iload_n 1, 1) := dk_27 (dk_at dksX5_peak_0 2 rfl rfl)
theorem dX5_peak_3 : decode cX5_peak 3 = .ok (.invokevirtual 295, 3) := dk_182 1 39 (dk_at dksX5_peak_0 3 rfl rfl)
theorem dX5_peak_6 : decode cX5_peak 6 = .ok (.ifCond .ne 7, 3) := dk_154 0 7 (dk_at dksX5_peak_0 6 rfl rfl)
theorem dX5_peak_9 : decode cX5_peak 9 = .ok (.iconst 1, 1) := dk_4 (dk_at dksX5_peak_0 9 rfl rfl)
theorem dX5_peak_10 : decode cX5_peak 10 = .ok (.goto 20, 3) := dk_167 0 20 (dk_at dksX5_peak_0 10 rfl rfl)
theorem dX5_peak_13 : decode cX5_peak 13 = .ok (.iload_n 2, 1) := dk_28 (dk_at dksX5_peak_0 13 rfl rfl)
theorem dX5_peak_14 : decode cX5_peak 14 = .ok (.i2l, 1) := dk_133 (dk_at dksX5_peak_0 14 rfl rfl)
theorem dX5_peak_15 : decode cX5_peak 15 = .ok (.lconst 0, 1) := dk_9 (dk_at dksX5_peak_0 15 rfl rfl)
theorem dX5_peak_16 : decode cX5_peak 16 = .ok (.ldc2_w 393, 3) := dk_20 1 137 (dk_at dksX5_peak_0 16 rfl rfl)
theorem dX5_peak_19 : decode cX5_peak 19 = .ok (.invokestatic 90, 3) := dk_184 0 90 (dk_at dksX5_peak_0 19 rfl rfl)
theorem dX5_peak_22 : decode cX5_peak 22 = .ok (.ifCond .ne 7, 3) := dk_154 0 7 (dk_at dksX5_peak_1 0 rfl rfl)
theorem dX5_peak_25 : decode cX5_peak 25 = .ok (.iconst 2, 1) := dk_5 (dk_at dksX5_peak_1 3 rfl rfl)
theorem dX5_peak_26 : decode cX5_peak 26 = .ok (.goto 4, 3) := dk_167 0 4 (dk_at dksX5_peak_1 4 rfl rfl)
theorem dX5_peak_29 : decode cX5_peak 29 = .ok (.iconst 0, 1) := dk_3 (dk_at dksX5_peak_1 7 rfl rfl)
theorem dX5_peak_30 : decode cX5_peak 30 = .ok (.putfield 3, 3) := dk_181 0 3 (dk_at dksX5_peak_1 8 rfl rfl)
theorem dX5_peak_33 : decode cX5_peak 33 = .ok (.aload_n 0, 1) := dk_42 (dk_at dksX5_peak_1 11 rfl rfl)
theorem dX5_peak_34 : decode cX5_peak 34 = .ok (.getfield 3, 3) := dk_180 0 3 (dk_at dksX5_peak_1 12 rfl rfl)
theorem dX5_peak_37 : decode cX5_peak 37 = .ok (.ifCond .le 7, 3) := dk_158 0 7 (dk_at dksX5_peak_1 15 rfl rfl)
theorem dX5_peak_40 : decode cX5_peak 40 = .ok (.iconst 0, 1) := dk_3 (dk_at dksX5_peak_1 18 rfl rfl)
theorem dX5_peak_41 : decode cX5_peak 41 = .ok (.goto 20, 3) := dk_167 0 20 (dk_at dksX5_peak_1 19 rfl rfl)
theorem dX5_peak_44 : decode cX5_peak 44 = .ok (.aload_n 0, 1) := dk_42 (dk_at dksX5_peak_1 22 rfl rfl)
theorem dX5_peak_45 : decode cX5_peak 45 = .ok (.iload_n 1, 1) := dk_27 (dk_at dksX5_peak_1 23 rfl rfl)
theorem dX5_peak_46 : decode cX5_peak 46 = .ok (.sipush 1440, 3) := dk_17 5 160 (dk_at dksX5_peak_2 0 rfl rfl)
theorem dX5_peak_49 : decode cX5_peak 49 = .ok (.iload_n 2, 1) := dk_28 (dk_at dksX5_peak_2 3 rfl rfl)
theorem dX5_peak_50 : decode cX5_peak 50 = .ok (.imul, 1) := dk_104 (dk_at dksX5_peak_2 4 rfl rfl)
theorem dX5_peak_51 : decode cX5_peak 51 = .ok (.sipush 1440, 3) := dk_17 5 160 (dk_at dksX5_peak_2 5 rfl rfl)
theorem dX5_peak_54 : decode cX5_peak 54 = .ok (.iload_n 2, 1) := dk_28 (dk_at dksX5_peak_2 8 rfl rfl)
theorem dX5_peak_55 : decode cX5_peak 55 = .ok (.iconst 1, 1) := dk_4 (dk_at dksX5_peak_2 9 rfl rfl)
theorem dX5_peak_56 : decode cX5_peak 56 = .ok (.iadd, 1) := dk_96 (dk_at dksX5_peak_2 10 rfl rfl)
theorem dX5_peak_57 : decode cX5_peak 57 = .ok (.imul, 1) := dk_104 (dk_at dksX5_peak_2 11 rfl rfl)
theorem dX5_peak_58 : decode cX5_peak 58 = .ok (.invokevirtual 395, 3) := dk_182 1 139 (dk_at dksX5_peak_2 12 rfl rfl)
theorem dX5_peak_61 : decode cX5_peak 61 = .ok (.ireturn, 1) := dk_172 (dk_at dksX5_peak_2 15 rfl rfl)
abbrev cX5_peakIn : ByteArray := prog_17_method_58_code
def yX5_peakIn : MethodName := ⟨RX5, "peakIn", "(III)I"⟩
def dkwX5_peakIn_3 : List UInt8 := [182, 0, 252, 184, 0, 255, 54, 4, 132, 5, 1, 167, 255, 187, 21, 4, 172]
abbrev dktX5_peakIn_3 : List UInt8 := dkwX5_peakIn_3 ++ []
def dkwX5_peakIn_2 : List UInt8 := [182, 0, 239, 153, 0, 29, 21, 6, 28, 164, 0, 23, 21, 6, 29, 162, 0, 17, 21, 4, 42, 27, 21, 6]
abbrev dktX5_peakIn_2 : List UInt8 := dkwX5_peakIn_2 ++ dktX5_peakIn_3
def dkwX5_peakIn_1 : List UInt8 := [21, 5, 16, 10, 182, 0, 228, 42, 180, 0, 13, 16, 44, 27, 96, 46, 100, 54, 6, 42, 21, 5]
abbrev dktX5_peakIn_1 : List UInt8 := dkwX5_peakIn_1 ++ dktX5_peakIn_2
def dkwX5_peakIn_0 : List UInt8 := [42, 27, 28, 182, 0, 252, 54, 4, 3, 54, 5, 21, 5, 42, 180, 0, 36, 4, 46, 162, 0, 64, 42]
abbrev dktX5_peakIn_0 : List UInt8 := dkwX5_peakIn_0 ++ dktX5_peakIn_1
theorem dksX5_peakIn_0 : cX5_peakIn.data.toList.drop 0 = dktX5_peakIn_0 := by decide +kernel
theorem dksX5_peakIn_1 : cX5_peakIn.data.toList.drop 23 = dktX5_peakIn_1 := dk_seg dksX5_peakIn_0 23 rfl rfl
theorem dksX5_peakIn_2 : cX5_peakIn.data.toList.drop 45 = dktX5_peakIn_2 := dk_seg dksX5_peakIn_1 22 rfl rfl
theorem dksX5_peakIn_3 : cX5_peakIn.data.toList.drop 69 = dktX5_peakIn_3 := dk_seg dksX5_peakIn_2 24 rfl rfl
theorem dX5_peakIn_0 : decode cX5_peakIn 0 = .ok (.aload_n 0, 1) := dk_42 (dk_at dksX5_peakIn_0 0 rfl rfl)
theorem dX5_peakIn_1 : decode cX5_peakIn 1 = .ok (.iload_n 1, 1) := dk_27 (dk_at dksX5_peakIn_0 1 rfl rfl)
theorem dX5_peakIn_2 : decode cX5_peakIn 2 = .ok (.iload_n 2, 1) := dk_28 (dk_at dksX5_peakIn_0 2 rfl rfl)
theorem dX5_peakIn_3 : decode cX5_peakIn 3 = .ok (.invokevirtual 252, 3) := dk_182 0 252 (dk_at dksX5_peakIn_0 3 rfl rfl)
theorem dX5_peakIn_6 : decode cX5_peakIn 6 = .ok (.istore 4, 2) := dk_54 4 (dk_at dksX5_peakIn_0 6 rfl rfl)
theorem dX5_peakIn_8 : decode cX5_peakIn 8 = .ok (.iconst 0, 1) := dk_3 (dk_at dksX5_peakIn_0 8 rfl rfl)
theorem dX5_peakIn_9 : decode cX5_peakIn 9 = .ok (.istore 5, 2) := dk_54 5 (dk_at dksX5_peakIn_0 9 rfl rfl)
theorem dX5_peakIn_11 : decode cX5_peakIn 11 = .ok (.iload 5, 2) := dk_21 5 (dk_at dksX5_peakIn_0 11 rfl rfl)
theorem dX5_peakIn_13 : decode cX5_peakIn 13 = .ok (.aload_n 0, 1) := dk_42 (dk_at dksX5_peakIn_0 13 rfl rfl)
theorem dX5_peakIn_14 : decode cX5_peakIn 14 = .ok (.getfield 36, 3) := dk_180 0 36 (dk_at dksX5_peakIn_0 14 rfl rfl)
theorem dX5_peakIn_17 : decode cX5_peakIn 17 = .ok (.iconst 1, 1) := dk_4 (dk_at dksX5_peakIn_0 17 rfl rfl)
theorem dX5_peakIn_18 : decode cX5_peakIn 18 = .ok (.iaload, 1) := dk_46 (dk_at dksX5_peakIn_0 18 rfl rfl)
theorem dX5_peakIn_19 : decode cX5_peakIn 19 = .ok (.if_icmp .ge 64, 3) := dk_162 0 64 (dk_at dksX5_peakIn_0 19 rfl rfl)
theorem dX5_peakIn_22 : decode cX5_peakIn 22 = .ok (.aload_n 0, 1) := dk_42 (dk_at dksX5_peakIn_0 22 rfl rfl)
theorem dX5_peakIn_23 : decode cX5_peakIn 23 = .ok (.iload 5, 2) := dk_21 5 (dk_at dksX5_peakIn_1 0 rfl rfl)
theorem dX5_peakIn_25 : decode cX5_peakIn 25 = .ok (.bipush 10, 2) := dk_16 10 (dk_at dksX5_peakIn_1 2 rfl rfl)
theorem dX5_peakIn_27 : decode cX5_peakIn 27 = .ok (.invokevirtual 228, 3) := dk_182 0 228 (dk_at dksX5_peakIn_1 4 rfl rfl)
theorem dX5_peakIn_30 : decode cX5_peakIn 30 = .ok (.aload_n 0, 1) := dk_42 (dk_at dksX5_peakIn_1 7 rfl rfl)
theorem dX5_peakIn_31 : decode cX5_peakIn 31 = .ok (.getfield 13, 3) := dk_180 0 13 (dk_at dksX5_peakIn_1 8 rfl rfl)
theorem dX5_peakIn_34 : decode cX5_peakIn 34 = .ok (.bipush 44, 2) := dk_16 44 (dk_at dksX5_peakIn_1 11 rfl rfl)
theorem dX5_peakIn_36 : decode cX5_peakIn 36 = .ok (.iload_n 1, 1) := dk_27 (dk_at dksX5_peakIn_1 13 rfl rfl)
theorem dX5_peakIn_37 : decode cX5_peakIn 37 = .ok (.iadd, 1) := dk_96 (dk_at dksX5_peakIn_1 14 rfl rfl)
theorem dX5_peakIn_38 : decode cX5_peakIn 38 = .ok (.iaload, 1) := dk_46 (dk_at dksX5_peakIn_1 15 rfl rfl)
theorem dX5_peakIn_39 : decode cX5_peakIn 39 = .ok (.isub, 1) := dk_100 (dk_at dksX5_peakIn_1 16 rfl rfl)
theorem dX5_peakIn_40 : decode cX5_peakIn 40 = .ok (.istore 6, 2) := dk_54 6 (dk_at dksX5_peakIn_1 17 rfl rfl)
theorem dX5_peakIn_42 : decode cX5_peakIn 42 = .ok (.aload_n 0, 1) := dk_42 (dk_at dksX5_peakIn_1 19 rfl rfl)
theorem dX5_peakIn_43 : decode cX5_peakIn 43 = .ok (.iload 5, 2) := dk_21 5 (dk_at dksX5_peakIn_1 20 rfl rfl)
theorem dX5_peakIn_45 : decode cX5_peakIn 45 = .ok (.invokevirtual 239, 3) := dk_182 0 239 (dk_at dksX5_peakIn_2 0 rfl rfl)
theorem dX5_peakIn_48 : decode cX5_peakIn 48 = .ok (.ifCond .eq 29, 3) := dk_153 0 29 (dk_at dksX5_peakIn_2 3 rfl rfl)
theorem dX5_peakIn_51 : decode cX5_peakIn 51 = .ok (.iload 6, 2) := dk_21 6 (dk_at dksX5_peakIn_2 6 rfl rfl)
theorem dX5_peakIn_53 : decode cX5_peakIn 53 = .ok (.iload_n 2, 1) := dk_28 (dk_at dksX5_peakIn_2 8 rfl rfl)
theorem dX5_peakIn_54 : decode cX5_peakIn 54 = .ok (.if_icmp .le 23, 3) := dk_164 0 23 (dk_at dksX5_peakIn_2 9 rfl rfl)
theorem dX5_peakIn_57 : decode cX5_peakIn 57 = .ok (.iload 6, 2) := dk_21 6 (dk_at dksX5_peakIn_2 12 rfl rfl)
theorem dX5_peakIn_59 : decode cX5_peakIn 59 = .ok (.iload_n 3, 1) := dk_29 (dk_at dksX5_peakIn_2 14 rfl rfl)
theorem dX5_peakIn_60 : decode cX5_peakIn 60 = .ok (.if_icmp .ge 17, 3) := dk_162 0 17 (dk_at dksX5_peakIn_2 15 rfl rfl)
theorem dX5_peakIn_63 : decode cX5_peakIn 63 = .ok (.iload 4, 2) := dk_21 4 (dk_at dksX5_peakIn_2 18 rfl rfl)
theorem dX5_peakIn_65 : decode cX5_peakIn 65 = .ok (.aload_n 0, 1) := dk_42 (dk_at dksX5_peakIn_2 20 rfl rfl)
theorem dX5_peakIn_66 : decode cX5_peakIn 66 = .ok (.iload_n 1, 1) := dk_27 (dk_at dksX5_peakIn_2 21 rfl rfl)
theorem dX5_peakIn_67 : decode cX5_peakIn 67 = .ok (.iload 6, 2) := dk_21 6 (dk_at dksX5_peakIn_2 22 rfl rfl)
theorem dX5_peakIn_69 : decode cX5_peakIn 69 = .ok (.invokevirtual 252, 3) := dk_182 0 252 (dk_at dksX5_peakIn_3 0 rfl rfl)
theorem dX5_peakIn_72 : decode cX5_peakIn 72 = .ok (.invokestatic 255, 3) := dk_184 0 255 (dk_at dksX5_peakIn_3 3 rfl rfl)
theorem dX5_peakIn_75 : decode cX5_peakIn 75 = .ok (.istore 4, 2) := dk_54 4 (dk_at dksX5_peakIn_3 6 rfl rfl)
theorem dX5_peakIn_77 : decode cX5_peakIn 77 = .ok (.iinc 5 1, 3) := dk_132 5 1 (dk_at dksX5_peakIn_3 8 rfl rfl)
theorem dX5_peakIn_80 : decode cX5_peakIn 80 = .ok (.goto (-69), 3) := dk_167 255 187 (dk_at dksX5_peakIn_3 11 rfl rfl)
theorem dX5_peakIn_83 : decode cX5_peakIn 83 = .ok (.iload 4, 2) := dk_21 4 (dk_at dksX5_peakIn_3 14 rfl rfl)
theorem dX5_peakIn_85 : decode cX5_peakIn 85 = .ok (.ireturn, 1) := dk_172 (dk_at dksX5_peakIn_3 16 rfl rfl)
abbrev cX5_occupancy : ByteArray := prog_17_method_119_code
def yX5_occupancy : MethodName := ⟨RX5, "occupancy", "(II)I"⟩
def dkwX5_occupancy_3 : List UInt8 := [180, 0, 13, 16, 20, 27, 96, 46, 42, 180, 0, 13, 16, 14, 27, 96, 46, 100, 108, 172]
abbrev dktX5_occupancy_3 : List UInt8 := dkwX5_occupancy_3 ++ []
def dkwX5_occupancy_2 : List UInt8 := [21, 4, 5, 182, 0, 228, 167, 0, 4, 3, 96, 62, 132, 4, 1, 167, 255, 217, 16, 100, 29, 104, 42]
abbrev dktX5_occupancy_2 : List UInt8 := dkwX5_occupancy_2 ++ dktX5_occupancy_3
def dkwX5_occupancy_1 : List UInt8 := [21, 4, 42, 180, 0, 36, 4, 46, 162, 0, 34, 29, 42, 21, 4, 27, 28, 182, 1, 145, 153, 0, 13, 42]
abbrev dktX5_occupancy_1 : List UInt8 := dkwX5_occupancy_1 ++ dktX5_occupancy_2
def dkwX5_occupancy_0 : List UInt8 := [42, 42, 27, 28, 182, 1, 142, 181, 0, 3, 42, 180, 0, 3, 158, 0, 5, 3, 172, 3, 62, 3, 54, 4]
abbrev dktX5_occupancy_0 : List UInt8 := dkwX5_occupancy_0 ++ dktX5_occupancy_1
theorem dksX5_occupancy_0 : cX5_occupancy.data.toList.drop 0 = dktX5_occupancy_0 := by decide +kernel
theorem dksX5_occupancy_1 : cX5_occupancy.data.toList.drop 24 = dktX5_occupancy_1 := dk_seg dksX5_occupancy_0 24 rfl rfl
theorem dksX5_occupancy_2 : cX5_occupancy.data.toList.drop 48 = dktX5_occupancy_2 := dk_seg dksX5_occupancy_1 24 rfl rfl
theorem dksX5_occupancy_3 : cX5_occupancy.data.toList.drop 71 = dktX5_occupancy_3 := dk_seg dksX5_occupancy_2 23 rfl rfl
theorem dX5_occupancy_0 : decode cX5_occupancy 0 = .ok (.aload_n 0, 1) := dk_42 (dk_at dksX5_occupancy_0 0 rfl rfl)
theorem dX5_occupancy_1 : decode cX5_occupancy 1 = .ok (.aload_n 0, 1) := dk_42 (dk_at dksX5_occupancy_0 1 rfl rfl)
theorem dX5_occupancy_2 : decode cX5_occupancy 2 = .ok (.iload_n 1, 1) := dk_27 (dk_at dksX5_occupancy_0 2 rfl rfl)
theorem dX5_occupancy_3 : decode cX5_occupancy 3 = .ok (.iload_n 2, 1) := dk_28 (dk_at dksX5_occupancy_0 3 rfl rfl)
theorem dX5_occupancy_4 : decode cX5_occupancy 4 = .ok (.invokevirtual 398, 3) := dk_182 1 142 (dk_at dksX5_occupancy_0 4 rfl rfl)
theorem dX5_occupancy_7 : decode cX5_occupancy 7 = .ok (.putfield 3, 3) := dk_181 0 3 (dk_at dksX5_occupancy_0 7 rfl rfl)
theorem dX5_occupancy_10 : decode cX5_occupancy 10 = .ok (.aload_n 0, 1) := dk_42 (dk_at dksX5_occupancy_0 10 rfl rfl)
theorem dX5_occupancy_11 : decode cX5_occupancy 11 = .ok (.getfield 3, 3) := dk_180 0 3 (dk_at dksX5_occupancy_0 11 rfl rfl)
theorem dX5_occupancy_14 : decode cX5_occupancy 14 = .ok (.ifCond .le 5, 3) := dk_158 0 5 (dk_at dksX5_occupancy_0 14 rfl rfl)
theorem dX5_occupancy_17 : decode cX5_occupancy 17 = .ok (.iconst 0, 1) := dk_3 (dk_at dksX5_occupancy_0 17 rfl rfl)
theorem dX5_occupancy_18 : decode cX5_occupancy 18 = .ok (.ireturn, 1) := dk_172 (dk_at dksX5_occupancy_0 18 rfl rfl)
theorem dX5_occupancy_19 : decode cX5_occupancy 19 = .ok (.iconst 0, 1) := dk_3 (dk_at dksX5_occupancy_0 19 rfl rfl)
theorem dX5_occupancy_20 : decode cX5_occupancy 20 = .ok (.istore_n 3, 1) := dk_62 (dk_at dksX5_occupancy_0 20 rfl rfl)
theorem dX5_occupancy_21 : decode cX5_occupancy 21 = .ok (.iconst 0, 1) := dk_3 (dk_at dksX5_occupancy_0 21 rfl rfl)
theorem dX5_occupancy_22 : decode cX5_occupancy 22 = .ok (.istore 4, 2) := dk_54 4 (dk_at dksX5_occupancy_0 22 rfl rfl)
theorem dX5_occupancy_24 : decode cX5_occupancy 24 = .ok (.iload 4, 2) := dk_21 4 (dk_at dksX5_occupancy_1 0 rfl rfl)
theorem dX5_occupancy_26 : decode cX5_occupancy 26 = .ok (.aload_n 0, 1) := dk_42 (dk_at dksX5_occupancy_1 2 rfl rfl)
theorem dX5_occupancy_27 : decode cX5_occupancy 27 = .ok (.getfield 36, 3) := dk_180 0 36 (dk_at dksX5_occupancy_1 3 rfl rfl)
theorem dX5_occupancy_30 : decode cX5_occupancy 30 = .ok (.iconst 1, 1) := dk_4 (dk_at dksX5_occupancy_1 6 rfl rfl)
theorem dX5_occupancy_31 : decode cX5_occupancy 31 = .ok (.iaload, 1) := dk_46 (dk_at dksX5_occupancy_1 7 rfl rfl)
theorem dX5_occupancy_32 : decode cX5_occupancy 32 = .ok (.if_icmp .ge 34, 3) := dk_162 0 34 (dk_at dksX5_occupancy_1 8 rfl rfl)
theorem dX5_occupancy_35 : decode cX5_occupancy 35 = .ok (.iload_n 3, 1) := dk_29 (dk_at dksX5_occupancy_1 11 rfl rfl)
theorem dX5_occupancy_36 : decode cX5_occupancy 36 = .ok (.aload_n 0, 1) := dk_42 (dk_at dksX5_occupancy_1 12 rfl rfl)
theorem dX5_occupancy_37 : decode cX5_occupancy 37 = .ok (.iload 4, 2) := dk_21 4 (dk_at dksX5_occupancy_1 13 rfl rfl)
theorem dX5_occupancy_39 : decode cX5_occupancy 39 = .ok (.iload_n 1, 1) := dk_27 (dk_at dksX5_occupancy_1 15 rfl rfl)
theorem dX5_occupancy_40 : decode cX5_occupancy 40 = .ok (.iload_n 2, 1) := dk_28 (dk_at dksX5_occupancy_1 16 rfl rfl)
theorem dX5_occupancy_41 : decode cX5_occupancy 41 = .ok (.invokevirtual 401, 3) := dk_182 1 145 (dk_at dksX5_occupancy_1 17 rfl rfl)
theorem dX5_occupancy_44 : decode cX5_occupancy 44 = .ok (.ifCond .eq 13, 3) := dk_153 0 13 (dk_at dksX5_occupancy_1 20 rfl rfl)
theorem dX5_occupancy_47 : decode cX5_occupancy 47 = .ok (.aload_n 0, 1) := dk_42 (dk_at dksX5_occupancy_1 23 rfl rfl)
theorem dX5_occupancy_48 : decode cX5_occupancy 48 = .ok (.iload 4, 2) := dk_21 4 (dk_at dksX5_occupancy_2 0 rfl rfl)
theorem dX5_occupancy_50 : decode cX5_occupancy 50 = .ok (.iconst 2, 1) := dk_5 (dk_at dksX5_occupancy_2 2 rfl rfl)
theorem dX5_occupancy_51 : decode cX5_occupancy 51 = .ok (.invokevirtual 228, 3) := dk_182 0 228 (dk_at dksX5_occupancy_2 3 rfl rfl)
theorem dX5_occupancy_54 : decode cX5_occupancy 54 = .ok (.goto 4, 3) := dk_167 0 4 (dk_at dksX5_occupancy_2 6 rfl rfl)
theorem dX5_occupancy_57 : decode cX5_occupancy 57 = .ok (.iconst 0, 1) := dk_3 (dk_at dksX5_occupancy_2 9 rfl rfl)
theorem dX5_occupancy_58 : decode cX5_occupancy 58 = .ok (.iadd, 1) := dk_96 (dk_at dksX5_occupancy_2 10 rfl rfl)
theorem dX5_occupancy_59 : decode cX5_occupancy 59 = .ok (.istore_n 3, 1) := dk_62 (dk_at dksX5_occupancy_2 11 rfl rfl)
theorem dX5_occupancy_60 : decode cX5_occupancy 60 = .ok (.iinc 4 1, 3) := dk_132 4 1 (dk_at dksX5_occupancy_2 12 rfl rfl)
theorem dX5_occupancy_63 : decode cX5_occupancy 63 = .ok (.goto (-39), 3) := dk_167 255 217 (dk_at dksX5_occupancy_2 15 rfl rfl)
theorem dX5_occupancy_66 : decode cX5_occupancy 66 = .ok (.bipush 100, 2) := dk_16 100 (dk_at dksX5_occupancy_2 18 rfl rfl)
theorem dX5_occupancy_68 : decode cX5_occupancy 68 = .ok (.iload_n 3, 1) := dk_29 (dk_at dksX5_occupancy_2 20 rfl rfl)
theorem dX5_occupancy_69 : decode cX5_occupancy 69 = .ok (.imul, 1) := dk_104 (dk_at dksX5_occupancy_2 21 rfl rfl)
theorem dX5_occupancy_70 : decode cX5_occupancy 70 = .ok (.aload_n 0, 1) := dk_42 (dk_at dksX5_occupancy_2 22 rfl rfl)
theorem dX5_occupancy_71 : decode cX5_occupancy 71 = .ok (.getfield 13, 3) := dk_180 0 13 (dk_at dksX5_occupancy_3 0 rfl rfl)
theorem dX5_occupancy_74 : decode cX5_occupancy 74 = .ok (.bipush 20, 2) := dk_16 20 (dk_at dksX5_occupancy_3 3 rfl rfl)
theorem dX5_occupancy_76 : decode cX5_occupancy 76 = .ok (.iload_n 1, 1) := dk_27 (dk_at dksX5_occupancy_3 5 rfl rfl)
theorem dX5_occupancy_77 : decode cX5_occupancy 77 = .ok (.iadd, 1) := dk_96 (dk_at dksX5_occupancy_3 6 rfl rfl)
theorem dX5_occupancy_78 : decode cX5_occupancy 78 = .ok (.iaload, 1) := dk_46 (dk_at dksX5_occupancy_3 7 rfl rfl)
theorem dX5_occupancy_79 : decode cX5_occupancy 79 = .ok (.aload_n 0, 1) := dk_42 (dk_at dksX5_occupancy_3 8 rfl rfl)
theorem dX5_occupancy_80 : decode cX5_occupancy 80 = .ok (.getfield 13, 3) := dk_180 0 13 (dk_at dksX5_occupancy_3 9 rfl rfl)
theorem dX5_occupancy_83 : decode cX5_occupancy 83 = .ok (.bipush 14, 2) := dk_16 14 (dk_at dksX5_occupancy_3 12 rfl rfl)
theorem dX5_occupancy_85 : decode cX5_occupancy 85 = .ok (.iload_n 1, 1) := dk_27 (dk_at dksX5_occupancy_3 14 rfl rfl)
theorem dX5_occupancy_86 : decode cX5_occupancy 86 = .ok (.iadd, 1) := dk_96 (dk_at dksX5_occupancy_3 15 rfl rfl)
theorem dX5_occupancy_87 : decode cX5_occupancy 87 = .ok (.iaload, 1) := dk_46 (dk_at dksX5_occupancy_3 16 rfl rfl)
theorem dX5_occupancy_88 : decode cX5_occupancy 88 = .ok (.isub, 1) := dk_100 (dk_at dksX5_occupancy_3 17 rfl rfl)
theorem dX5_occupancy_89 : decode cX5_occupancy 89 = .ok (.idiv, 1) := dk_108 (dk_at dksX5_occupancy_3 18 rfl rfl)
theorem dX5_occupancy_90 : decode cX5_occupancy 90 = .ok (.ireturn, 1) := dk_172 (dk_at dksX5_occupancy_3 19 rfl rfl)
abbrev cX5_whyNotDay : ByteArray := prog_17_method_117_code
def yX5_whyNotDay : MethodName := ⟨RX5, "whyNotDay", "(II)I"⟩
def dkwX5_whyNotDay_1 : List UInt8 := [5, 167, 0, 4, 3, 172]
abbrev dktX5_whyNotDay_1 : List UInt8 := dkwX5_whyNotDay_1 ++ []
def dkwX5_whyNotDay_0 : List UInt8 := [42, 27, 182, 1, 42, 154, 0, 7, 4, 167, 0, 20, 28, 133, 9, 20, 1, 137, 184, 0, 90, 154, 0, 7]
abbrev dktX5_whyNotDay_0 : List UInt8 := dkwX5_whyNotDay_0 ++ dktX5_whyNotDay_1
theorem dksX5_whyNotDay_0 : cX5_whyNotDay.data.toList.drop 0 = dktX5_whyNotDay_0 := by decide +kernel
theorem dksX5_whyNotDay_1 : cX5_whyNotDay.data.toList.drop 24 = dktX5_whyNotDay_1 := dk_seg dksX5_whyNotDay_0 24 rfl rfl
theorem dX5_whyNotDay_0 : decode cX5_whyNotDay 0 = .ok (.aload_n 0, 1) := dk_42 (dk_at dksX5_whyNotDay_0 0 rfl rfl)
theorem dX5_whyNotDay_1 : decode cX5_whyNotDay 1 = .ok (.iload_n 1, 1) := dk_27 (dk_at dksX5_whyNotDay_0 1 rfl rfl)
theorem dX5_whyNotDay_2 : decode cX5_whyNotDay 2 = .ok (.invokevirtual 298, 3) := dk_182 1 42 (dk_at dksX5_whyNotDay_0 2 rfl rfl)
theorem dX5_whyNotDay_5 : decode cX5_whyNotDay 5 = .ok (.ifCond .ne 7, 3) := dk_154 0 7 (dk_at dksX5_whyNotDay_0 5 rfl rfl)
theorem dX5_whyNotDay_8 : decode cX5_whyNotDay 8 = .ok (.iconst 1, 1) := dk_4 (dk_at dksX5_whyNotDay_0 8 rfl rfl)
theorem dX5_whyNotDay_9 : decode cX5_whyNotDay 9 = .ok (.goto 20, 3) := dk_167 0 20 (dk_at dksX5_whyNotDay_0 9 rfl rfl)
theorem dX5_whyNotDay_12 : decode cX5_whyNotDay 12 = .ok (.iload_n 2, 1) := dk_28 (dk_at dksX5_whyNotDay_0 12 rfl rfl)
theorem dX5_whyNotDay_13 : decode cX5_whyNotDay 13 = .ok (.i2l, 1) := dk_133 (dk_at dksX5_whyNotDay_0 13 rfl rfl)
theorem dX5_whyNotDay_14 : decode cX5_whyNotDay 14 = .ok (.lconst 0, 1) := dk_9 (dk_at dksX5_whyNotDay_0 14 rfl rfl)
theorem dX5_whyNotDay_15 : decode cX5_whyNotDay 15 = .ok (.ldc2_w 393, 3) := dk_20 1 137 (dk_at dksX5_whyNotDay_0 15 rfl rfl)
theorem dX5_whyNotDay_18 : decode cX5_whyNotDay 18 = .ok (.invokestatic 90, 3) := dk_184 0 90 (dk_at dksX5_whyNotDay_0 18 rfl rfl)
theorem dX5_whyNotDay_21 : decode cX5_whyNotDay 21 = .ok (.ifCond .ne 7, 3) := dk_154 0 7 (dk_at dksX5_whyNotDay_0 21 rfl rfl)
theorem dX5_whyNotDay_24 : decode cX5_whyNotDay 24 = .ok (.iconst 2, 1) := dk_5 (dk_at dksX5_whyNotDay_1 0 rfl rfl)
theorem dX5_whyNotDay_25 : decode cX5_whyNotDay 25 = .ok (.goto 4, 3) := dk_167 0 4 (dk_at dksX5_whyNotDay_1 1 rfl rfl)
theorem dX5_whyNotDay_28 : decode cX5_whyNotDay 28 = .ok (.iconst 0, 1) := dk_3 (dk_at dksX5_whyNotDay_1 4 rfl rfl)
theorem dX5_whyNotDay_29 : decode cX5_whyNotDay 29 = .ok (.ireturn, 1) := dk_172 (dk_at dksX5_whyNotDay_1 5 rfl rfl)
abbrev cX5_isOn : ByteArray := prog_17_method_118_code
def yX5_isOn : MethodName := ⟨RX5, "isOn", "(III)Z"⟩
def dkwX5_isOn_1 : List UInt8 := [182, 0, 228, 17, 5, 160, 108, 29, 160, 0, 7, 4, 167, 0, 4, 3, 172]
abbrev dktX5_isOn_1 : List UInt8 := dkwX5_isOn_1 ++ []
def dkwX5_isOn_0 : List UInt8 := [42, 27, 182, 0, 236, 153, 0, 33, 42, 27, 16, 9, 182, 0, 228, 28, 160, 0, 22, 42, 27, 16, 10]
abbrev dktX5_isOn_0 : List UInt8 := dkwX5_isOn_0 ++ dktX5_isOn_1
theorem dksX5_isOn_0 : cX5_isOn.data.toList.drop 0 = dktX5_isOn_0 := by decide +kernel
theorem dksX5_isOn_1 : cX5_isOn.data.toList.drop 23 = dktX5_isOn_1 := dk_seg dksX5_isOn_0 23 rfl rfl
theorem dX5_isOn_0 : decode cX5_isOn 0 = .ok (.aload_n 0, 1) := dk_42 (dk_at dksX5_isOn_0 0 rfl rfl)
theorem dX5_isOn_1 : decode cX5_isOn 1 = .ok (.iload_n 1, 1) := dk_27 (dk_at dksX5_isOn_0 1 rfl rfl)
theorem dX5_isOn_2 : decode cX5_isOn 2 = .ok (.invokevirtual 236, 3) := dk_182 0 236 (dk_at dksX5_isOn_0 2 rfl rfl)
theorem dX5_isOn_5 : decode cX5_isOn 5 = .ok (.ifCond .eq 33, 3) := dk_153 0 33 (dk_at dksX5_isOn_0 5 rfl rfl)
theorem dX5_isOn_8 : decode cX5_isOn 8 = .ok (.aload_n 0, 1) := dk_42 (dk_at dksX5_isOn_0 8 rfl rfl)
theorem dX5_isOn_9 : decode cX5_isOn 9 = .ok (.iload_n 1, 1) := dk_27 (dk_at dksX5_isOn_0 9 rfl rfl)
theorem dX5_isOn_10 : decode cX5_isOn 10 = .ok (.bipush 9, 2) := dk_16 9 (dk_at dksX5_isOn_0 10 rfl rfl)
theorem dX5_isOn_12 : decode cX5_isOn 12 = .ok (.invokevirtual 228, 3) := dk_182 0 228 (dk_at dksX5_isOn_0 12 rfl rfl)
theorem dX5_isOn_15 : decode cX5_isOn 15 = .ok (.iload_n 2, 1) := dk_28 (dk_at dksX5_isOn_0 15 rfl rfl)
theorem dX5_isOn_16 : decode cX5_isOn 16 = .ok (.if_icmp .ne 22, 3) := dk_160 0 22 (dk_at dksX5_isOn_0 16 rfl rfl)
theorem dX5_isOn_19 : decode cX5_isOn 19 = .ok (.aload_n 0, 1) := dk_42 (dk_at dksX5_isOn_0 19 rfl rfl)
theorem dX5_isOn_20 : decode cX5_isOn 20 = .ok (.iload_n 1, 1) := dk_27 (dk_at dksX5_isOn_0 20 rfl rfl)
theorem dX5_isOn_21 : decode cX5_isOn 21 = .ok (.bipush 10, 2) := dk_16 10 (dk_at dksX5_isOn_0 21 rfl rfl)
theorem dX5_isOn_23 : decode cX5_isOn 23 = .ok (.invokevirtual 228, 3) := dk_182 0 228 (dk_at dksX5_isOn_1 0 rfl rfl)
theorem dX5_isOn_26 : decode cX5_isOn 26 = .ok (.sipush 1440, 3) := dk_17 5 160 (dk_at dksX5_isOn_1 3 rfl rfl)
theorem dX5_isOn_29 : decode cX5_isOn 29 = .ok (.idiv, 1) := dk_108 (dk_at dksX5_isOn_1 6 rfl rfl)
theorem dX5_isOn_30 : decode cX5_isOn 30 = .ok (.iload_n 3, 1) := dk_29 (dk_at dksX5_isOn_1 7 rfl rfl)
theorem dX5_isOn_31 : decode cX5_isOn 31 = .ok (.if_icmp .ne 7, 3) := dk_160 0 7 (dk_at dksX5_isOn_1 8 rfl rfl)
theorem dX5_isOn_34 : decode cX5_isOn 34 = .ok (.iconst 1, 1) := dk_4 (dk_at dksX5_isOn_1 11 rfl rfl)
theorem dX5_isOn_35 : decode cX5_isOn 35 = .ok (.goto 4, 3) := dk_167 0 4 (dk_at dksX5_isOn_1 12 rfl rfl)
theorem dX5_isOn_38 : decode cX5_isOn 38 = .ok (.iconst 0, 1) := dk_3 (dk_at dksX5_isOn_1 15 rfl rfl)
theorem dX5_isOn_39 : decode cX5_isOn 39 = .ok (.ireturn, 1) := dk_172 (dk_at dksX5_isOn_1 16 rfl rfl)
abbrev cX5_setupSum : ByteArray := prog_17_method_121_code
def yX5_setupSum : MethodName := ⟨RX5, "setupSum", "(II)I"⟩
def dkwX5_setupSum_4 : List UInt8 := [21, 5, 3, 182, 0, 228, 182, 0, 245, 167, 0, 4, 3, 96, 62, 21, 5, 54, 4, 167, 255, 176, 29, 172]
abbrev dktX5_setupSum_4 : List UInt8 := dkwX5_setupSum_4 ++ []
def dkwX5_setupSum_3 : List UInt8 := [159, 0, 35, 42, 21, 5, 27, 28, 182, 1, 145, 153, 0, 24, 42, 42, 21, 4, 3, 182, 0, 228, 42]
abbrev dktX5_setupSum_3 : List UInt8 := dkwX5_setupSum_3 ++ dktX5_setupSum_4
def dkwX5_setupSum_2 : List UInt8 := [153, 0, 69, 42, 27, 42, 21, 4, 16, 10, 182, 0, 228, 4, 96, 182, 1, 148, 54, 5, 29, 21, 5, 2]
abbrev dktX5_setupSum_2 : List UInt8 := dkwX5_setupSum_2 ++ dktX5_setupSum_3
def dkwX5_setupSum_1 : List UInt8 := [17, 5, 160, 28, 104, 182, 1, 148, 54, 4, 21, 4, 2, 159, 0, 80, 42, 21, 4, 27, 28, 182, 1, 145]
abbrev dktX5_setupSum_1 : List UInt8 := dkwX5_setupSum_1 ++ dktX5_setupSum_2
def dkwX5_setupSum_0 : List UInt8 := [42, 42, 27, 28, 182, 1, 142, 181, 0, 3, 42, 180, 0, 3, 158, 0, 5, 3, 172, 3, 62, 42, 27]
abbrev dktX5_setupSum_0 : List UInt8 := dkwX5_setupSum_0 ++ dktX5_setupSum_1
theorem dksX5_setupSum_0 : cX5_setupSum.data.toList.drop 0 = dktX5_setupSum_0 := by decide +kernel
theorem dksX5_setupSum_1 : cX5_setupSum.data.toList.drop 23 = dktX5_setupSum_1 := dk_seg dksX5_setupSum_0 23 rfl rfl
theorem dksX5_setupSum_2 : cX5_setupSum.data.toList.drop 47 = dktX5_setupSum_2 := dk_seg dksX5_setupSum_1 24 rfl rfl
theorem dksX5_setupSum_3 : cX5_setupSum.data.toList.drop 71 = dktX5_setupSum_3 := dk_seg dksX5_setupSum_2 24 rfl rfl
theorem dksX5_setupSum_4 : cX5_setupSum.data.toList.drop 94 = dktX5_setupSum_4 := dk_seg dksX5_setupSum_3 23 rfl rfl
theorem dX5_setupSum_0 : decode cX5_setupSum 0 = .ok (.aload_n 0, 1) := dk_42 (dk_at dksX5_setupSum_0 0 rfl rfl)
theorem dX5_setupSum_1 : decode cX5_setupSum 1 = .ok (.aload_n 0, 1) := dk_42 (dk_at dksX5_setupSum_0 1 rfl rfl)
theorem dX5_setupSum_2 : decode cX5_setupSum 2 = .ok (.iload_n 1, 1) := dk_27 (dk_at dksX5_setupSum_0 2 rfl rfl)
theorem dX5_setupSum_3 : decode cX5_setupSum 3 = .ok (.iload_n 2, 1) := dk_28 (dk_at dksX5_setupSum_0 3 rfl rfl)
theorem dX5_setupSum_4 : decode cX5_setupSum 4 = .ok (.invokevirtual 398, 3) := dk_182 1 142 (dk_at dksX5_setupSum_0 4 rfl rfl)
theorem dX5_setupSum_7 : decode cX5_setupSum 7 = .ok (.putfield 3, 3) := dk_181 0 3 (dk_at dksX5_setupSum_0 7 rfl rfl)
theorem dX5_setupSum_10 : decode cX5_setupSum 10 = .ok (.aload_n 0, 1) := dk_42 (dk_at dksX5_setupSum_0 10 rfl rfl)
theorem dX5_setupSum_11 : decode cX5_setupSum 11 = .ok (.getfield 3, 3) := dk_180 0 3 (dk_at dksX5_setupSum_0 11 rfl rfl)
theorem dX5_setupSum_14 : decode cX5_setupSum 14 = .ok (.ifCond .le 5, 3) := dk_158 0 5 (dk_at dksX5_setupSum_0 14 rfl rfl)
theorem dX5_setupSum_17 : decode cX5_setupSum 17 = .ok (.iconst 0, 1) := dk_3 (dk_at dksX5_setupSum_0 17 rfl rfl)
theorem dX5_setupSum_18 : decode cX5_setupSum 18 = .ok (.ireturn, 1) := dk_172 (dk_at dksX5_setupSum_0 18 rfl rfl)
theorem dX5_setupSum_19 : decode cX5_setupSum 19 = .ok (.iconst 0, 1) := dk_3 (dk_at dksX5_setupSum_0 19 rfl rfl)
theorem dX5_setupSum_20 : decode cX5_setupSum 20 = .ok (.istore_n 3, 1) := dk_62 (dk_at dksX5_setupSum_0 20 rfl rfl)
theorem dX5_setupSum_21 : decode cX5_setupSum 21 = .ok (.aload_n 0, 1) := dk_42 (dk_at dksX5_setupSum_0 21 rfl rfl)
theorem dX5_setupSum_22 : decode cX5_setupSum 22 = .ok (.iload_n 1, 1) := dk_27 (dk_at dksX5_setupSum_0 22 rfl rfl)
theorem dX5_setupSum_23 : decode cX5_setupSum 23 = .ok (.sipush 1440, 3) := dk_17 5 160 (dk_at dksX5_setupSum_1 0 rfl rfl)
theorem dX5_setupSum_26 : decode cX5_setupSum 26 = .ok (.iload_n 2, 1) := dk_28 (dk_at dksX5_setupSum_1 3 rfl rfl)
theorem dX5_setupSum_27 : decode cX5_setupSum 27 = .ok (.imul, 1) := dk_104 (dk_at dksX5_setupSum_1 4 rfl rfl)
theorem dX5_setupSum_28 : decode cX5_setupSum 28 = .ok (.invokevirtual 404, 3) := dk_182 1 148 (dk_at dksX5_setupSum_1 5 rfl rfl)
theorem dX5_setupSum_31 : decode cX5_setupSum 31 = .ok (.istore 4, 2) := dk_54 4 (dk_at dksX5_setupSum_1 8 rfl rfl)
theorem dX5_setupSum_33 : decode cX5_setupSum 33 = .ok (.iload 4, 2) := dk_21 4 (dk_at dksX5_setupSum_1 10 rfl rfl)
theorem dX5_setupSum_35 : decode cX5_setupSum 35 = .ok (.iconst (-1), 1) := dk_2 (dk_at dksX5_setupSum_1 12 rfl rfl)
theorem dX5_setupSum_36 : decode cX5_setupSum 36 = .ok (.if_icmp .eq 80, 3) := dk_159 0 80 (dk_at dksX5_setupSum_1 13 rfl rfl)
theorem dX5_setupSum_39 : decode cX5_setupSum 39 = .ok (.aload_n 0, 1) := dk_42 (dk_at dksX5_setupSum_1 16 rfl rfl)
theorem dX5_setupSum_40 : decode cX5_setupSum 40 = .ok (.iload 4, 2) := dk_21 4 (dk_at dksX5_setupSum_1 17 rfl rfl)
theorem dX5_setupSum_42 : decode cX5_setupSum 42 = .ok (.iload_n 1, 1) := dk_27 (dk_at dksX5_setupSum_1 19 rfl rfl)
theorem dX5_setupSum_43 : decode cX5_setupSum 43 = .ok (.iload_n 2, 1) := dk_28 (dk_at dksX5_setupSum_1 20 rfl rfl)
theorem dX5_setupSum_44 : decode cX5_setupSum 44 = .ok (.invokevirtual 401, 3) := dk_182 1 145 (dk_at dksX5_setupSum_1 21 rfl rfl)
theorem dX5_setupSum_47 : decode cX5_setupSum 47 = .ok (.ifCond .eq 69, 3) := dk_153 0 69 (dk_at dksX5_setupSum_2 0 rfl rfl)
theorem dX5_setupSum_50 : decode cX5_setupSum 50 = .ok (.aload_n 0, 1) := dk_42 (dk_at dksX5_setupSum_2 3 rfl rfl)
theorem dX5_setupSum_51 : decode cX5_setupSum 51 = .ok (.iload_n 1, 1) := dk_27 (dk_at dksX5_setupSum_2 4 rfl rfl)
theorem dX5_setupSum_52 : decode cX5_setupSum 52 = .ok (.aload_n 0, 1) := dk_42 (dk_at dksX5_setupSum_2 5 rfl rfl)
theorem dX5_setupSum_53 : decode cX5_setupSum 53 = .ok (.iload 4, 2) := dk_21 4 (dk_at dksX5_setupSum_2 6 rfl rfl)
theorem dX5_setupSum_55 : decode cX5_setupSum 55 = .ok (.bipush 10, 2) := dk_16 10 (dk_at dksX5_setupSum_2 8 rfl rfl)
theorem dX5_setupSum_57 : decode cX5_setupSum 57 = .ok (.invokevirtual 228, 3) := dk_182 0 228 (dk_at dksX5_setupSum_2 10 rfl rfl)
theorem dX5_setupSum_60 : decode cX5_setupSum 60 = .ok (.iconst 1, 1) := dk_4 (dk_at dksX5_setupSum_2 13 rfl rfl)
theorem dX5_setupSum_61 : decode cX5_setupSum 61 = .ok (.iadd, 1) := dk_96 (dk_at dksX5_setupSum_2 14 rfl rfl)
theorem dX5_setupSum_62 : decode cX5_setupSum 62 = .ok (.invokevirtual 404, 3) := dk_182 1 148 (dk_at dksX5_setupSum_2 15 rfl rfl)
theorem dX5_setupSum_65 : decode cX5_setupSum 65 = .ok (.istore 5, 2) := dk_54 5 (dk_at dksX5_setupSum_2 18 rfl rfl)
theorem dX5_setupSum_67 : decode cX5_setupSum 67 = .ok (.iload_n 3, 1) := dk_29 (dk_at dksX5_setupSum_2 20 rfl rfl)
theorem dX5_setupSum_68 : decode cX5_setupSum 68 = .ok (.iload 5, 2) := dk_21 5 (dk_at dksX5_setupSum_2 21 rfl rfl)
theorem dX5_setupSum_70 : decode cX5_setupSum 70 = .ok (.iconst (-1), 1) := dk_2 (dk_at dksX5_setupSum_2 23 rfl rfl)
theorem dX5_setupSum_71 : decode cX5_setupSum 71 = .ok (.if_icmp .eq 35, 3) := dk_159 0 35 (dk_at dksX5_setupSum_3 0 rfl rfl)
theorem dX5_setupSum_74 : decode cX5_setupSum 74 = .ok (.aload_n 0, 1) := dk_42 (dk_at dksX5_setupSum_3 3 rfl rfl)
theorem dX5_setupSum_75 : decode cX5_setupSum 75 = .ok (.iload 5, 2) := dk_21 5 (dk_at dksX5_setupSum_3 4 rfl rfl)
theorem dX5_setupSum_77 : decode cX5_setupSum 77 = .ok (.iload_n 1, 1) := dk_27 (dk_at dksX5_setupSum_3 6 rfl rfl)
theorem dX5_setupSum_78 : decode cX5_setupSum 78 = .ok (.iload_n 2, 1) := dk_28 (dk_at dksX5_setupSum_3 7 rfl rfl)
theorem dX5_setupSum_79 : decode cX5_setupSum 79 = .ok (.invokevirtual 401, 3) := dk_182 1 145 (dk_at dksX5_setupSum_3 8 rfl rfl)
theorem dX5_setupSum_82 : decode cX5_setupSum 82 = .ok (.ifCond .eq 24, 3) := dk_153 0 24 (dk_at dksX5_setupSum_3 11 rfl rfl)
theorem dX5_setupSum_85 : decode cX5_setupSum 85 = .ok (.aload_n 0, 1) := dk_42 (dk_at dksX5_setupSum_3 14 rfl rfl)
theorem dX5_setupSum_86 : decode cX5_setupSum 86 = .ok (.aload_n 0, 1) := dk_42 (dk_at dksX5_setupSum_3 15 rfl rfl)
theorem dX5_setupSum_87 : decode cX5_setupSum 87 = .ok (.iload 4, 2) := dk_21 4 (dk_at dksX5_setupSum_3 16 rfl rfl)
theorem dX5_setupSum_89 : decode cX5_setupSum 89 = .ok (.iconst 0, 1) := dk_3 (dk_at dksX5_setupSum_3 18 rfl rfl)
theorem dX5_setupSum_90 : decode cX5_setupSum 90 = .ok (.invokevirtual 228, 3) := dk_182 0 228 (dk_at dksX5_setupSum_3 19 rfl rfl)
theorem dX5_setupSum_93 : decode cX5_setupSum 93 = .ok (.aload_n 0, 1) := dk_42 (dk_at dksX5_setupSum_3 22 rfl rfl)
theorem dX5_setupSum_94 : decode cX5_setupSum 94 = .ok (.iload 5, 2) := dk_21 5 (dk_at dksX5_setupSum_4 0 rfl rfl)
theorem dX5_setupSum_96 : decode cX5_setupSum 96 = .ok (.iconst 0, 1) := dk_3 (dk_at dksX5_setupSum_4 2 rfl rfl)
theorem dX5_setupSum_97 : decode cX5_setupSum 97 = .ok (.invokevirtual 228, 3) := dk_182 0 228 (dk_at dksX5_setupSum_4 3 rfl rfl)
theorem dX5_setupSum_100 : decode cX5_setupSum 100 = .ok (.invokevirtual 245, 3) := dk_182 0 245 (dk_at dksX5_setupSum_4 6 rfl rfl)
theorem dX5_setupSum_103 : decode cX5_setupSum 103 = .ok (.goto 4, 3) := dk_167 0 4 (dk_at dksX5_setupSum_4 9 rfl rfl)
theorem dX5_setupSum_106 : decode cX5_setupSum 106 = .ok (.iconst 0, 1) := dk_3 (dk_at dksX5_setupSum_4 12 rfl rfl)
theorem dX5_setupSum_107 : decode cX5_setupSum 107 = .ok (.iadd, 1) := dk_96 (dk_at dksX5_setupSum_4 13 rfl rfl)
theorem dX5_setupSum_108 : decode cX5_setupSum 108 = .ok (.istore_n 3, 1) := dk_62 (dk_at dksX5_setupSum_4 14 rfl rfl)
theorem dX5_setupSum_109 : decode cX5_setupSum 109 = .ok (.iload 5, 2) := dk_21 5 (dk_at dksX5_setupSum_4 15 rfl rfl)
theorem dX5_setupSum_111 : decode cX5_setupSum 111 = .ok (.istore 4, 2) := dk_54 4 (dk_at dksX5_setupSum_4 17 rfl rfl)
theorem dX5_setupSum_113 : decode cX5_setupSum 113 = .ok (.goto (-80), 3) := dk_167 255 176 (dk_at dksX5_setupSum_4 19 rfl rfl)
theorem dX5_setupSum_116 : decode cX5_setupSum 116 = .ok (.iload_n 3, 1) := dk_29 (dk_at dksX5_setupSum_4 22 rfl rfl)
theorem dX5_setupSum_117 : decode cX5_setupSum 117 = .ok (.ireturn, 1) := dk_172 (dk_at dksX5_setupSum_4 23 rfl rfl)
abbrev cX5_nextIn : ByteArray := prog_17_method_120_code
def yX5_nextIn : MethodName := ⟨RX5, "nextIn", "(II)I"⟩
def dkwX5_nextIn_4 : List UInt8 := [132, 4, 1, 167, 255, 167, 29, 172]
abbrev dktX5_nextIn_4 : List UInt8 := dkwX5_nextIn_4 ++ []
def dkwX5_nextIn_3 : List UInt8 := [16, 10, 182, 0, 228, 42, 29, 16, 10, 182, 0, 228, 162, 0, 8, 21, 4, 167, 0, 4, 29, 62]
abbrev dktX5_nextIn_3 : List UInt8 := dkwX5_nextIn_3 ++ dktX5_nextIn_4
def dkwX5_nextIn_2 : List UInt8 := [161, 0, 7, 4, 167, 0, 4, 3, 54, 5, 21, 5, 153, 0, 31, 29, 2, 159, 0, 21, 42, 21, 4]
abbrev dktX5_nextIn_2 : List UInt8 := dkwX5_nextIn_2 ++ dktX5_nextIn_3
def dkwX5_nextIn_1 : List UInt8 := [153, 0, 31, 42, 21, 4, 16, 9, 182, 0, 228, 27, 160, 0, 19, 42, 21, 4, 16, 10, 182, 0, 228, 28]
abbrev dktX5_nextIn_1 : List UInt8 := dkwX5_nextIn_1 ++ dktX5_nextIn_2
def dkwX5_nextIn_0 : List UInt8 := [2, 62, 3, 54, 4, 21, 4, 42, 180, 0, 36, 4, 46, 162, 0, 84, 42, 21, 4, 182, 0, 236]
abbrev dktX5_nextIn_0 : List UInt8 := dkwX5_nextIn_0 ++ dktX5_nextIn_1
theorem dksX5_nextIn_0 : cX5_nextIn.data.toList.drop 0 = dktX5_nextIn_0 := by decide +kernel
theorem dksX5_nextIn_1 : cX5_nextIn.data.toList.drop 22 = dktX5_nextIn_1 := dk_seg dksX5_nextIn_0 22 rfl rfl
theorem dksX5_nextIn_2 : cX5_nextIn.data.toList.drop 46 = dktX5_nextIn_2 := dk_seg dksX5_nextIn_1 24 rfl rfl
theorem dksX5_nextIn_3 : cX5_nextIn.data.toList.drop 69 = dktX5_nextIn_3 := dk_seg dksX5_nextIn_2 23 rfl rfl
theorem dksX5_nextIn_4 : cX5_nextIn.data.toList.drop 91 = dktX5_nextIn_4 := dk_seg dksX5_nextIn_3 22 rfl rfl
theorem dX5_nextIn_0 : decode cX5_nextIn 0 = .ok (.iconst (-1), 1) := dk_2 (dk_at dksX5_nextIn_0 0 rfl rfl)
theorem dX5_nextIn_1 : decode cX5_nextIn 1 = .ok (.istore_n 3, 1) := dk_62 (dk_at dksX5_nextIn_0 1 rfl rfl)
theorem dX5_nextIn_2 : decode cX5_nextIn 2 = .ok (.iconst 0, 1) := dk_3 (dk_at dksX5_nextIn_0 2 rfl rfl)
theorem dX5_nextIn_3 : decode cX5_nextIn 3 = .ok (.istore 4, 2) := dk_54 4 (dk_at dksX5_nextIn_0 3 rfl rfl)
theorem dX5_nextIn_5 : decode cX5_nextIn 5 = .ok (.iload 4, 2) := dk_21 4 (dk_at dksX5_nextIn_0 5 rfl rfl)
theorem dX5_nextIn_7 : decode cX5_nextIn 7 = .ok (.aload_n 0, 1) := dk_42 (dk_at dksX5_nextIn_0 7 rfl rfl)
theorem dX5_nextIn_8 : decode cX5_nextIn 8 = .ok (.getfield 36, 3) := dk_180 0 36 (dk_at dksX5_nextIn_0 8 rfl rfl)
theorem dX5_nextIn_11 : decode cX5_nextIn 11 = .ok (.iconst 1, 1) := dk_4 (dk_at dksX5_nextIn_0 11 rfl rfl)
theorem dX5_nextIn_12 : decode cX5_nextIn 12 = .ok (.iaload, 1) := dk_46 (dk_at dksX5_nextIn_0 12 rfl rfl)
theorem dX5_nextIn_13 : decode cX5_nextIn 13 = .ok (.if_icmp .ge 84, 3) := dk_162 0 84 (dk_at dksX5_nextIn_0 13 rfl rfl)
theorem dX5_nextIn_16 : decode cX5_nextIn 16 = .ok (.aload_n 0, 1) := dk_42 (dk_at dksX5_nextIn_0 16 rfl rfl)
theorem dX5_nextIn_17 : decode cX5_nextIn 17 = .ok (.iload 4, 2) := dk_21 4 (dk_at dksX5_nextIn_0 17 rfl rfl)
theorem dX5_nextIn_19 : decode cX5_nextIn 19 = .ok (.invokevirtual 236, 3) := dk_182 0 236 (dk_at dksX5_nextIn_0 19 rfl rfl)
theorem dX5_nextIn_22 : decode cX5_nextIn 22 = .ok (.ifCond .eq 31, 3) := dk_153 0 31 (dk_at dksX5_nextIn_1 0 rfl rfl)
theorem dX5_nextIn_25 : decode cX5_nextIn 25 = .ok (.aload_n 0, 1) := dk_42 (dk_at dksX5_nextIn_1 3 rfl rfl)
theorem dX5_nextIn_26 : decode cX5_nextIn 26 = .ok (.iload 4, 2) := dk_21 4 (dk_at dksX5_nextIn_1 4 rfl rfl)
theorem dX5_nextIn_28 : decode cX5_nextIn 28 = .ok (.bipush 9, 2) := dk_16 9 (dk_at dksX5_nextIn_1 6 rfl rfl)
theorem dX5_nextIn_30 : decode cX5_nextIn 30 = .ok (.invokevirtual 228, 3) := dk_182 0 228 (dk_at dksX5_nextIn_1 8 rfl rfl)
theorem dX5_nextIn_33 : decode cX5_nextIn 33 = .ok (.iload_n 1, 1) := dk_27 (dk_at dksX5_nextIn_1 11 rfl rfl)
theorem dX5_nextIn_34 : decode cX5_nextIn 34 = .ok (.if_icmp .ne 19, 3) := dk_160 0 19 (dk_at dksX5_nextIn_1 12 rfl rfl)
theorem dX5_nextIn_37 : decode cX5_nextIn 37 = .ok (.aload_n 0, 1) := dk_42 (dk_at dksX5_nextIn_1 15 rfl rfl)
theorem dX5_nextIn_38 : decode cX5_nextIn 38 = .ok (.iload 4, 2) := dk_21 4 (dk_at dksX5_nextIn_1 16 rfl rfl)
theorem dX5_nextIn_40 : decode cX5_nextIn 40 = .ok (.bipush 10, 2) := dk_16 10 (dk_at dksX5_nextIn_1 18 rfl rfl)
theorem dX5_nextIn_42 : decode cX5_nextIn 42 = .ok (.invokevirtual 228, 3) := dk_182 0 228 (dk_at dksX5_nextIn_1 20 rfl rfl)
theorem dX5_nextIn_45 : decode cX5_nextIn 45 = .ok (.iload_n 2, 1) := dk_28 (dk_at dksX5_nextIn_1 23 rfl rfl)
theorem dX5_nextIn_46 : decode cX5_nextIn 46 = .ok (.if_icmp .lt 7, 3) := dk_161 0 7 (dk_at dksX5_nextIn_2 0 rfl rfl)
theorem dX5_nextIn_49 : decode cX5_nextIn 49 = .ok (.iconst 1, 1) := dk_4 (dk_at dksX5_nextIn_2 3 rfl rfl)
theorem dX5_nextIn_50 : decode cX5_nextIn 50 = .ok (.goto 4, 3) := dk_167 0 4 (dk_at dksX5_nextIn_2 4 rfl rfl)
theorem dX5_nextIn_53 : decode cX5_nextIn 53 = .ok (.iconst 0, 1) := dk_3 (dk_at dksX5_nextIn_2 7 rfl rfl)
theorem dX5_nextIn_54 : decode cX5_nextIn 54 = .ok (.istore 5, 2) := dk_54 5 (dk_at dksX5_nextIn_2 8 rfl rfl)
theorem dX5_nextIn_56 : decode cX5_nextIn 56 = .ok (.iload 5, 2) := dk_21 5 (dk_at dksX5_nextIn_2 10 rfl rfl)
theorem dX5_nextIn_58 : decode cX5_nextIn 58 = .ok (.ifCond .eq 31, 3) := dk_153 0 31 (dk_at dksX5_nextIn_2 12 rfl rfl)
theorem dX5_nextIn_61 : decode cX5_nextIn 61 = .ok (.iload_n 3, 1) := dk_29 (dk_at dksX5_nextIn_2 15 rfl rfl)
theorem dX5_nextIn_62 : decode cX5_nextIn 62 = .ok (.iconst (-1), 1) := dk_2 (dk_at dksX5_nextIn_2 16 rfl rfl)
theorem dX5_nextIn_63 : decode cX5_nextIn 63 = .ok (.if_icmp .eq 21, 3) := dk_159 0 21 (dk_at dksX5_nextIn_2 17 rfl rfl)
theorem dX5_nextIn_66 : decode cX5_nextIn 66 = .ok (.aload_n 0, 1) := dk_42 (dk_at dksX5_nextIn_2 20 rfl rfl)
theorem dX5_nextIn_67 : decode cX5_nextIn 67 = .ok (.iload 4, 2) := dk_21 4 (dk_at dksX5_nextIn_2 21 rfl rfl)
theorem dX5_nextIn_69 : decode cX5_nextIn 69 = .ok (.bipush 10, 2) := dk_16 10 (dk_at dksX5_nextIn_3 0 rfl rfl)
theorem dX5_nextIn_71 : decode cX5_nextIn 71 = .ok (.invokevirtual 228, 3) := dk_182 0 228 (dk_at dksX5_nextIn_3 2 rfl rfl)
theorem dX5_nextIn_74 : decode cX5_nextIn 74 = .ok (.aload_n 0, 1) := dk_42 (dk_at dksX5_nextIn_3 5 rfl rfl)
theorem dX5_nextIn_75 : decode cX5_nextIn 75 = .ok (.iload_n 3, 1) := dk_29 (dk_at dksX5_nextIn_3 6 rfl rfl)
theorem dX5_nextIn_76 : decode cX5_nextIn 76 = .ok (.bipush 10, 2) := dk_16 10 (dk_at dksX5_nextIn_3 7 rfl rfl)
theorem dX5_nextIn_78 : decode cX5_nextIn 78 = .ok (.invokevirtual 228, 3) := dk_182 0 228 (dk_at dksX5_nextIn_3 9 rfl rfl)
theorem dX5_nextIn_81 : decode cX5_nextIn 81 = .ok (.if_icmp .ge 8, 3) := dk_162 0 8 (dk_at dksX5_nextIn_3 12 rfl rfl)
theorem dX5_nextIn_84 : decode cX5_nextIn 84 = .ok (.iload 4, 2) := dk_21 4 (dk_at dksX5_nextIn_3 15 rfl rfl)
theorem dX5_nextIn_86 : decode cX5_nextIn 86 = .ok (.goto 4, 3) := dk_167 0 4 (dk_at dksX5_nextIn_3 17 rfl rfl)
theorem dX5_nextIn_89 : decode cX5_nextIn 89 = .ok (.iload_n 3, 1) := dk_29 (dk_at dksX5_nextIn_3 20 rfl rfl)
theorem dX5_nextIn_90 : decode cX5_nextIn 90 = .ok (.istore_n 3, 1) := dk_62 (dk_at dksX5_nextIn_3 21 rfl rfl)
theorem dX5_nextIn_91 : decode cX5_nextIn 91 = .ok (.iinc 4 1, 3) := dk_132 4 1 (dk_at dksX5_nextIn_4 0 rfl rfl)
theorem dX5_nextIn_94 : decode cX5_nextIn 94 = .ok (.goto (-89), 3) := dk_167 255 167 (dk_at dksX5_nextIn_4 3 rfl rfl)
theorem dX5_nextIn_97 : decode cX5_nextIn 97 = .ok (.iload_n 3, 1) := dk_29 (dk_at dksX5_nextIn_4 6 rfl rfl)
theorem dX5_nextIn_98 : decode cX5_nextIn 98 = .ok (.ireturn, 1) := dk_172 (dk_at dksX5_nextIn_4 7 rfl rfl)
abbrev cX5_leastSetup : ByteArray := prog_17_method_124_code
def yX5_leastSetup : MethodName := ⟨RX5, "leastSetup", "(II)I"⟩
def dkwX5_leastSetup_6 : List UInt8 := [167, 0, 5, 21, 5, 54, 5, 132, 7, 1, 167, 255, 180, 132, 6, 1, 167, 255, 164, 21, 5, 172]
abbrev dktX5_leastSetup_6 : List UInt8 := dkwX5_leastSetup_6 ++ []
def dkwX5_leastSetup_5 : List UInt8 := [21, 4, 160, 0, 24, 21, 5, 42, 180, 0, 67, 16, 8, 21, 6, 104, 21, 7, 96, 46, 184, 1, 4]
abbrev dktX5_leastSetup_5 : List UInt8 := dkwX5_leastSetup_5 ++ dktX5_leastSetup_6
def dkwX5_leastSetup_4 : List UInt8 := [180, 0, 67, 16, 8, 21, 6, 104, 21, 7, 96, 42, 21, 6, 21, 7, 29, 182, 1, 157, 79, 21, 6]
abbrev dktX5_leastSetup_4 : List UInt8 := dkwX5_leastSetup_4 ++ dktX5_leastSetup_5
def dkwX5_leastSetup_3 : List UInt8 := [54, 7, 21, 7, 29, 162, 0, 76, 21, 6, 21, 7, 122, 4, 126, 154, 0, 6, 167, 0, 57, 42]
abbrev dktX5_leastSetup_3 : List UInt8 := dkwX5_leastSetup_3 ++ dktX5_leastSetup_4
def dkwX5_leastSetup_2 : List UInt8 := [154, 0, 7, 3, 167, 0, 6, 19, 1, 153, 54, 5, 4, 54, 6, 21, 6, 21, 4, 163, 0, 91, 3]
abbrev dktX5_leastSetup_2 : List UInt8 := dkwX5_leastSetup_2 ++ dktX5_leastSetup_3
def dkwX5_leastSetup_1 : List UInt8 := [182, 1, 154, 62, 29, 16, 8, 164, 0, 9, 42, 6, 182, 0, 83, 172, 4, 29, 120, 4, 100, 54, 4, 29]
abbrev dktX5_leastSetup_1 : List UInt8 := dkwX5_leastSetup_1 ++ dktX5_leastSetup_2
def dkwX5_leastSetup_0 : List UInt8 := [42, 42, 27, 28, 182, 1, 142, 181, 0, 3, 42, 180, 0, 3, 158, 0, 5, 3, 172, 42, 27, 28]
abbrev dktX5_leastSetup_0 : List UInt8 := dkwX5_leastSetup_0 ++ dktX5_leastSetup_1
theorem dksX5_leastSetup_0 : cX5_leastSetup.data.toList.drop 0 = dktX5_leastSetup_0 := by decide +kernel
theorem dksX5_leastSetup_1 : cX5_leastSetup.data.toList.drop 22 = dktX5_leastSetup_1 := dk_seg dksX5_leastSetup_0 22 rfl rfl
theorem dksX5_leastSetup_2 : cX5_leastSetup.data.toList.drop 46 = dktX5_leastSetup_2 := dk_seg dksX5_leastSetup_1 24 rfl rfl
theorem dksX5_leastSetup_3 : cX5_leastSetup.data.toList.drop 69 = dktX5_leastSetup_3 := dk_seg dksX5_leastSetup_2 23 rfl rfl
theorem dksX5_leastSetup_4 : cX5_leastSetup.data.toList.drop 91 = dktX5_leastSetup_4 := dk_seg dksX5_leastSetup_3 22 rfl rfl
theorem dksX5_leastSetup_5 : cX5_leastSetup.data.toList.drop 114 = dktX5_leastSetup_5 := dk_seg dksX5_leastSetup_4 23 rfl rfl
theorem dksX5_leastSetup_6 : cX5_leastSetup.data.toList.drop 137 = dktX5_leastSetup_6 := dk_seg dksX5_leastSetup_5 23 rfl rfl
theorem dX5_leastSetup_0 : decode cX5_leastSetup 0 = .ok (.aload_n 0, 1) := dk_42 (dk_at dksX5_leastSetup_0 0 rfl rfl)
theorem dX5_leastSetup_1 : decode cX5_leastSetup 1 = .ok (.aload_n 0, 1) := dk_42 (dk_at dksX5_leastSetup_0 1 rfl rfl)
theorem dX5_leastSetup_2 : decode cX5_leastSetup 2 = .ok (.iload_n 1, 1) := dk_27 (dk_at dksX5_leastSetup_0 2 rfl rfl)
theorem dX5_leastSetup_3 : decode cX5_leastSetup 3 = .ok (.iload_n 2, 1) := dk_28 (dk_at dksX5_leastSetup_0 3 rfl rfl)
theorem dX5_leastSetup_4 : decode cX5_leastSetup 4 = .ok (.invokevirtual 398, 3) := dk_182 1 142 (dk_at dksX5_leastSetup_0 4 rfl rfl)
theorem dX5_leastSetup_7 : decode cX5_leastSetup 7 = .ok (.putfield 3, 3) := dk_181 0 3 (dk_at dksX5_leastSetup_0 7 rfl rfl)
theorem dX5_leastSetup_10 : decode cX5_leastSetup 10 = .ok (.aload_n 0, 1) := dk_42 (dk_at dksX5_leastSetup_0 10 rfl rfl)
theorem dX5_leastSetup_11 : decode cX5_leastSetup 11 = .ok (.getfield 3, 3) := dk_180 0 3 (dk_at dksX5_leastSetup_0 11 rfl rfl)
theorem dX5_leastSetup_14 : decode cX5_leastSetup 14 = .ok (.ifCond .le 5, 3) := dk_158 0 5 (dk_at dksX5_leastSetup_0 14 rfl rfl)
theorem dX5_leastSetup_17 : decode cX5_leastSetup 17 = .ok (.iconst 0, 1) := dk_3 (dk_at dksX5_leastSetup_0 17 rfl rfl)
theorem dX5_leastSetup_18 : decode cX5_leastSetup 18 = .ok (.ireturn, 1) := dk_172 (dk_at dksX5_leastSetup_0 18 rfl rfl)
theorem dX5_leastSetup_19 : decode cX5_leastSetup 19 = .ok (.aload_n 0, 1) := dk_42 (dk_at dksX5_leastSetup_0 19 rfl rfl)
theorem dX5_leastSetup_20 : decode cX5_leastSetup 20 = .ok (.iload_n 1, 1) := dk_27 (dk_at dksX5_leastSetup_0 20 rfl rfl)
theorem dX5_leastSetup_21 : decode cX5_leastSetup 21 = .ok (.iload_n 2, 1) := dk_28 (dk_at dksX5_leastSetup_0 21 rfl rfl)
theorem dX5_leastSetup_22 : decode cX5_leastSetup 22 = .ok (.invokevirtual 410, 3) := dk_182 1 154 (dk_at dksX5_leastSetup_1 0 rfl rfl)
theorem dX5_leastSetup_25 : decode cX5_leastSetup 25 = .ok (.istore_n 3, 1) := dk_62 (dk_at dksX5_leastSetup_1 3 rfl rfl)
theorem dX5_leastSetup_26 : decode cX5_leastSetup 26 = .ok (.iload_n 3, 1) := dk_29 (dk_at dksX5_leastSetup_1 4 rfl rfl)
theorem dX5_leastSetup_27 : decode cX5_leastSetup 27 = .ok (.bipush 8, 2) := dk_16 8 (dk_at dksX5_leastSetup_1 5 rfl rfl)
theorem dX5_leastSetup_29 : decode cX5_leastSetup 29 = .ok (.if_icmp .le 9, 3) := dk_164 0 9 (dk_at dksX5_leastSetup_1 7 rfl rfl)
theorem dX5_leastSetup_32 : decode cX5_leastSetup 32 = .ok (.aload_n 0, 1) := dk_42 (dk_at dksX5_leastSetup_1 10 rfl rfl)
theorem dX5_leastSetup_33 : decode cX5_leastSetup 33 = .ok (.iconst 3, 1) := dk_6 (dk_at dksX5_leastSetup_1 11 rfl rfl)
theorem dX5_leastSetup_34 : decode cX5_leastSetup 34 = .ok (.invokevirtual 83, 3) := dk_182 0 83 (dk_at dksX5_leastSetup_1 12 rfl rfl)
theorem dX5_leastSetup_37 : decode cX5_leastSetup 37 = .ok (.ireturn, 1) := dk_172 (dk_at dksX5_leastSetup_1 15 rfl rfl)
theorem dX5_leastSetup_38 : decode cX5_leastSetup 38 = .ok (.iconst 1, 1) := dk_4 (dk_at dksX5_leastSetup_1 16 rfl rfl)
theorem dX5_leastSetup_39 : decode cX5_leastSetup 39 = .ok (.iload_n 3, 1) := dk_29 (dk_at dksX5_leastSetup_1 17 rfl rfl)
theorem dX5_leastSetup_40 : decode cX5_leastSetup 40 = .ok (.ishl, 1) := dk_120 (dk_at dksX5_leastSetup_1 18 rfl rfl)
theorem dX5_leastSetup_41 : decode cX5_leastSetup 41 = .ok (.iconst 1, 1) := dk_4 (dk_at dksX5_leastSetup_1 19 rfl rfl)
theorem dX5_leastSetup_42 : decode cX5_leastSetup 42 = .ok (.isub, 1) := dk_100 (dk_at dksX5_leastSetup_1 20 rfl rfl)
theorem dX5_leastSetup_43 : decode cX5_leastSetup 43 = .ok (.istore 4, 2) := dk_54 4 (dk_at dksX5_leastSetup_1 21 rfl rfl)
theorem dX5_leastSetup_45 : decode cX5_leastSetup 45 = .ok (.iload_n 3, 1) := dk_29 (dk_at dksX5_leastSetup_1 23 rfl rfl)
theorem dX5_leastSetup_46 : decode cX5_leastSetup 46 = .ok (.ifCond .ne 7, 3) := dk_154 0 7 (dk_at dksX5_leastSetup_2 0 rfl rfl)
theorem dX5_leastSetup_49 : decode cX5_leastSetup 49 = .ok (.iconst 0, 1) := dk_3 (dk_at dksX5_leastSetup_2 3 rfl rfl)
theorem dX5_leastSetup_50 : decode cX5_leastSetup 50 = .ok (.goto 6, 3) := dk_167 0 6 (dk_at dksX5_leastSetup_2 4 rfl rfl)
theorem dX5_leastSetup_53 : decode cX5_leastSetup 53 = .ok (.ldc_w 409, 3) := dk_19 1 153 (dk_at dksX5_leastSetup_2 7 rfl rfl)
theorem dX5_leastSetup_56 : decode cX5_leastSetup 56 = .ok (.istore 5, 2) := dk_54 5 (dk_at dksX5_leastSetup_2 10 rfl rfl)
theorem dX5_leastSetup_58 : decode cX5_leastSetup 58 = .ok (.iconst 1, 1) := dk_4 (dk_at dksX5_leastSetup_2 12 rfl rfl)
theorem dX5_leastSetup_59 : decode cX5_leastSetup 59 = .ok (.istore 6, 2) := dk_54 6 (dk_at dksX5_leastSetup_2 13 rfl rfl)
theorem dX5_leastSetup_61 : decode cX5_leastSetup 61 = .ok (.iload 6, 2) := dk_21 6 (dk_at dksX5_leastSetup_2 15 rfl rfl)
theorem dX5_leastSetup_63 : decode cX5_leastSetup 63 = .ok (.iload 4, 2) := dk_21 4 (dk_at dksX5_leastSetup_2 17 rfl rfl)
theorem dX5_leastSetup_65 : decode cX5_leastSetup 65 = .ok (.if_icmp .gt 91, 3) := dk_163 0 91 (dk_at dksX5_leastSetup_2 19 rfl rfl)
theorem dX5_leastSetup_68 : decode cX5_leastSetup 68 = .ok (.iconst 0, 1) := dk_3 (dk_at dksX5_leastSetup_2 22 rfl rfl)
theorem dX5_leastSetup_69 : decode cX5_leastSetup 69 = .ok (.istore 7, 2) := dk_54 7 (dk_at dksX5_leastSetup_3 0 rfl rfl)
theorem dX5_leastSetup_71 : decode cX5_leastSetup 71 = .ok (.iload 7, 2) := dk_21 7 (dk_at dksX5_leastSetup_3 2 rfl rfl)
theorem dX5_leastSetup_73 : decode cX5_leastSetup 73 = .ok (.iload_n 3, 1) := dk_29 (dk_at dksX5_leastSetup_3 4 rfl rfl)
theorem dX5_leastSetup_74 : decode cX5_leastSetup 74 = .ok (.if_icmp .ge 76, 3) := dk_162 0 76 (dk_at dksX5_leastSetup_3 5 rfl rfl)
theorem dX5_leastSetup_77 : decode cX5_leastSetup 77 = .ok (.iload 6, 2) := dk_21 6 (dk_at dksX5_leastSetup_3 8 rfl rfl)
theorem dX5_leastSetup_79 : decode cX5_leastSetup 79 = .ok (.iload 7, 2) := dk_21 7 (dk_at dksX5_leastSetup_3 10 rfl rfl)
theorem dX5_leastSetup_81 : decode cX5_leastSetup 81 = .ok (.ishr, 1) := dk_122 (dk_at dksX5_leastSetup_3 12 rfl rfl)
theorem dX5_leastSetup_82 : decode cX5_leastSetup 82 = .ok (.iconst 1, 1) := dk_4 (dk_at dksX5_leastSetup_3 13 rfl rfl)
theorem dX5_leastSetup_83 : decode cX5_leastSetup 83 = .ok (.iand, 1) := dk_126 (dk_at dksX5_leastSetup_3 14 rfl rfl)
theorem dX5_leastSetup_84 : decode cX5_leastSetup 84 = .ok (.ifCond .ne 6, 3) := dk_154 0 6 (dk_at dksX5_leastSetup_3 15 rfl rfl)
theorem dX5_leastSetup_87 : decode cX5_leastSetup 87 = .ok (.goto 57, 3) := dk_167 0 57 (dk_at dksX5_leastSetup_3 18 rfl rfl)
theorem dX5_leastSetup_90 : decode cX5_leastSetup 90 = .ok (.aload_n 0, 1) := dk_42 (dk_at dksX5_leastSetup_3 21 rfl rfl)
theorem dX5_leastSetup_91 : decode cX5_leastSetup 91 = .ok (.getfield 67, 3) := dk_180 0 67 (dk_at dksX5_leastSetup_4 0 rfl rfl)
theorem dX5_leastSetup_94 : decode cX5_leastSetup 94 = .ok (.bipush 8, 2) := dk_16 8 (dk_at dksX5_leastSetup_4 3 rfl rfl)
theorem dX5_leastSetup_96 : decode cX5_leastSetup 96 = .ok (.iload 6, 2) := dk_21 6 (dk_at dksX5_leastSetup_4 5 rfl rfl)
theorem dX5_leastSetup_98 : decode cX5_leastSetup 98 = .ok (.imul, 1) := dk_104 (dk_at dksX5_leastSetup_4 7 rfl rfl)
theorem dX5_leastSetup_99 : decode cX5_leastSetup 99 = .ok (.iload 7, 2) := dk_21 7 (dk_at dksX5_leastSetup_4 8 rfl rfl)
theorem dX5_leastSetup_101 : decode cX5_leastSetup 101 = .ok (.iadd, 1) := dk_96 (dk_at dksX5_leastSetup_4 10 rfl rfl)
theorem dX5_leastSetup_102 : decode cX5_leastSetup 102 = .ok (.aload_n 0, 1) := dk_42 (dk_at dksX5_leastSetup_4 11 rfl rfl)
theorem dX5_leastSetup_103 : decode cX5_leastSetup 103 = .ok (.iload 6, 2) := dk_21 6 (dk_at dksX5_leastSetup_4 12 rfl rfl)
theorem dX5_leastSetup_105 : decode cX5_leastSetup 105 = .ok (.iload 7, 2) := dk_21 7 (dk_at dksX5_leastSetup_4 14 rfl rfl)
theorem dX5_leastSetup_107 : decode cX5_leastSetup 107 = .ok (.iload_n 3, 1) := dk_29 (dk_at dksX5_leastSetup_4 16 rfl rfl)
theorem dX5_leastSetup_108 : decode cX5_leastSetup 108 = .ok (.invokevirtual 413, 3) := dk_182 1 157 (dk_at dksX5_leastSetup_4 17 rfl rfl)
theorem dX5_leastSetup_111 : decode cX5_leastSetup 111 = .ok (.iastore, 1) := dk_79 (dk_at dksX5_leastSetup_4 20 rfl rfl)
theorem dX5_leastSetup_112 : decode cX5_leastSetup 112 = .ok (.iload 6, 2) := dk_21 6 (dk_at dksX5_leastSetup_4 21 rfl rfl)
theorem dX5_leastSetup_114 : decode cX5_leastSetup 114 = .ok (.iload 4, 2) := dk_21 4 (dk_at dksX5_leastSetup_5 0 rfl rfl)
theorem dX5_leastSetup_116 : decode cX5_leastSetup 116 = .ok (.if_icmp .ne 24, 3) := dk_160 0 24 (dk_at dksX5_leastSetup_5 2 rfl rfl)
theorem dX5_leastSetup_119 : decode cX5_leastSetup 119 = .ok (.iload 5, 2) := dk_21 5 (dk_at dksX5_leastSetup_5 5 rfl rfl)
theorem dX5_leastSetup_121 : decode cX5_leastSetup 121 = .ok (.aload_n 0, 1) := dk_42 (dk_at dksX5_leastSetup_5 7 rfl rfl)
theorem dX5_leastSetup_122 : decode cX5_leastSetup 122 = .ok (.getfield 67, 3) := dk_180 0 67 (dk_at dksX5_leastSetup_5 8 rfl rfl)
theorem dX5_leastSetup_125 : decode cX5_leastSetup 125 = .ok (.bipush 8, 2) := dk_16 8 (dk_at dksX5_leastSetup_5 11 rfl rfl)
theorem dX5_leastSetup_127 : decode cX5_leastSetup 127 = .ok (.iload 6, 2) := dk_21 6 (dk_at dksX5_leastSetup_5 13 rfl rfl)
theorem dX5_leastSetup_129 : decode cX5_leastSetup 129 = .ok (.imul, 1) := dk_104 (dk_at dksX5_leastSetup_5 15 rfl rfl)
theorem dX5_leastSetup_130 : decode cX5_leastSetup 130 = .ok (.iload 7, 2) := dk_21 7 (dk_at dksX5_leastSetup_5 16 rfl rfl)
theorem dX5_leastSetup_132 : decode cX5_leastSetup 132 = .ok (.iadd, 1) := dk_96 (dk_at dksX5_leastSetup_5 18 rfl rfl)
theorem dX5_leastSetup_133 : decode cX5_leastSetup 133 = .ok (.iaload, 1) := dk_46 (dk_at dksX5_leastSetup_5 19 rfl rfl)
theorem dX5_leastSetup_134 : decode cX5_leastSetup 134 = .ok (.invokestatic 260, 3) := dk_184 1 4 (dk_at dksX5_leastSetup_5 20 rfl rfl)
theorem dX5_leastSetup_137 : decode cX5_leastSetup 137 = .ok (.goto 5, 3) := dk_167 0 5 (dk_at dksX5_leastSetup_6 0 rfl rfl)
theorem dX5_leastSetup_140 : decode cX5_leastSetup 140 = .ok (.iload 5, 2) := dk_21 5 (dk_at dksX5_leastSetup_6 3 rfl rfl)
theorem dX5_leastSetup_142 : decode cX5_leastSetup 142 = .ok (.istore 5, 2) := dk_54 5 (dk_at dksX5_leastSetup_6 5 rfl rfl)
theorem dX5_leastSetup_144 : decode cX5_leastSetup 144 = .ok (.iinc 7 1, 3) := dk_132 7 1 (dk_at dksX5_leastSetup_6 7 rfl rfl)
theorem dX5_leastSetup_147 : decode cX5_leastSetup 147 = .ok (.goto (-76), 3) := dk_167 255 180 (dk_at dksX5_leastSetup_6 10 rfl rfl)
theorem dX5_leastSetup_150 : decode cX5_leastSetup 150 = .ok (.iinc 6 1, 3) := dk_132 6 1 (dk_at dksX5_leastSetup_6 13 rfl rfl)
theorem dX5_leastSetup_153 : decode cX5_leastSetup 153 = .ok (.goto (-92), 3) := dk_167 255 164 (dk_at dksX5_leastSetup_6 16 rfl rfl)
theorem dX5_leastSetup_156 : decode cX5_leastSetup 156 = .ok (.iload 5, 2) := dk_21 5 (dk_at dksX5_leastSetup_6 19 rfl rfl)
theorem dX5_leastSetup_158 : decode cX5_leastSetup 158 = .ok (.ireturn, 1) := dk_172 (dk_at dksX5_leastSetup_6 21 rfl rfl)
abbrev cX5_onDay : ByteArray := prog_17_method_122_code
def yX5_onDay : MethodName := ⟨RX5, "onDay", "(II)I"⟩
def dkwX5_onDay_2 : List UInt8 := [79, 132, 3, 1, 132, 4, 1, 167, 255, 206, 29, 172]
abbrev dktX5_onDay_2 : List UInt8 := dkwX5_onDay_2 ++ []
def dkwX5_onDay_1 : List UInt8 := [154, 0, 6, 167, 0, 25, 29, 16, 8, 162, 0, 16, 42, 180, 0, 64, 29, 42, 21, 4, 3, 182, 0, 228]
abbrev dktX5_onDay_1 : List UInt8 := dkwX5_onDay_1 ++ dktX5_onDay_2
def dkwX5_onDay_0 : List UInt8 := [3, 62, 3, 54, 4, 21, 4, 42, 180, 0, 36, 4, 46, 162, 0, 45, 42, 21, 4, 27, 28, 182, 1, 145]
abbrev dktX5_onDay_0 : List UInt8 := dkwX5_onDay_0 ++ dktX5_onDay_1
theorem dksX5_onDay_0 : cX5_onDay.data.toList.drop 0 = dktX5_onDay_0 := by decide +kernel
theorem dksX5_onDay_1 : cX5_onDay.data.toList.drop 24 = dktX5_onDay_1 := dk_seg dksX5_onDay_0 24 rfl rfl
theorem dksX5_onDay_2 : cX5_onDay.data.toList.drop 48 = dktX5_onDay_2 := dk_seg dksX5_onDay_1 24 rfl rfl
theorem dX5_onDay_0 : decode cX5_onDay 0 = .ok (.iconst 0, 1) := dk_3 (dk_at dksX5_onDay_0 0 rfl rfl)
theorem dX5_onDay_1 : decode cX5_onDay 1 = .ok (.istore_n 3, 1) := dk_62 (dk_at dksX5_onDay_0 1 rfl rfl)
theorem dX5_onDay_2 : decode cX5_onDay 2 = .ok (.iconst 0, 1) := dk_3 (dk_at dksX5_onDay_0 2 rfl rfl)
theorem dX5_onDay_3 : decode cX5_onDay 3 = .ok (.istore 4, 2) := dk_54 4 (dk_at dksX5_onDay_0 3 rfl rfl)
theorem dX5_onDay_5 : decode cX5_onDay 5 = .ok (.iload 4, 2) := dk_21 4 (dk_at dksX5_onDay_0 5 rfl rfl)
theorem dX5_onDay_7 : decode cX5_onDay 7 = .ok (.aload_n 0, 1) := dk_42 (dk_at dksX5_onDay_0 7 rfl rfl)
theorem dX5_onDay_8 : decode cX5_onDay 8 = .ok (.getfield 36, 3) := dk_180 0 36 (dk_at dksX5_onDay_0 8 rfl rfl)
theorem dX5_onDay_11 : decode cX5_onDay 11 = .ok (.iconst 1, 1) := dk_4 (dk_at dksX5_onDay_0 11 rfl rfl)
theorem dX5_onDay_12 : decode cX5_onDay 12 = .ok (.iaload, 1) := dk_46 (dk_at dksX5_onDay_0 12 rfl rfl)
theorem dX5_onDay_13 : decode cX5_onDay 13 = .ok (.if_icmp .ge 45, 3) := dk_162 0 45 (dk_at dksX5_onDay_0 13 rfl rfl)
theorem dX5_onDay_16 : decode cX5_onDay 16 = .ok (.aload_n 0, 1) := dk_42 (dk_at dksX5_onDay_0 16 rfl rfl)
theorem dX5_onDay_17 : decode cX5_onDay 17 = .ok (.iload 4, 2) := dk_21 4 (dk_at dksX5_onDay_0 17 rfl rfl)
theorem dX5_onDay_19 : decode cX5_onDay 19 = .ok (.iload_n 1, 1) := dk_27 (dk_at dksX5_onDay_0 19 rfl rfl)
theorem dX5_onDay_20 : decode cX5_onDay 20 = .ok (.iload_n 2, 1) := dk_28 (dk_at dksX5_onDay_0 20 rfl rfl)
theorem dX5_onDay_21 : decode cX5_onDay 21 = .ok (.invokevirtual 401, 3) := dk_182 1 145 (dk_at dksX5_onDay_0 21 rfl rfl)
theorem dX5_onDay_24 : decode cX5_onDay 24 = .ok (.ifCond .ne 6, 3) := dk_154 0 6 (dk_at dksX5_onDay_1 0 rfl rfl)
theorem dX5_onDay_27 : decode cX5_onDay 27 = .ok (.goto 25, 3) := dk_167 0 25 (dk_at dksX5_onDay_1 3 rfl rfl)
theorem dX5_onDay_30 : decode cX5_onDay 30 = .ok (.iload_n 3, 1) := dk_29 (dk_at dksX5_onDay_1 6 rfl rfl)
theorem dX5_onDay_31 : decode cX5_onDay 31 = .ok (.bipush 8, 2) := dk_16 8 (dk_at dksX5_onDay_1 7 rfl rfl)
theorem dX5_onDay_33 : decode cX5_onDay 33 = .ok (.if_icmp .ge 16, 3) := dk_162 0 16 (dk_at dksX5_onDay_1 9 rfl rfl)
theorem dX5_onDay_36 : decode cX5_onDay 36 = .ok (.aload_n 0, 1) := dk_42 (dk_at dksX5_onDay_1 12 rfl rfl)
theorem dX5_onDay_37 : decode cX5_onDay 37 = .ok (.getfield 64, 3) := dk_180 0 64 (dk_at dksX5_onDay_1 13 rfl rfl)
theorem dX5_onDay_40 : decode cX5_onDay 40 = .ok (.iload_n 3, 1) := dk_29 (dk_at dksX5_onDay_1 16 rfl rfl)
theorem dX5_onDay_41 : decode cX5_onDay 41 = .ok (.aload_n 0, 1) := dk_42 (dk_at dksX5_onDay_1 17 rfl rfl)
theorem dX5_onDay_42 : decode cX5_onDay 42 = .ok (.iload 4, 2) := dk_21 4 (dk_at dksX5_onDay_1 18 rfl rfl)
theorem dX5_onDay_44 : decode cX5_onDay 44 = .ok (.iconst 0, 1) := dk_3 (dk_at dksX5_onDay_1 20 rfl rfl)
theorem dX5_onDay_45 : decode cX5_onDay 45 = .ok (.invokevirtual 228, 3) := dk_182 0 228 (dk_at dksX5_onDay_1 21 rfl rfl)
theorem dX5_onDay_48 : decode cX5_onDay 48 = .ok (.iastore, 1) := dk_79 (dk_at dksX5_onDay_2 0 rfl rfl)
theorem dX5_onDay_49 : decode cX5_onDay 49 = .ok (.iinc 3 1, 3) := dk_132 3 1 (dk_at dksX5_onDay_2 1 rfl rfl)
theorem dX5_onDay_52 : decode cX5_onDay 52 = .ok (.iinc 4 1, 3) := dk_132 4 1 (dk_at dksX5_onDay_2 4 rfl rfl)
theorem dX5_onDay_55 : decode cX5_onDay 55 = .ok (.goto (-50), 3) := dk_167 255 206 (dk_at dksX5_onDay_2 7 rfl rfl)
theorem dX5_onDay_58 : decode cX5_onDay 58 = .ok (.iload_n 3, 1) := dk_29 (dk_at dksX5_onDay_2 10 rfl rfl)
theorem dX5_onDay_59 : decode cX5_onDay 59 = .ok (.ireturn, 1) := dk_172 (dk_at dksX5_onDay_2 11 rfl rfl)
abbrev cX5_leastOf : ByteArray := prog_17_method_123_code
def yX5_leastOf : MethodName := ⟨RX5, "leastOf", "(III)I"⟩
def dkwX5_leastOf_3 : List UInt8 := [182, 0, 245, 96, 184, 1, 4, 54, 5, 132, 6, 1, 167, 255, 198, 21, 5, 172]
abbrev dktX5_leastOf_3 : List UInt8 := dkwX5_leastOf_3 ++ []
def dkwX5_leastOf_2 : List UInt8 := [16, 8, 21, 4, 104, 21, 6, 96, 46, 42, 42, 180, 0, 64, 21, 6, 46, 42, 180, 0, 64, 28, 46]
abbrev dktX5_leastOf_2 : List UInt8 := dkwX5_leastOf_2 ++ dktX5_leastOf_3
def dkwX5_leastOf_1 : List UInt8 := [21, 6, 29, 162, 0, 58, 21, 4, 21, 6, 122, 4, 126, 4, 160, 0, 41, 21, 5, 42, 180, 0, 67]
abbrev dktX5_leastOf_1 : List UInt8 := dkwX5_leastOf_1 ++ dktX5_leastOf_2
def dkwX5_leastOf_0 : List UInt8 := [27, 4, 28, 120, 2, 130, 126, 54, 4, 21, 4, 154, 0, 5, 3, 172, 19, 1, 153, 54, 5, 3, 54, 6]
abbrev dktX5_leastOf_0 : List UInt8 := dkwX5_leastOf_0 ++ dktX5_leastOf_1
theorem dksX5_leastOf_0 : cX5_leastOf.data.toList.drop 0 = dktX5_leastOf_0 := by decide +kernel
theorem dksX5_leastOf_1 : cX5_leastOf.data.toList.drop 24 = dktX5_leastOf_1 := dk_seg dksX5_leastOf_0 24 rfl rfl
theorem dksX5_leastOf_2 : cX5_leastOf.data.toList.drop 47 = dktX5_leastOf_2 := dk_seg dksX5_leastOf_1 23 rfl rfl
theorem dksX5_leastOf_3 : cX5_leastOf.data.toList.drop 70 = dktX5_leastOf_3 := dk_seg dksX5_leastOf_2 23 rfl rfl
theorem dX5_leastOf_0 : decode cX5_leastOf 0 = .ok (.iload_n 1, 1) := dk_27 (dk_at dksX5_leastOf_0 0 rfl rfl)
theorem dX5_leastOf_1 : decode cX5_leastOf 1 = .ok (.iconst 1, 1) := dk_4 (dk_at dksX5_leastOf_0 1 rfl rfl)
theorem dX5_leastOf_2 : decode cX5_leastOf 2 = .ok (.iload_n 2, 1) := dk_28 (dk_at dksX5_leastOf_0 2 rfl rfl)
theorem dX5_leastOf_3 : decode cX5_leastOf 3 = .ok (.ishl, 1) := dk_120 (dk_at dksX5_leastOf_0 3 rfl rfl)
theorem dX5_leastOf_4 : decode cX5_leastOf 4 = .ok (.iconst (-1), 1) := dk_2 (dk_at dksX5_leastOf_0 4 rfl rfl)
theorem dX5_leastOf_5 : decode cX5_leastOf 5 = .ok (.ixor, 1) := dk_130 (dk_at dksX5_leastOf_0 5 rfl rfl)
theorem dX5_leastOf_6 : decode cX5_leastOf 6 = .ok (.iand, 1) := dk_126 (dk_at dksX5_leastOf_0 6 rfl rfl)
theorem dX5_leastOf_7 : decode cX5_leastOf 7 = .ok (.istore 4, 2) := dk_54 4 (dk_at dksX5_leastOf_0 7 rfl rfl)
theorem dX5_leastOf_9 : decode cX5_leastOf 9 = .ok (.iload 4, 2) := dk_21 4 (dk_at dksX5_leastOf_0 9 rfl rfl)
theorem dX5_leastOf_11 : decode cX5_leastOf 11 = .ok (.ifCond .ne 5, 3) := dk_154 0 5 (dk_at dksX5_leastOf_0 11 rfl rfl)
theorem dX5_leastOf_14 : decode cX5_leastOf 14 = .ok (.iconst 0, 1) := dk_3 (dk_at dksX5_leastOf_0 14 rfl rfl)
theorem dX5_leastOf_15 : decode cX5_leastOf 15 = .ok (.ireturn, 1) := dk_172 (dk_at dksX5_leastOf_0 15 rfl rfl)
theorem dX5_leastOf_16 : decode cX5_leastOf 16 = .ok (.ldc_w 409, 3) := dk_19 1 153 (dk_at dksX5_leastOf_0 16 rfl rfl)
theorem dX5_leastOf_19 : decode cX5_leastOf 19 = .ok (.istore 5, 2) := dk_54 5 (dk_at dksX5_leastOf_0 19 rfl rfl)
theorem dX5_leastOf_21 : decode cX5_leastOf 21 = .ok (.iconst 0, 1) := dk_3 (dk_at dksX5_leastOf_0 21 rfl rfl)
theorem dX5_leastOf_22 : decode cX5_leastOf 22 = .ok (.istore 6, 2) := dk_54 6 (dk_at dksX5_leastOf_0 22 rfl rfl)
theorem dX5_leastOf_24 : decode cX5_leastOf 24 = .ok (.iload 6, 2) := dk_21 6 (dk_at dksX5_leastOf_1 0 rfl rfl)
theorem dX5_leastOf_26 : decode cX5_leastOf 26 = .ok (.iload_n 3, 1) := dk_29 (dk_at dksX5_leastOf_1 2 rfl rfl)
theorem dX5_leastOf_27 : decode cX5_leastOf 27 = .ok (.if_icmp .ge 58, 3) := dk_162 0 58 (dk_at dksX5_leastOf_1 3 rfl rfl)
theorem dX5_leastOf_30 : decode cX5_leastOf 30 = .ok (.iload 4, 2) := dk_21 4 (dk_at dksX5_leastOf_1 6 rfl rfl)
theorem dX5_leastOf_32 : decode cX5_leastOf 32 = .ok (.iload 6, 2) := dk_21 6 (dk_at dksX5_leastOf_1 8 rfl rfl)
theorem dX5_leastOf_34 : decode cX5_leastOf 34 = .ok (.ishr, 1) := dk_122 (dk_at dksX5_leastOf_1 10 rfl rfl)
theorem dX5_leastOf_35 : decode cX5_leastOf 35 = .ok (.iconst 1, 1) := dk_4 (dk_at dksX5_leastOf_1 11 rfl rfl)
theorem dX5_leastOf_36 : decode cX5_leastOf 36 = .ok (.iand, 1) := dk_126 (dk_at dksX5_leastOf_1 12 rfl rfl)
theorem dX5_leastOf_37 : decode cX5_leastOf 37 = .ok (.iconst 1, 1) := dk_4 (dk_at dksX5_leastOf_1 13 rfl rfl)
theorem dX5_leastOf_38 : decode cX5_leastOf 38 = .ok (.if_icmp .ne 41, 3) := dk_160 0 41 (dk_at dksX5_leastOf_1 14 rfl rfl)
theorem dX5_leastOf_41 : decode cX5_leastOf 41 = .ok (.iload 5, 2) := dk_21 5 (dk_at dksX5_leastOf_1 17 rfl rfl)
theorem dX5_leastOf_43 : decode cX5_leastOf 43 = .ok (.aload_n 0, 1) := dk_42 (dk_at dksX5_leastOf_1 19 rfl rfl)
theorem dX5_leastOf_44 : decode cX5_leastOf 44 = .ok (.getfield 67, 3) := dk_180 0 67 (dk_at dksX5_leastOf_1 20 rfl rfl)
theorem dX5_leastOf_47 : decode cX5_leastOf 47 = .ok (.bipush 8, 2) := dk_16 8 (dk_at dksX5_leastOf_2 0 rfl rfl)
theorem dX5_leastOf_49 : decode cX5_leastOf 49 = .ok (.iload 4, 2) := dk_21 4 (dk_at dksX5_leastOf_2 2 rfl rfl)
theorem dX5_leastOf_51 : decode cX5_leastOf 51 = .ok (.imul, 1) := dk_104 (dk_at dksX5_leastOf_2 4 rfl rfl)
theorem dX5_leastOf_52 : decode cX5_leastOf 52 = .ok (.iload 6, 2) := dk_21 6 (dk_at dksX5_leastOf_2 5 rfl rfl)
theorem dX5_leastOf_54 : decode cX5_leastOf 54 = .ok (.iadd, 1) := dk_96 (dk_at dksX5_leastOf_2 7 rfl rfl)
theorem dX5_leastOf_55 : decode cX5_leastOf 55 = .ok (.iaload, 1) := dk_46 (dk_at dksX5_leastOf_2 8 rfl rfl)
theorem dX5_leastOf_56 : decode cX5_leastOf 56 = .ok (.aload_n 0, 1) := dk_42 (dk_at dksX5_leastOf_2 9 rfl rfl)
theorem dX5_leastOf_57 : decode cX5_leastOf 57 = .ok (.aload_n 0, 1) := dk_42 (dk_at dksX5_leastOf_2 10 rfl rfl)
theorem dX5_leastOf_58 : decode cX5_leastOf 58 = .ok (.getfield 64, 3) := dk_180 0 64 (dk_at dksX5_leastOf_2 11 rfl rfl)
theorem dX5_leastOf_61 : decode cX5_leastOf 61 = .ok (.iload 6, 2) := dk_21 6 (dk_at dksX5_leastOf_2 14 rfl rfl)
theorem dX5_leastOf_63 : decode cX5_leastOf 63 = .ok (.iaload, 1) := dk_46 (dk_at dksX5_leastOf_2 16 rfl rfl)
theorem dX5_leastOf_64 : decode cX5_leastOf 64 = .ok (.aload_n 0, 1) := dk_42 (dk_at dksX5_leastOf_2 17 rfl rfl)
theorem dX5_leastOf_65 : decode cX5_leastOf 65 = .ok (.getfield 64, 3) := dk_180 0 64 (dk_at dksX5_leastOf_2 18 rfl rfl)
theorem dX5_leastOf_68 : decode cX5_leastOf 68 = .ok (.iload_n 2, 1) := dk_28 (dk_at dksX5_leastOf_2 21 rfl rfl)
theorem dX5_leastOf_69 : decode cX5_leastOf 69 = .ok (.iaload, 1) := dk_46 (dk_at dksX5_leastOf_2 22 rfl rfl)
theorem dX5_leastOf_70 : decode cX5_leastOf 70 = .ok (.invokevirtual 245, 3) := dk_182 0 245 (dk_at dksX5_leastOf_3 0 rfl rfl)
theorem dX5_leastOf_73 : decode cX5_leastOf 73 = .ok (.iadd, 1) := dk_96 (dk_at dksX5_leastOf_3 3 rfl rfl)
theorem dX5_leastOf_74 : decode cX5_leastOf 74 = .ok (.invokestatic 260, 3) := dk_184 1 4 (dk_at dksX5_leastOf_3 4 rfl rfl)
theorem dX5_leastOf_77 : decode cX5_leastOf 77 = .ok (.istore 5, 2) := dk_54 5 (dk_at dksX5_leastOf_3 7 rfl rfl)
theorem dX5_leastOf_79 : decode cX5_leastOf 79 = .ok (.iinc 6 1, 3) := dk_132 6 1 (dk_at dksX5_leastOf_3 9 rfl rfl)
theorem dX5_leastOf_82 : decode cX5_leastOf 82 = .ok (.goto (-58), 3) := dk_167 255 198 (dk_at dksX5_leastOf_3 12 rfl rfl)
theorem dX5_leastOf_85 : decode cX5_leastOf 85 = .ok (.iload 5, 2) := dk_21 5 (dk_at dksX5_leastOf_3 15 rfl rfl)
theorem dX5_leastOf_87 : decode cX5_leastOf 87 = .ok (.ireturn, 1) := dk_172 (dk_at dksX5_leastOf_3 17 rfl rfl)
abbrev cX5_nextBooking : ByteArray := prog_17_method_125_code
def yX5_nextBooking : MethodName := ⟨RX5, "nextBooking", "(II)I"⟩
def dkwX5_nextBooking_2 : List UInt8 := [182, 1, 148, 62, 29, 2, 160, 0, 11, 42, 6, 182, 0, 83, 167, 0, 4, 29, 172]
abbrev dktX5_nextBooking_2 : List UInt8 := dkwX5_nextBooking_2 ++ []
def dkwX5_nextBooking_1 : List UInt8 := [154, 0, 7, 5, 167, 0, 4, 3, 181, 0, 3, 42, 180, 0, 3, 158, 0, 5, 3, 172, 42, 27, 28]
abbrev dktX5_nextBooking_1 : List UInt8 := dkwX5_nextBooking_1 ++ dktX5_nextBooking_2
def dkwX5_nextBooking_0 : List UInt8 := [42, 42, 27, 182, 1, 42, 154, 0, 7, 4, 167, 0, 20, 28, 133, 9, 20, 1, 125, 184, 0, 90]
abbrev dktX5_nextBooking_0 : List UInt8 := dkwX5_nextBooking_0 ++ dktX5_nextBooking_1
theorem dksX5_nextBooking_0 : cX5_nextBooking.data.toList.drop 0 = dktX5_nextBooking_0 := by decide +kernel
theorem dksX5_nextBooking_1 : cX5_nextBooking.data.toList.drop 22 = dktX5_nextBooking_1 := dk_seg dksX5_nextBooking_0 22 rfl rfl
theorem dksX5_nextBooking_2 : cX5_nextBooking.data.toList.drop 45 = dktX5_nextBooking_2 := dk_seg dksX5_nextBooking_1 23 rfl rfl
theorem dX5_nextBooking_0 : decode cX5_nextBooking 0 = .ok (.aload_n 0, 1) := dk_42 (dk_at dksX5_nextBooking_0 0 rfl rfl)
theorem dX5_nextBooking_1 : decode cX5_nextBooking 1 = .ok (.aload_n 0, 1) := dk_42 (dk_at dksX5_nextBooking_0 1 rfl rfl)
theorem dX5_nextBooking_2 : decode cX5_nextBooking 2 = .ok (.iload_n 1, 1) := dk_27 (dk_at dksX5_nextBooking_0 2 rfl rfl)
theorem dX5_nextBooking_3 : decode cX5_nextBooking 3 = .ok (.invokevirtual 298, 3) := dk_182 1 42 (dk_at dksX5_nextBooking_0 3 rfl rfl)
theorem dX5_nextBooking_6 : decode cX5_nextBooking 6 = .ok (.ifCond .ne 7, 3) := dk_154 0 7 (dk_at dksX5_nextBooking_0 6 rfl rfl)
theorem dX5_nextBooking_9 : decode cX5_nextBooking 9 = .ok (.iconst 1, 1) := dk_4 (dk_at dksX5_nextBooking_0 9 rfl rfl)
theorem dX5_nextBooking_10 : decode cX5_nextBooking 10 = .ok (.goto 20, 3) := dk_167 0 20 (dk_at dksX5_nextBooking_0 10 rfl rfl)
theorem dX5_nextBooking_13 : decode cX5_nextBooking 13 = .ok (.iload_n 2, 1) := dk_28 (dk_at dksX5_nextBooking_0 13 rfl rfl)
theorem dX5_nextBooking_14 : decode cX5_nextBooking 14 = .ok (.i2l, 1) := dk_133 (dk_at dksX5_nextBooking_0 14 rfl rfl)
theorem dX5_nextBooking_15 : decode cX5_nextBooking 15 = .ok (.lconst 0, 1) := dk_9 (dk_at dksX5_nextBooking_0 15 rfl rfl)
theorem dX5_nextBooking_16 : decode cX5_nextBooking 16 = .ok (.ldc2_w 381, 3) := dk_20 1 125 (dk_at dksX5_nextBooking_0 16 rfl rfl)
theorem dX5_nextBooking_19 : decode cX5_nextBooking 19 = .ok (.invokestatic 90, 3) := dk_184 0 90 (dk_at dksX5_nextBooking_0 19 rfl rfl)
theorem dX5_nextBooking_22 : decode cX5_nextBooking 22 = .ok (.ifCond .ne 7, 3) := dk_154 0 7 (dk_at dksX5_nextBooking_1 0 rfl rfl)
theorem dX5_nextBooking_25 : decode cX5_nextBooking 25 = .ok (.iconst 2, 1) := dk_5 (dk_at dksX5_nextBooking_1 3 rfl rfl)
theorem dX5_nextBooking_26 : decode cX5_nextBooking 26 = .ok (.goto 4, 3) := dk_167 0 4 (dk_at dksX5_nextBooking_1 4 rfl rfl)
theorem dX5_nextBooking_29 : decode cX5_nextBooking 29 = .ok (.iconst 0, 1) := dk_3 (dk_at dksX5_nextBooking_1 7 rfl rfl)
theorem dX5_nextBooking_30 : decode cX5_nextBooking 30 = .ok (.putfield 3, 3) := dk_181 0 3 (dk_at dksX5_nextBooking_1 8 rfl rfl)
theorem dX5_nextBooking_33 : decode cX5_nextBooking 33 = .ok (.aload_n 0, 1) := dk_42 (dk_at dksX5_nextBooking_1 11 rfl rfl)
theorem dX5_nextBooking_34 : decode cX5_nextBooking 34 = .ok (.getfield 3, 3) := dk_180 0 3 (dk_at dksX5_nextBooking_1 12 rfl rfl)
theorem dX5_nextBooking_37 : decode cX5_nextBooking 37 = .ok (.ifCond .le 5, 3) := dk_158 0 5 (dk_at dksX5_nextBooking_1 15 rfl rfl)
theorem dX5_nextBooking_40 : decode cX5_nextBooking 40 = .ok (.iconst 0, 1) := dk_3 (dk_at dksX5_nextBooking_1 18 rfl rfl)
theorem dX5_nextBooking_41 : decode cX5_nextBooking 41 = .ok (.ireturn, 1) := dk_172 (dk_at dksX5_nextBooking_1 19 rfl rfl)
theorem dX5_nextBooking_42 : decode cX5_nextBooking 42 = .ok (.aload_n 0, 1) := dk_42 (dk_at dksX5_nextBooking_1 20 rfl rfl)
theorem dX5_nextBooking_43 : decode cX5_nextBooking 43 = .ok (.iload_n 1, 1) := dk_27 (dk_at dksX5_nextBooking_1 21 rfl rfl)
theorem dX5_nextBooking_44 : decode cX5_nextBooking 44 = .ok (.iload_n 2, 1) := dk_28 (dk_at dksX5_nextBooking_1 22 rfl rfl)
theorem dX5_nextBooking_45 : decode cX5_nextBooking 45 = .ok (.invokevirtual 404, 3) := dk_182 1 148 (dk_at dksX5_nextBooking_2 0 rfl rfl)
theorem dX5_nextBooking_48 : decode cX5_nextBooking 48 = .ok (.istore_n 3, 1) := dk_62 (dk_at dksX5_nextBooking_2 3 rfl rfl)
theorem dX5_nextBooking_49 : decode cX5_nextBooking 49 = .ok (.iload_n 3, 1) := dk_29 (dk_at dksX5_nextBooking_2 4 rfl rfl)
theorem dX5_nextBooking_50 : decode cX5_nextBooking 50 = .ok (.iconst (-1), 1) := dk_2 (dk_at dksX5_nextBooking_2 5 rfl rfl)
theorem dX5_nextBooking_51 : decode cX5_nextBooking 51 = .ok (.if_icmp .ne 11, 3) := dk_160 0 11 (dk_at dksX5_nextBooking_2 6 rfl rfl)
theorem dX5_nextBooking_54 : decode cX5_nextBooking 54 = .ok (.aload_n 0, 1) := dk_42 (dk_at dksX5_nextBooking_2 9 rfl rfl)
theorem dX5_nextBooking_55 : decode cX5_nextBooking 55 = .ok (.iconst 3, 1) := dk_6 (dk_at dksX5_nextBooking_2 10 rfl rfl)
theorem dX5_nextBooking_56 : decode cX5_nextBooking 56 = .ok (.invokevirtual 83, 3) := dk_182 0 83 (dk_at dksX5_nextBooking_2 11 rfl rfl)
theorem dX5_nextBooking_59 : decode cX5_nextBooking 59 = .ok (.goto 4, 3) := dk_167 0 4 (dk_at dksX5_nextBooking_2 14 rfl rfl)
theorem dX5_nextBooking_62 : decode cX5_nextBooking 62 = .ok (.iload_n 3, 1) := dk_29 (dk_at dksX5_nextBooking_2 17 rfl rfl)
theorem dX5_nextBooking_63 : decode cX5_nextBooking 63 = .ok (.ireturn, 1) := dk_172 (dk_at dksX5_nextBooking_2 18 rfl rfl)
abbrev cX5_undo : ByteArray := prog_17_method_126_code
def yX5_undo : MethodName := ⟨RX5, "undo", "()I"⟩
def dkwX5_undo_2 : List UInt8 := [17, 4, 28, 42, 180, 0, 73, 104, 27, 96, 46, 79, 132, 1, 1, 167, 255, 225, 42, 180, 0, 73, 172]
abbrev dktX5_undo_2 : List UInt8 := dkwX5_undo_2 ++ []
def dkwX5_undo_1 : List UInt8 := [100, 181, 0, 73, 3, 60, 27, 17, 4, 28, 162, 0, 30, 42, 180, 0, 36, 27, 42, 180, 0, 42]
abbrev dktX5_undo_1 : List UInt8 := dkwX5_undo_1 ++ dktX5_undo_2
def dkwX5_undo_0 : List UInt8 := [42, 3, 181, 0, 3, 42, 180, 0, 73, 154, 0, 9, 42, 4, 182, 0, 83, 172, 42, 89, 180, 0, 73, 4]
abbrev dktX5_undo_0 : List UInt8 := dkwX5_undo_0 ++ dktX5_undo_1
theorem dksX5_undo_0 : cX5_undo.data.toList.drop 0 = dktX5_undo_0 := by decide +kernel
theorem dksX5_undo_1 : cX5_undo.data.toList.drop 24 = dktX5_undo_1 := dk_seg dksX5_undo_0 24 rfl rfl
theorem dksX5_undo_2 : cX5_undo.data.toList.drop 46 = dktX5_undo_2 := dk_seg dksX5_undo_1 22 rfl rfl
theorem dX5_undo_0 : decode cX5_undo 0 = .ok (.aload_n 0, 1) := dk_42 (dk_at dksX5_undo_0 0 rfl rfl)
theorem dX5_undo_1 : decode cX5_undo 1 = .ok (.iconst 0, 1) := dk_3 (dk_at dksX5_undo_0 1 rfl rfl)
theorem dX5_undo_2 : decode cX5_undo 2 = .ok (.putfield 3, 3) := dk_181 0 3 (dk_at dksX5_undo_0 2 rfl rfl)
theorem dX5_undo_5 : decode cX5_undo 5 = .ok (.aload_n 0, 1) := dk_42 (dk_at dksX5_undo_0 5 rfl rfl)
theorem dX5_undo_6 : decode cX5_undo 6 = .ok (.getfield 73, 3) := dk_180 0 73 (dk_at dksX5_undo_0 6 rfl rfl)
theorem dX5_undo_9 : decode cX5_undo 9 = .ok (.ifCond .ne 9, 3) := dk_154 0 9 (dk_at dksX5_undo_0 9 rfl rfl)
theorem dX5_undo_12 : decode cX5_undo 12 = .ok (.aload_n 0, 1) := dk_42 (dk_at dksX5_undo_0 12 rfl rfl)
theorem dX5_undo_13 : decode cX5_undo 13 = .ok (.iconst 1, 1) := dk_4 (dk_at dksX5_undo_0 13 rfl rfl)
theorem dX5_undo_14 : decode cX5_undo 14 = .ok (.invokevirtual 83, 3) := dk_182 0 83 (dk_at dksX5_undo_0 14 rfl rfl)
theorem dX5_undo_17 : decode cX5_undo 17 = .ok (.ireturn, 1) := dk_172 (dk_at dksX5_undo_0 17 rfl rfl)
theorem dX5_undo_18 : decode cX5_undo 18 = .ok (.aload_n 0, 1) := dk_42 (dk_at dksX5_undo_0 18 rfl rfl)
theorem dX5_undo_19 : decode cX5_undo 19 = .ok (.dup, 1) := dk_89 (dk_at dksX5_undo_0 19 rfl rfl)
theorem dX5_undo_20 : decode cX5_undo 20 = .ok (.getfield 73, 3) := dk_180 0 73 (dk_at dksX5_undo_0 20 rfl rfl)
theorem dX5_undo_23 : decode cX5_undo 23 = .ok (.iconst 1, 1) := dk_4 (dk_at dksX5_undo_0 23 rfl rfl)
theorem dX5_undo_24 : decode cX5_undo 24 = .ok (.isub, 1) := dk_100 (dk_at dksX5_undo_1 0 rfl rfl)
theorem dX5_undo_25 : decode cX5_undo 25 = .ok (.putfield 73, 3) := dk_181 0 73 (dk_at dksX5_undo_1 1 rfl rfl)
theorem dX5_undo_28 : decode cX5_undo 28 = .ok (.iconst 0, 1) := dk_3 (dk_at dksX5_undo_1 4 rfl rfl)
theorem dX5_undo_29 : decode cX5_undo 29 = .ok (.istore_n 1, 1) := dk_60 (dk_at dksX5_undo_1 5 rfl rfl)
theorem dX5_undo_30 : decode cX5_undo 30 = .ok (.iload_n 1, 1) := dk_27 (dk_at dksX5_undo_1 6 rfl rfl)
theorem dX5_undo_31 : decode cX5_undo 31 = .ok (.sipush 1052, 3) := dk_17 4 28 (dk_at dksX5_undo_1 7 rfl rfl)
theorem dX5_undo_34 : decode cX5_undo 34 = .ok (.if_icmp .ge 30, 3) := dk_162 0 30 (dk_at dksX5_undo_1 10 rfl rfl)
theorem dX5_undo_37 : decode cX5_undo 37 = .ok (.aload_n 0, 1) := dk_42 (dk_at dksX5_undo_1 13 rfl rfl)
theorem dX5_undo_38 : decode cX5_undo 38 = .ok (.getfield 36, 3) := dk_180 0 36 (dk_at dksX5_undo_1 14 rfl rfl)
theorem dX5_undo_41 : decode cX5_undo 41 = .ok (.iload_n 1, 1) := dk_27 (dk_at dksX5_undo_1 17 rfl rfl)
theorem dX5_undo_42 : decode cX5_undo 42 = .ok (.aload_n 0, 1) := dk_42 (dk_at dksX5_undo_1 18 rfl rfl)
theorem dX5_undo_43 : decode cX5_undo 43 = .ok (.getfield 42, 3) := dk_180 0 42 (dk_at dksX5_undo_1 19 rfl rfl)
theorem dX5_undo_46 : decode cX5_undo 46 = .ok (.sipush 1052, 3) := dk_17 4 28 (dk_at dksX5_undo_2 0 rfl rfl)
theorem dX5_undo_49 : decode cX5_undo 49 = .ok (.aload_n 0, 1) := dk_42 (dk_at dksX5_undo_2 3 rfl rfl)
theorem dX5_undo_50 : decode cX5_undo 50 = .ok (.getfield 73, 3) := dk_180 0 73 (dk_at dksX5_undo_2 4 rfl rfl)
theorem dX5_undo_53 : decode cX5_undo 53 = .ok (.imul, 1) := dk_104 (dk_at dksX5_undo_2 7 rfl rfl)
theorem dX5_undo_54 : decode cX5_undo 54 = .ok (.iload_n 1, 1) := dk_27 (dk_at dksX5_undo_2 8 rfl rfl)
theorem dX5_undo_55 : decode cX5_undo 55 = .ok (.iadd, 1) := dk_96 (dk_at dksX5_undo_2 9 rfl rfl)
theorem dX5_undo_56 : decode cX5_undo 56 = .ok (.iaload, 1) := dk_46 (dk_at dksX5_undo_2 10 rfl rfl)
theorem dX5_undo_57 : decode cX5_undo 57 = .ok (.iastore, 1) := dk_79 (dk_at dksX5_undo_2 11 rfl rfl)
theorem dX5_undo_58 : decode cX5_undo 58 = .ok (.iinc 1 1, 3) := dk_132 1 1 (dk_at dksX5_undo_2 12 rfl rfl)
theorem dX5_undo_61 : decode cX5_undo 61 = .ok (.goto (-31), 3) := dk_167 255 225 (dk_at dksX5_undo_2 15 rfl rfl)
theorem dX5_undo_64 : decode cX5_undo 64 = .ok (.aload_n 0, 1) := dk_42 (dk_at dksX5_undo_2 18 rfl rfl)
theorem dX5_undo_65 : decode cX5_undo 65 = .ok (.getfield 73, 3) := dk_180 0 73 (dk_at dksX5_undo_2 19 rfl rfl)
theorem dX5_undo_68 : decode cX5_undo 68 = .ok (.ireturn, 1) := dk_172 (dk_at dksX5_undo_2 22 rfl rfl)
abbrev cX5_undoCount : ByteArray := prog_17_method_127_code
def yX5_undoCount : MethodName := ⟨RX5, "undoCount", "()I"⟩
def dkwX5_undoCount_0 : List UInt8 := [42, 3, 181, 0, 3, 42, 180, 0, 73, 172]
abbrev dktX5_undoCount_0 : List UInt8 := dkwX5_undoCount_0 ++ []
theorem dksX5_undoCount_0 : cX5_undoCount.data.toList.drop 0 = dktX5_undoCount_0 := by decide +kernel
theorem dX5_undoCount_0 : decode cX5_undoCount 0 = .ok (.aload_n 0, 1) := dk_42 (dk_at dksX5_undoCount_0 0 rfl rfl)
theorem dX5_undoCount_1 : decode cX5_undoCount 1 = .ok (.iconst 0, 1) := dk_3 (dk_at dksX5_undoCount_0 1 rfl rfl)
theorem dX5_undoCount_2 : decode cX5_undoCount 2 = .ok (.putfield 3, 3) := dk_181 0 3 (dk_at dksX5_undoCount_0 2 rfl rfl)
theorem dX5_undoCount_5 : decode cX5_undoCount 5 = .ok (.aload_n 0, 1) := dk_42 (dk_at dksX5_undoCount_0 5 rfl rfl)
theorem dX5_undoCount_6 : decode cX5_undoCount 6 = .ok (.getfield 73, 3) := dk_180 0 73 (dk_at dksX5_undoCount_0 6 rfl rfl)
theorem dX5_undoCount_9 : decode cX5_undoCount 9 = .ok (.ireturn, 1) := dk_172 (dk_at dksX5_undoCount_0 9 rfl rfl)
abbrev cX5_save : ByteArray := prog_17_method_128_code
def yX5_save : MethodName := ⟨RX5, "save", "()I"⟩
def dkwX5_save_1 : List UInt8 := [46, 79, 132, 1, 1, 167, 255, 234, 42, 4, 181, 0, 220, 42, 180, 0, 36, 3, 46, 172]
abbrev dktX5_save_1 : List UInt8 := dkwX5_save_1 ++ []
def dkwX5_save_0 : List UInt8 := [42, 3, 181, 0, 3, 3, 60, 27, 17, 4, 28, 162, 0, 21, 42, 180, 0, 39, 27, 42, 180, 0, 36, 27]
abbrev dktX5_save_0 : List UInt8 := dkwX5_save_0 ++ dktX5_save_1
theorem dksX5_save_0 : cX5_save.data.toList.drop 0 = dktX5_save_0 := by decide +kernel
theorem dksX5_save_1 : cX5_save.data.toList.drop 24 = dktX5_save_1 := dk_seg dksX5_save_0 24 rfl rfl
theorem dX5_save_0 : decode cX5_save 0 = .ok (.aload_n 0, 1) := dk_42 (dk_at dksX5_save_0 0 rfl rfl)
theorem dX5_save_1 : decode cX5_save 1 = .ok (.iconst 0, 1) := dk_3 (dk_at dksX5_save_0 1 rfl rfl)
theorem dX5_save_2 : decode cX5_save 2 = .ok (.putfield 3, 3) := dk_181 0 3 (dk_at dksX5_save_0 2 rfl rfl)
theorem dX5_save_5 : decode cX5_save 5 = .ok (.iconst 0, 1) := dk_3 (dk_at dksX5_save_0 5 rfl rfl)
theorem dX5_save_6 : decode cX5_save 6 = .ok (.istore_n 1, 1) := dk_60 (dk_at dksX5_save_0 6 rfl rfl)
theorem dX5_save_7 : decode cX5_save 7 = .ok (.iload_n 1, 1) := dk_27 (dk_at dksX5_save_0 7 rfl rfl)
theorem dX5_save_8 : decode cX5_save 8 = .ok (.sipush 1052, 3) := dk_17 4 28 (dk_at dksX5_save_0 8 rfl rfl)
theorem dX5_save_11 : decode cX5_save 11 = .ok (.if_icmp .ge 21, 3) := dk_162 0 21 (dk_at dksX5_save_0 11 rfl rfl)
theorem dX5_save_14 : decode cX5_save 14 = .ok (.aload_n 0, 1) := dk_42 (dk_at dksX5_save_0 14 rfl rfl)
theorem dX5_save_15 : decode cX5_save 15 = .ok (.getfield 39, 3) := dk_180 0 39 (dk_at dksX5_save_0 15 rfl rfl)
theorem dX5_save_18 : decode cX5_save 18 = .ok (.iload_n 1, 1) := dk_27 (dk_at dksX5_save_0 18 rfl rfl)
theorem dX5_save_19 : decode cX5_save 19 = .ok (.aload_n 0, 1) := dk_42 (dk_at dksX5_save_0 19 rfl rfl)
theorem dX5_save_20 : decode cX5_save 20 = .ok (.getfield 36, 3) := dk_180 0 36 (dk_at dksX5_save_0 20 rfl rfl)
theorem dX5_save_23 : decode cX5_save 23 = .ok (.iload_n 1, 1) := dk_27 (dk_at dksX5_save_0 23 rfl rfl)
theorem dX5_save_24 : decode cX5_save 24 = .ok (.iaload, 1) := dk_46 (dk_at dksX5_save_1 0 rfl rfl)
theorem dX5_save_25 : decode cX5_save 25 = .ok (.iastore, 1) := dk_79 (dk_at dksX5_save_1 1 rfl rfl)
theorem dX5_save_26 : decode cX5_save 26 = .ok (.iinc 1 1, 3) := dk_132 1 1 (dk_at dksX5_save_1 2 rfl rfl)
theorem dX5_save_29 : decode cX5_save 29 = .ok (.goto (-22), 3) := dk_167 255 234 (dk_at dksX5_save_1 5 rfl rfl)
theorem dX5_save_32 : decode cX5_save 32 = .ok (.aload_n 0, 1) := dk_42 (dk_at dksX5_save_1 8 rfl rfl)
theorem dX5_save_33 : decode cX5_save 33 = .ok (.iconst 1, 1) := dk_4 (dk_at dksX5_save_1 9 rfl rfl)
theorem dX5_save_34 : decode cX5_save 34 = .ok (.putfield 220, 3) := dk_181 0 220 (dk_at dksX5_save_1 10 rfl rfl)
theorem dX5_save_37 : decode cX5_save 37 = .ok (.aload_n 0, 1) := dk_42 (dk_at dksX5_save_1 13 rfl rfl)
theorem dX5_save_38 : decode cX5_save 38 = .ok (.getfield 36, 3) := dk_180 0 36 (dk_at dksX5_save_1 14 rfl rfl)
theorem dX5_save_41 : decode cX5_save 41 = .ok (.iconst 0, 1) := dk_3 (dk_at dksX5_save_1 17 rfl rfl)
theorem dX5_save_42 : decode cX5_save 42 = .ok (.iaload, 1) := dk_46 (dk_at dksX5_save_1 18 rfl rfl)
theorem dX5_save_43 : decode cX5_save 43 = .ok (.ireturn, 1) := dk_172 (dk_at dksX5_save_1 19 rfl rfl)
abbrev cX5_restore : ByteArray := prog_17_method_129_code
def yX5_restore : MethodName := ⟨RX5, "restore", "()I"⟩
def dkwX5_restore_2 : List UInt8 := [181, 0, 73, 42, 180, 0, 36, 3, 46, 172]
abbrev dktX5_restore_2 : List UInt8 := dkwX5_restore_2 ++ []
def dkwX5_restore_1 : List UInt8 := [162, 0, 21, 42, 180, 0, 36, 27, 42, 180, 0, 39, 27, 46, 79, 132, 1, 1, 167, 255, 234, 42, 3]
abbrev dktX5_restore_1 : List UInt8 := dkwX5_restore_1 ++ dktX5_restore_2
def dkwX5_restore_0 : List UInt8 := [42, 3, 181, 0, 3, 42, 180, 0, 220, 154, 0, 9, 42, 4, 182, 0, 83, 172, 3, 60, 27, 17, 4, 28]
abbrev dktX5_restore_0 : List UInt8 := dkwX5_restore_0 ++ dktX5_restore_1
theorem dksX5_restore_0 : cX5_restore.data.toList.drop 0 = dktX5_restore_0 := by decide +kernel
theorem dksX5_restore_1 : cX5_restore.data.toList.drop 24 = dktX5_restore_1 := dk_seg dksX5_restore_0 24 rfl rfl
theorem dksX5_restore_2 : cX5_restore.data.toList.drop 47 = dktX5_restore_2 := dk_seg dksX5_restore_1 23 rfl rfl
theorem dX5_restore_0 : decode cX5_restore 0 = .ok (.aload_n 0, 1) := dk_42 (dk_at dksX5_restore_0 0 rfl rfl)
theorem dX5_restore_1 : decode cX5_restore 1 = .ok (.iconst 0, 1) := dk_3 (dk_at dksX5_restore_0 1 rfl rfl)
theorem dX5_restore_2 : decode cX5_restore 2 = .ok (.putfield 3, 3) := dk_181 0 3 (dk_at dksX5_restore_0 2 rfl rfl)
theorem dX5_restore_5 : decode cX5_restore 5 = .ok (.aload_n 0, 1) := dk_42 (dk_at dksX5_restore_0 5 rfl rfl)
theorem dX5_restore_6 : decode cX5_restore 6 = .ok (.getfield 220, 3) := dk_180 0 220 (dk_at dksX5_restore_0 6 rfl rfl)
theorem dX5_restore_9 : decode cX5_restore 9 = .ok (.ifCond .ne 9, 3) := dk_154 0 9 (dk_at dksX5_restore_0 9 rfl rfl)
theorem dX5_restore_12 : decode cX5_restore 12 = .ok (.aload_n 0, 1) := dk_42 (dk_at dksX5_restore_0 12 rfl rfl)
theorem dX5_restore_13 : decode cX5_restore 13 = .ok (.iconst 1, 1) := dk_4 (dk_at dksX5_restore_0 13 rfl rfl)
theorem dX5_restore_14 : decode cX5_restore 14 = .ok (.invokevirtual 83, 3) := dk_182 0 83 (dk_at dksX5_restore_0 14 rfl rfl)
theorem dX5_restore_17 : decode cX5_restore 17 = .ok (.ireturn, 1) := dk_172 (dk_at dksX5_restore_0 17 rfl rfl)
theorem dX5_restore_18 : decode cX5_restore 18 = .ok (.iconst 0, 1) := dk_3 (dk_at dksX5_restore_0 18 rfl rfl)
theorem dX5_restore_19 : decode cX5_restore 19 = .ok (.istore_n 1, 1) := dk_60 (dk_at dksX5_restore_0 19 rfl rfl)
theorem dX5_restore_20 : decode cX5_restore 20 = .ok (.iload_n 1, 1) := dk_27 (dk_at dksX5_restore_0 20 rfl rfl)
theorem dX5_restore_21 : decode cX5_restore 21 = .ok (.sipush 1052, 3) := dk_17 4 28 (dk_at dksX5_restore_0 21 rfl rfl)
theorem dX5_restore_24 : decode cX5_restore 24 = .ok (.if_icmp .ge 21, 3) := dk_162 0 21 (dk_at dksX5_restore_1 0 rfl rfl)
theorem dX5_restore_27 : decode cX5_restore 27 = .ok (.aload_n 0, 1) := dk_42 (dk_at dksX5_restore_1 3 rfl rfl)
theorem dX5_restore_28 : decode cX5_restore 28 = .ok (.getfield 36, 3) := dk_180 0 36 (dk_at dksX5_restore_1 4 rfl rfl)
theorem dX5_restore_31 : decode cX5_restore 31 = .ok (.iload_n 1, 1) := dk_27 (dk_at dksX5_restore_1 7 rfl rfl)
theorem dX5_restore_32 : decode cX5_restore 32 = .ok (.aload_n 0, 1) := dk_42 (dk_at dksX5_restore_1 8 rfl rfl)
theorem dX5_restore_33 : decode cX5_restore 33 = .ok (.getfield 39, 3) := dk_180 0 39 (dk_at dksX5_restore_1 9 rfl rfl)
theorem dX5_restore_36 : decode cX5_restore 36 = .ok (.iload_n 1, 1) := dk_27 (dk_at dksX5_restore_1 12 rfl rfl)
theorem dX5_restore_37 : decode cX5_restore 37 = .ok (.iaload, 1) := dk_46 (dk_at dksX5_restore_1 13 rfl rfl)
theorem dX5_restore_38 : decode cX5_restore 38 = .ok (.iastore, 1) := dk_79 (dk_at dksX5_restore_1 14 rfl rfl)
theorem dX5_restore_39 : decode cX5_restore 39 = .ok (.iinc 1 1, 3) := dk_132 1 1 (dk_at dksX5_restore_1 15 rfl rfl)
theorem dX5_restore_42 : decode cX5_restore 42 = .ok (.goto (-22), 3) := dk_167 255 234 (dk_at dksX5_restore_1 18 rfl rfl)
theorem dX5_restore_45 : decode cX5_restore 45 = .ok (.aload_n 0, 1) := dk_42 (dk_at dksX5_restore_1 21 rfl rfl)
theorem dX5_restore_46 : decode cX5_restore 46 = .ok (.iconst 0, 1) := dk_3 (dk_at dksX5_restore_1 22 rfl rfl)
theorem dX5_restore_47 : decode cX5_restore 47 = .ok (.putfield 73, 3) := dk_181 0 73 (dk_at dksX5_restore_2 0 rfl rfl)
theorem dX5_restore_50 : decode cX5_restore 50 = .ok (.aload_n 0, 1) := dk_42 (dk_at dksX5_restore_2 3 rfl rfl)
theorem dX5_restore_51 : decode cX5_restore 51 = .ok (.getfield 36, 3) := dk_180 0 36 (dk_at dksX5_restore_2 4 rfl rfl)
theorem dX5_restore_54 : decode cX5_restore 54 = .ok (.iconst 0, 1) := dk_3 (dk_at dksX5_restore_2 7 rfl rfl)
theorem dX5_restore_55 : decode cX5_restore 55 = .ok (.iaload, 1) := dk_46 (dk_at dksX5_restore_2 8 rfl rfl)
theorem dX5_restore_56 : decode cX5_restore 56 = .ok (.ireturn, 1) := dk_172 (dk_at dksX5_restore_2 9 rfl rfl)
theorem q154 : (Jvm.Cond.initialized "HallPlanModel") ∈ lw_all := lw_g (lw_at lw_m1 13 rfl) rfl
theorem q1065 : (Jvm.Cond.selects "HallPlanModel" ({ cls := "java/lang/Object", name := "equals", desc := "(Ljava/lang/Object;)Z" } : Jvm.MethodName) ({ cls := "java/lang/Object", name := "equals", desc := "(Ljava/lang/Object;)Z" } : Jvm.MethodName)) ∈ lw_all := lw_g (lw_at lw_m4 204 rfl) rfl
theorem q1114 : (Jvm.Cond.selects "HallPlanModel" ({ cls := "java/lang/Object", name := "getClass", desc := "()Ljava/lang/Class;" } : Jvm.MethodName) ({ cls := "java/lang/Object", name := "getClass", desc := "()Ljava/lang/Class;" } : Jvm.MethodName)) ∈ lw_all := lw_g (lw_at lw_m5 13 rfl) rfl
theorem q2116 : (Jvm.Cond.instanceMethod ({ cls := "HallPlanModel", name := "thrown", desc := "()I" } : Jvm.MethodName)) ∈ lw_all := lw_g (lw_at lw_m9 55 rfl) rfl
theorem q2117 : (Jvm.Cond.selects "HallPlanModel" ({ cls := "HallPlanModel", name := "thrown", desc := "()I" } : Jvm.MethodName) ({ cls := "HallPlanModel", name := "thrown", desc := "()I" } : Jvm.MethodName)) ∈ lw_all := lw_g (lw_at lw_m9 56 rfl) rfl
theorem q2118 : (Jvm.Cond.code ({ cls := "HallPlanModel", name := "thrown", desc := "()I" } : Jvm.MethodName) prog_17_method_1_code (1 : Nat) (Option.some Jvm.ClassFile.FieldType.int)) ∈ lw_all := lw_g (lw_at lw_m9 57 rfl) rfl
theorem q2120 : (Jvm.Cond.instantiable "HallPlanModel" (27 : Nat)) ∈ lw_all := lw_g (lw_at lw_m9 59 rfl) rfl
theorem q2122 : (Jvm.Cond.instanceMethod ({ cls := "HallPlanModel", name := "<init>", desc := "()V" } : Jvm.MethodName)) ∈ lw_all := lw_g (lw_at lw_m9 61 rfl) rfl
theorem q2123 : (Jvm.Cond.code ({ cls := "HallPlanModel", name := "<init>", desc := "()V" } : Jvm.MethodName) prog_17_method_4_code (1 : Nat) (Option.none : Option Jvm.ClassFile.FieldType)) ∈ lw_all := lw_g (lw_at lw_m9 62 rfl) rfl
theorem q2124 : (Jvm.Cond.methodLink "HallPlanModel" (7 : Nat) ({ cls := "java/lang/Object", name := "<init>", desc := "()V" } : Jvm.MethodName)) ∈ lw_all := lw_g (lw_at lw_m9 63 rfl) rfl
theorem q2125 : (Jvm.Cond.methodLink "HallPlanModel" (70 : Nat) ({ cls := "HallPlanModel", name := "starts", desc := "()V" } : Jvm.MethodName)) ∈ lw_all := lw_g (lw_at lw_m9 64 rfl) rfl
theorem q2126 : (Jvm.Cond.privateMethod ({ cls := "HallPlanModel", name := "starts", desc := "()V" } : Jvm.MethodName)) ∈ lw_tbl := lw_at lw_m9 65 rfl
theorem q2127 : (Jvm.Cond.instanceMethod ({ cls := "HallPlanModel", name := "starts", desc := "()V" } : Jvm.MethodName)) ∈ lw_all := lw_g (lw_at lw_m9 66 rfl) rfl
theorem q2128 : (Jvm.Cond.code ({ cls := "HallPlanModel", name := "starts", desc := "()V" } : Jvm.MethodName) prog_17_method_5_code (2 : Nat) (Option.none : Option Jvm.ClassFile.FieldType)) ∈ lw_all := lw_g (lw_at lw_m9 67 rfl) rfl
theorem q2129 : (Jvm.Cond.fieldLink "HallPlanModel" (3 : Nat) "HallPlanModel" "thrown" "I") ∈ lw_all := lw_g (lw_at lw_m9 68 rfl) rfl
theorem q2130 : (Jvm.Cond.fieldLink "HallPlanModel" (13 : Nat) "HallPlanModel" "fixed" "[I") ∈ lw_all := lw_g (lw_at lw_m9 69 rfl) rfl
theorem q2131 : (Jvm.Cond.fieldLink "HallPlanModel" (17 : Nat) "HallPlanModel" "read" "[I") ∈ lw_all := lw_g (lw_at lw_m9 70 rfl) rfl
theorem q2132 : (Jvm.Cond.fieldLink "HallPlanModel" (20 : Nat) "HallPlanModel" "letters" "[B") ∈ lw_all := lw_g (lw_at lw_m9 71 rfl) rfl
theorem q2133 : (Jvm.Cond.fieldLink "HallPlanModel" (24 : Nat) "HallPlanModel" "sort" "[I") ∈ lw_all := lw_g (lw_at lw_m9 72 rfl) rfl
theorem q2134 : (Jvm.Cond.fieldLink "HallPlanModel" (27 : Nat) "HallPlanModel" "which" "[I") ∈ lw_all := lw_g (lw_at lw_m9 73 rfl) rfl
theorem q2135 : (Jvm.Cond.fieldLink "HallPlanModel" (30 : Nat) "HallPlanModel" "draft" "[I") ∈ lw_all := lw_g (lw_at lw_m9 74 rfl) rfl
theorem q2136 : (Jvm.Cond.fieldLink "HallPlanModel" (33 : Nat) "HallPlanModel" "asked" "[I") ∈ lw_all := lw_g (lw_at lw_m9 75 rfl) rfl
theorem q2137 : (Jvm.Cond.fieldLink "HallPlanModel" (36 : Nat) "HallPlanModel" "now" "[I") ∈ lw_all := lw_g (lw_at lw_m9 76 rfl) rfl
theorem q2138 : (Jvm.Cond.fieldLink "HallPlanModel" (39 : Nat) "HallPlanModel" "kept" "[I") ∈ lw_all := lw_g (lw_at lw_m9 77 rfl) rfl
theorem q2139 : (Jvm.Cond.fieldLink "HallPlanModel" (42 : Nat) "HallPlanModel" "past" "[I") ∈ lw_all := lw_g (lw_at lw_m9 78 rfl) rfl
theorem q2140 : (Jvm.Cond.fieldLink "HallPlanModel" (73 : Nat) "HallPlanModel" "changes" "I") ∈ lw_all := lw_g (lw_at lw_m9 79 rfl) rfl
theorem q2141 : (Jvm.Cond.fieldLink "HallPlanModel" (220 : Nat) "HallPlanModel" "isKept" "Z") ∈ lw_all := lw_g (lw_at lw_m9 80 rfl) rfl
theorem q2142 : (Jvm.Cond.fieldLink "HallPlanModel" (45 : Nat) "HallPlanModel" "buffer" "[B") ∈ lw_all := lw_g (lw_at lw_m9 81 rfl) rfl
theorem q2143 : (Jvm.Cond.fieldLink "HallPlanModel" (76 : Nat) "HallPlanModel" "length" "I") ∈ lw_all := lw_g (lw_at lw_m9 82 rfl) rfl
theorem q2144 : (Jvm.Cond.fieldLink "HallPlanModel" (94 : Nat) "HallPlanModel" "at" "I") ∈ lw_all := lw_g (lw_at lw_m9 83 rfl) rfl
theorem q2145 : (Jvm.Cond.fieldLink "HallPlanModel" (101 : Nat) "HallPlanModel" "token" "I") ∈ lw_all := lw_g (lw_at lw_m9 84 rfl) rfl
theorem q2146 : (Jvm.Cond.fieldLink "HallPlanModel" (104 : Nat) "HallPlanModel" "error" "I") ∈ lw_all := lw_g (lw_at lw_m9 85 rfl) rfl
theorem q2147 : (Jvm.Cond.fieldLink "HallPlanModel" (183 : Nat) "HallPlanModel" "hasWeekend" "Z") ∈ lw_all := lw_g (lw_at lw_m9 86 rfl) rfl
theorem q2148 : (Jvm.Cond.fieldLink "HallPlanModel" (48 : Nat) "HallPlanModel" "isOut" "[Z") ∈ lw_all := lw_g (lw_at lw_m9 87 rfl) rfl
theorem q2149 : (Jvm.Cond.fieldLink "HallPlanModel" (52 : Nat) "HallPlanModel" "steps" "[I") ∈ lw_all := lw_g (lw_at lw_m9 88 rfl) rfl
theorem q2150 : (Jvm.Cond.fieldLink "HallPlanModel" (55 : Nat) "HallPlanModel" "link" "[I") ∈ lw_all := lw_g (lw_at lw_m9 89 rfl) rfl
theorem q2151 : (Jvm.Cond.fieldLink "HallPlanModel" (353 : Nat) "HallPlanModel" "links" "I") ∈ lw_all := lw_g (lw_at lw_m9 90 rfl) rfl
theorem q2152 : (Jvm.Cond.fieldLink "HallPlanModel" (58 : Nat) "HallPlanModel" "placeWas" "[I") ∈ lw_all := lw_g (lw_at lw_m9 91 rfl) rfl
theorem q2153 : (Jvm.Cond.fieldLink "HallPlanModel" (61 : Nat) "HallPlanModel" "startWas" "[I") ∈ lw_all := lw_g (lw_at lw_m9 92 rfl) rfl
theorem q2154 : (Jvm.Cond.fieldLink "HallPlanModel" (64 : Nat) "HallPlanModel" "dayType" "[I") ∈ lw_all := lw_g (lw_at lw_m9 93 rfl) rfl
theorem q2155 : (Jvm.Cond.fieldLink "HallPlanModel" (67 : Nat) "HallPlanModel" "least" "[I") ∈ lw_all := lw_g (lw_at lw_m9 94 rfl) rfl
theorem q2156 : (Jvm.Cond.lays "HallPlanModel" "HallPlanModel" "thrown" "I") ∈ lw_all := lw_g (lw_at lw_m9 95 rfl) rfl
theorem q2157 : (Jvm.Cond.soleField "HallPlanModel" "thrown") ∈ lw_all := lw_g (lw_at lw_m9 96 rfl) rfl
theorem q2158 : (Jvm.Cond.laysFinal "HallPlanModel" "HallPlanModel" "fixed" "[I") ∈ lw_all := lw_g (lw_at lw_m9 97 rfl) rfl
theorem q2159 : (Jvm.Cond.soleField "HallPlanModel" "fixed") ∈ lw_all := lw_g (lw_at lw_m9 98 rfl) rfl
theorem q2160 : (Jvm.Cond.laysFinal "HallPlanModel" "HallPlanModel" "read" "[I") ∈ lw_all := lw_g (lw_at lw_m9 99 rfl) rfl
theorem q2161 : (Jvm.Cond.soleField "HallPlanModel" "read") ∈ lw_all := lw_g (lw_at lw_m9 100 rfl) rfl
theorem q2162 : (Jvm.Cond.laysFinal "HallPlanModel" "HallPlanModel" "letters" "[B") ∈ lw_all := lw_g (lw_at lw_m9 101 rfl) rfl
theorem q2163 : (Jvm.Cond.soleField "HallPlanModel" "letters") ∈ lw_all := lw_g (lw_at lw_m9 102 rfl) rfl
theorem q2164 : (Jvm.Cond.laysFinal "HallPlanModel" "HallPlanModel" "sort" "[I") ∈ lw_all := lw_g (lw_at lw_m9 103 rfl) rfl
theorem q2165 : (Jvm.Cond.soleField "HallPlanModel" "sort") ∈ lw_all := lw_g (lw_at lw_m9 104 rfl) rfl
theorem q2166 : (Jvm.Cond.laysFinal "HallPlanModel" "HallPlanModel" "which" "[I") ∈ lw_all := lw_g (lw_at lw_m9 105 rfl) rfl
theorem q2167 : (Jvm.Cond.soleField "HallPlanModel" "which") ∈ lw_all := lw_g (lw_at lw_m9 106 rfl) rfl
theorem q2168 : (Jvm.Cond.laysFinal "HallPlanModel" "HallPlanModel" "draft" "[I") ∈ lw_all := lw_g (lw_at lw_m9 107 rfl) rfl
theorem q2169 : (Jvm.Cond.soleField "HallPlanModel" "draft") ∈ lw_all := lw_g (lw_at lw_m9 108 rfl) rfl
theorem q2170 : (Jvm.Cond.laysFinal "HallPlanModel" "HallPlanModel" "asked" "[I") ∈ lw_all := lw_g (lw_at lw_m9 109 rfl) rfl
theorem q2171 : (Jvm.Cond.soleField "HallPlanModel" "asked") ∈ lw_all := lw_g (lw_at lw_m9 110 rfl) rfl
theorem q2172 : (Jvm.Cond.laysFinal "HallPlanModel" "HallPlanModel" "now" "[I") ∈ lw_all := lw_g (lw_at lw_m9 111 rfl) rfl
theorem q2173 : (Jvm.Cond.soleField "HallPlanModel" "now") ∈ lw_all := lw_g (lw_at lw_m9 112 rfl) rfl
theorem q2174 : (Jvm.Cond.laysFinal "HallPlanModel" "HallPlanModel" "kept" "[I") ∈ lw_all := lw_g (lw_at lw_m9 113 rfl) rfl
theorem q2175 : (Jvm.Cond.soleField "HallPlanModel" "kept") ∈ lw_all := lw_g (lw_at lw_m9 114 rfl) rfl
theorem q2176 : (Jvm.Cond.laysFinal "HallPlanModel" "HallPlanModel" "past" "[I") ∈ lw_all := lw_g (lw_at lw_m9 115 rfl) rfl
theorem q2177 : (Jvm.Cond.soleField "HallPlanModel" "past") ∈ lw_all := lw_g (lw_at lw_m9 116 rfl) rfl
theorem q2178 : (Jvm.Cond.lays "HallPlanModel" "HallPlanModel" "changes" "I") ∈ lw_all := lw_g (lw_at lw_m9 117 rfl) rfl
theorem q2179 : (Jvm.Cond.soleField "HallPlanModel" "changes") ∈ lw_all := lw_g (lw_at lw_m9 118 rfl) rfl
theorem q2180 : (Jvm.Cond.lays "HallPlanModel" "HallPlanModel" "isKept" "Z") ∈ lw_all := lw_g (lw_at lw_m9 119 rfl) rfl
theorem q2181 : (Jvm.Cond.soleField "HallPlanModel" "isKept") ∈ lw_all := lw_g (lw_at lw_m9 120 rfl) rfl
theorem q2182 : (Jvm.Cond.laysFinal "HallPlanModel" "HallPlanModel" "buffer" "[B") ∈ lw_all := lw_g (lw_at lw_m9 121 rfl) rfl
theorem q2183 : (Jvm.Cond.soleField "HallPlanModel" "buffer") ∈ lw_all := lw_g (lw_at lw_m9 122 rfl) rfl
theorem q2184 : (Jvm.Cond.lays "HallPlanModel" "HallPlanModel" "length" "I") ∈ lw_all := lw_g (lw_at lw_m9 123 rfl) rfl
theorem q2185 : (Jvm.Cond.soleField "HallPlanModel" "length") ∈ lw_all := lw_g (lw_at lw_m9 124 rfl) rfl
theorem q2186 : (Jvm.Cond.lays "HallPlanModel" "HallPlanModel" "at" "I") ∈ lw_all := lw_g (lw_at lw_m9 125 rfl) rfl
theorem q2187 : (Jvm.Cond.soleField "HallPlanModel" "at") ∈ lw_all := lw_g (lw_at lw_m9 126 rfl) rfl
theorem q2188 : (Jvm.Cond.lays "HallPlanModel" "HallPlanModel" "token" "I") ∈ lw_all := lw_g (lw_at lw_m9 127 rfl) rfl
theorem q2189 : (Jvm.Cond.soleField "HallPlanModel" "token") ∈ lw_all := lw_g (lw_at lw_m9 128 rfl) rfl
theorem q2190 : (Jvm.Cond.lays "HallPlanModel" "HallPlanModel" "error" "I") ∈ lw_all := lw_g (lw_at lw_m9 129 rfl) rfl
theorem q2191 : (Jvm.Cond.soleField "HallPlanModel" "error") ∈ lw_all := lw_g (lw_at lw_m9 130 rfl) rfl
theorem q2192 : (Jvm.Cond.lays "HallPlanModel" "HallPlanModel" "hasWeekend" "Z") ∈ lw_all := lw_g (lw_at lw_m9 131 rfl) rfl
theorem q2193 : (Jvm.Cond.soleField "HallPlanModel" "hasWeekend") ∈ lw_all := lw_g (lw_at lw_m9 132 rfl) rfl
theorem q2194 : (Jvm.Cond.laysFinal "HallPlanModel" "HallPlanModel" "isOut" "[Z") ∈ lw_all := lw_g (lw_at lw_m9 133 rfl) rfl
theorem q2195 : (Jvm.Cond.soleField "HallPlanModel" "isOut") ∈ lw_all := lw_g (lw_at lw_m9 134 rfl) rfl
theorem q2196 : (Jvm.Cond.laysFinal "HallPlanModel" "HallPlanModel" "steps" "[I") ∈ lw_all := lw_g (lw_at lw_m9 135 rfl) rfl
theorem q2197 : (Jvm.Cond.soleField "HallPlanModel" "steps") ∈ lw_all := lw_g (lw_at lw_m9 136 rfl) rfl
theorem q2198 : (Jvm.Cond.laysFinal "HallPlanModel" "HallPlanModel" "link" "[I") ∈ lw_all := lw_g (lw_at lw_m9 137 rfl) rfl
theorem q2199 : (Jvm.Cond.soleField "HallPlanModel" "link") ∈ lw_all := lw_g (lw_at lw_m9 138 rfl) rfl
theorem q2200 : (Jvm.Cond.lays "HallPlanModel" "HallPlanModel" "links" "I") ∈ lw_all := lw_g (lw_at lw_m9 139 rfl) rfl
theorem q2201 : (Jvm.Cond.soleField "HallPlanModel" "links") ∈ lw_all := lw_g (lw_at lw_m9 140 rfl) rfl
theorem q2202 : (Jvm.Cond.laysFinal "HallPlanModel" "HallPlanModel" "placeWas" "[I") ∈ lw_all := lw_g (lw_at lw_m9 141 rfl) rfl
theorem q2203 : (Jvm.Cond.soleField "HallPlanModel" "placeWas") ∈ lw_all := lw_g (lw_at lw_m9 142 rfl) rfl
theorem q2204 : (Jvm.Cond.laysFinal "HallPlanModel" "HallPlanModel" "startWas" "[I") ∈ lw_all := lw_g (lw_at lw_m9 143 rfl) rfl
theorem q2205 : (Jvm.Cond.soleField "HallPlanModel" "startWas") ∈ lw_all := lw_g (lw_at lw_m9 144 rfl) rfl
theorem q2206 : (Jvm.Cond.laysFinal "HallPlanModel" "HallPlanModel" "dayType" "[I") ∈ lw_all := lw_g (lw_at lw_m9 145 rfl) rfl
theorem q2207 : (Jvm.Cond.soleField "HallPlanModel" "dayType") ∈ lw_all := lw_g (lw_at lw_m9 146 rfl) rfl
theorem q2208 : (Jvm.Cond.laysFinal "HallPlanModel" "HallPlanModel" "least" "[I") ∈ lw_all := lw_g (lw_at lw_m9 147 rfl) rfl
theorem q2209 : (Jvm.Cond.soleField "HallPlanModel" "least") ∈ lw_all := lw_g (lw_at lw_m9 148 rfl) rfl
theorem q2210 : (Jvm.Cond.superclass "HallPlanModel" "java/lang/Object") ∈ lw_all := lw_g (lw_at lw_m9 149 rfl) rfl
theorem q2213 : (Jvm.Cond.instanceMethod ({ cls := "HallPlanModel", name := "append", desc := "(IIIII)I" } : Jvm.MethodName)) ∈ lw_all := lw_g (lw_at lw_m9 152 rfl) rfl
theorem q2214 : (Jvm.Cond.selects "HallPlanModel" ({ cls := "HallPlanModel", name := "append", desc := "(IIIII)I" } : Jvm.MethodName) ({ cls := "HallPlanModel", name := "append", desc := "(IIIII)I" } : Jvm.MethodName)) ∈ lw_all := lw_g (lw_at lw_m9 153 rfl) rfl
theorem q2215 : (Jvm.Cond.code ({ cls := "HallPlanModel", name := "append", desc := "(IIIII)I" } : Jvm.MethodName) prog_17_method_9_code (6 : Nat) (Option.some Jvm.ClassFile.FieldType.int)) ∈ lw_all := lw_g (lw_at lw_m9 154 rfl) rfl
theorem q2216 : (Jvm.Cond.methodLink "HallPlanModel" (79 : Nat) ({ cls := "HallPlanModel", name := "bytesOf", desc := "(I)I" } : Jvm.MethodName)) ∈ lw_all := lw_g (lw_at lw_m9 155 rfl) rfl
theorem q2217 : (Jvm.Cond.static ({ cls := "HallPlanModel", name := "bytesOf", desc := "(I)I" } : Jvm.MethodName)) ∈ lw_all := lw_g (lw_at lw_m9 156 rfl) rfl
theorem q2218 : (Jvm.Cond.code ({ cls := "HallPlanModel", name := "bytesOf", desc := "(I)I" } : Jvm.MethodName) prog_17_method_7_code (3 : Nat) (Option.some Jvm.ClassFile.FieldType.int)) ∈ lw_all := lw_g (lw_at lw_m9 157 rfl) rfl
theorem q2219 : (Jvm.Cond.methodLink "HallPlanModel" (83 : Nat) ({ cls := "HallPlanModel", name := "fails", desc := "(I)I" } : Jvm.MethodName)) ∈ lw_all := lw_g (lw_at lw_m9 158 rfl) rfl
theorem q2220 : (Jvm.Cond.privateMethod ({ cls := "HallPlanModel", name := "fails", desc := "(I)I" } : Jvm.MethodName)) ∈ lw_tbl := lw_at lw_m9 159 rfl
theorem q2221 : (Jvm.Cond.instanceMethod ({ cls := "HallPlanModel", name := "fails", desc := "(I)I" } : Jvm.MethodName)) ∈ lw_all := lw_g (lw_at lw_m9 160 rfl) rfl
theorem q2222 : (Jvm.Cond.code ({ cls := "HallPlanModel", name := "fails", desc := "(I)I" } : Jvm.MethodName) prog_17_method_3_code (2 : Nat) (Option.some Jvm.ClassFile.FieldType.int)) ∈ lw_all := lw_g (lw_at lw_m9 161 rfl) rfl
theorem q2223 : (Jvm.Cond.methodLink "HallPlanModel" (86 : Nat) ({ cls := "HallPlanModel", name := "brings", desc := "(I)V" } : Jvm.MethodName)) ∈ lw_all := lw_g (lw_at lw_m9 162 rfl) rfl
theorem q2224 : (Jvm.Cond.privateMethod ({ cls := "HallPlanModel", name := "brings", desc := "(I)V" } : Jvm.MethodName)) ∈ lw_tbl := lw_at lw_m9 163 rfl
theorem q2225 : (Jvm.Cond.instanceMethod ({ cls := "HallPlanModel", name := "brings", desc := "(I)V" } : Jvm.MethodName)) ∈ lw_all := lw_g (lw_at lw_m9 164 rfl) rfl
theorem q2226 : (Jvm.Cond.code ({ cls := "HallPlanModel", name := "brings", desc := "(I)V" } : Jvm.MethodName) prog_17_method_8_code (4 : Nat) (Option.none : Option Jvm.ClassFile.FieldType)) ∈ lw_all := lw_g (lw_at lw_m9 165 rfl) rfl
theorem q2228 : (Jvm.Cond.instanceMethod ({ cls := "HallPlanModel", name := "truncate", desc := "(I)I" } : Jvm.MethodName)) ∈ lw_all := lw_g (lw_at lw_m9 167 rfl) rfl
theorem q2229 : (Jvm.Cond.selects "HallPlanModel" ({ cls := "HallPlanModel", name := "truncate", desc := "(I)I" } : Jvm.MethodName) ({ cls := "HallPlanModel", name := "truncate", desc := "(I)I" } : Jvm.MethodName)) ∈ lw_all := lw_g (lw_at lw_m9 168 rfl) rfl
theorem q2230 : (Jvm.Cond.code ({ cls := "HallPlanModel", name := "truncate", desc := "(I)I" } : Jvm.MethodName) prog_17_method_10_code (2 : Nat) (Option.some Jvm.ClassFile.FieldType.int)) ∈ lw_all := lw_g (lw_at lw_m9 169 rfl) rfl
theorem q2231 : (Jvm.Cond.methodLink "HallPlanModel" (90 : Nat) ({ cls := "HallPlanModel", name := "isIn", desc := "(JJJ)Z" } : Jvm.MethodName)) ∈ lw_all := lw_g (lw_at lw_m9 170 rfl) rfl
theorem q2232 : (Jvm.Cond.static ({ cls := "HallPlanModel", name := "isIn", desc := "(JJJ)Z" } : Jvm.MethodName)) ∈ lw_all := lw_g (lw_at lw_m9 171 rfl) rfl
theorem q2233 : (Jvm.Cond.code ({ cls := "HallPlanModel", name := "isIn", desc := "(JJJ)Z" } : Jvm.MethodName) prog_17_method_2_code (6 : Nat) (Option.some Jvm.ClassFile.FieldType.boolean)) ∈ lw_all := lw_g (lw_at lw_m9 172 rfl) rfl
theorem q2235 : (Jvm.Cond.instanceMethod ({ cls := "HallPlanModel", name := "errorPosition", desc := "()I" } : Jvm.MethodName)) ∈ lw_all := lw_g (lw_at lw_m9 174 rfl) rfl
theorem q2236 : (Jvm.Cond.selects "HallPlanModel" ({ cls := "HallPlanModel", name := "errorPosition", desc := "()I" } : Jvm.MethodName) ({ cls := "HallPlanModel", name := "errorPosition", desc := "()I" } : Jvm.MethodName)) ∈ lw_all := lw_g (lw_at lw_m9 175 rfl) rfl
theorem q2237 : (Jvm.Cond.code ({ cls := "HallPlanModel", name := "errorPosition", desc := "()I" } : Jvm.MethodName) prog_17_method_37_code (1 : Nat) (Option.some Jvm.ClassFile.FieldType.int)) ∈ lw_all := lw_g (lw_at lw_m9 176 rfl) rfl
theorem q2238 : (Jvm.Cond.methodLink "HallPlanModel" (217 : Nat) ({ cls := "HallPlanModel", name := "readsText", desc := "()I" } : Jvm.MethodName)) ∈ lw_all := lw_g (lw_at lw_m9 177 rfl) rfl
theorem q2239 : (Jvm.Cond.privateMethod ({ cls := "HallPlanModel", name := "readsText", desc := "()I" } : Jvm.MethodName)) ∈ lw_tbl := lw_at lw_m9 178 rfl
theorem q2240 : (Jvm.Cond.instanceMethod ({ cls := "HallPlanModel", name := "readsText", desc := "()I" } : Jvm.MethodName)) ∈ lw_all := lw_g (lw_at lw_m9 179 rfl) rfl
theorem q2241 : (Jvm.Cond.code ({ cls := "HallPlanModel", name := "readsText", desc := "()I" } : Jvm.MethodName) prog_17_method_36_code (2 : Nat) (Option.some Jvm.ClassFile.FieldType.int)) ∈ lw_all := lw_g (lw_at lw_m9 180 rfl) rfl
theorem q2242 : (Jvm.Cond.methodLink "HallPlanModel" (214 : Nat) ({ cls := "HallPlanModel", name := "readsStatement", desc := "()V" } : Jvm.MethodName)) ∈ lw_all := lw_g (lw_at lw_m9 181 rfl) rfl
theorem q2243 : (Jvm.Cond.privateMethod ({ cls := "HallPlanModel", name := "readsStatement", desc := "()V" } : Jvm.MethodName)) ∈ lw_tbl := lw_at lw_m9 182 rfl
theorem q2244 : (Jvm.Cond.instanceMethod ({ cls := "HallPlanModel", name := "readsStatement", desc := "()V" } : Jvm.MethodName)) ∈ lw_all := lw_g (lw_at lw_m9 183 rfl) rfl
theorem q2245 : (Jvm.Cond.code ({ cls := "HallPlanModel", name := "readsStatement", desc := "()V" } : Jvm.MethodName) prog_17_method_35_code (3 : Nat) (Option.none : Option Jvm.ClassFile.FieldType)) ∈ lw_all := lw_g (lw_at lw_m9 184 rfl) rfl
theorem q2246 : (Jvm.Cond.methodLink "HallPlanModel" (107 : Nat) ({ cls := "HallPlanModel", name := "look", desc := "()I" } : Jvm.MethodName)) ∈ lw_all := lw_g (lw_at lw_m9 185 rfl) rfl
theorem q2247 : (Jvm.Cond.privateMethod ({ cls := "HallPlanModel", name := "look", desc := "()I" } : Jvm.MethodName)) ∈ lw_tbl := lw_at lw_m9 186 rfl
theorem q2248 : (Jvm.Cond.instanceMethod ({ cls := "HallPlanModel", name := "look", desc := "()I" } : Jvm.MethodName)) ∈ lw_all := lw_g (lw_at lw_m9 187 rfl) rfl
theorem q2249 : (Jvm.Cond.code ({ cls := "HallPlanModel", name := "look", desc := "()I" } : Jvm.MethodName) prog_17_method_12_code (1 : Nat) (Option.some Jvm.ClassFile.FieldType.int)) ∈ lw_all := lw_g (lw_at lw_m9 188 rfl) rfl
theorem q2250 : (Jvm.Cond.methodLink "HallPlanModel" (97 : Nat) ({ cls := "HallPlanModel", name := "here", desc := "()I" } : Jvm.MethodName)) ∈ lw_all := lw_g (lw_at lw_m9 189 rfl) rfl
theorem q2251 : (Jvm.Cond.privateMethod ({ cls := "HallPlanModel", name := "here", desc := "()I" } : Jvm.MethodName)) ∈ lw_tbl := lw_at lw_m9 190 rfl
theorem q2252 : (Jvm.Cond.instanceMethod ({ cls := "HallPlanModel", name := "here", desc := "()I" } : Jvm.MethodName)) ∈ lw_all := lw_g (lw_at lw_m9 191 rfl) rfl
theorem q2253 : (Jvm.Cond.code ({ cls := "HallPlanModel", name := "here", desc := "()I" } : Jvm.MethodName) prog_17_method_11_code (1 : Nat) (Option.some Jvm.ClassFile.FieldType.int)) ∈ lw_all := lw_g (lw_at lw_m9 192 rfl) rfl
theorem q2254 : (Jvm.Cond.stringRef "HallPlanModel" (133 : Nat) "hall") ∈ lw_tbl := lw_at lw_m9 193 rfl
theorem q2255 : (Jvm.Cond.methodLink "HallPlanModel" (187 : Nat) ({ cls := "HallPlanModel", name := "takes", desc := "(Ljava/lang/String;)Z" } : Jvm.MethodName)) ∈ lw_all := lw_g (lw_at lw_m9 194 rfl) rfl
theorem q2256 : (Jvm.Cond.privateMethod ({ cls := "HallPlanModel", name := "takes", desc := "(Ljava/lang/String;)Z" } : Jvm.MethodName)) ∈ lw_tbl := lw_at lw_m9 195 rfl
theorem q2257 : (Jvm.Cond.instanceMethod ({ cls := "HallPlanModel", name := "takes", desc := "(Ljava/lang/String;)Z" } : Jvm.MethodName)) ∈ lw_all := lw_g (lw_at lw_m9 196 rfl) rfl
theorem q2258 : (Jvm.Cond.code ({ cls := "HallPlanModel", name := "takes", desc := "(Ljava/lang/String;)Z" } : Jvm.MethodName) prog_17_method_19_code (3 : Nat) (Option.some Jvm.ClassFile.FieldType.boolean)) ∈ lw_all := lw_g (lw_at lw_m9 197 rfl) rfl
theorem q2259 : (Jvm.Cond.methodLink "HallPlanModel" (129 : Nat) ({ cls := "HallPlanModel", name := "isWord", desc := "(Ljava/lang/String;)Z" } : Jvm.MethodName)) ∈ lw_all := lw_g (lw_at lw_m9 198 rfl) rfl
theorem q2260 : (Jvm.Cond.privateMethod ({ cls := "HallPlanModel", name := "isWord", desc := "(Ljava/lang/String;)Z" } : Jvm.MethodName)) ∈ lw_tbl := lw_at lw_m9 199 rfl
theorem q2261 : (Jvm.Cond.instanceMethod ({ cls := "HallPlanModel", name := "isWord", desc := "(Ljava/lang/String;)Z" } : Jvm.MethodName)) ∈ lw_all := lw_g (lw_at lw_m9 200 rfl) rfl
theorem q2262 : (Jvm.Cond.code ({ cls := "HallPlanModel", name := "isWord", desc := "(Ljava/lang/String;)Z" } : Jvm.MethodName) prog_17_method_18_code (3 : Nat) (Option.some Jvm.ClassFile.FieldType.boolean)) ∈ lw_all := lw_g (lw_at lw_m9 201 rfl) rfl
theorem q2263 : (Jvm.Cond.methodLink "HallPlanModel" (114 : Nat) ({ cls := "HallPlanModel", name := "isFine", desc := "()Z" } : Jvm.MethodName)) ∈ lw_all := lw_g (lw_at lw_m9 202 rfl) rfl
theorem q2264 : (Jvm.Cond.privateMethod ({ cls := "HallPlanModel", name := "isFine", desc := "()Z" } : Jvm.MethodName)) ∈ lw_tbl := lw_at lw_m9 203 rfl
theorem q2265 : (Jvm.Cond.instanceMethod ({ cls := "HallPlanModel", name := "isFine", desc := "()Z" } : Jvm.MethodName)) ∈ lw_all := lw_g (lw_at lw_m9 204 rfl) rfl
theorem q2266 : (Jvm.Cond.code ({ cls := "HallPlanModel", name := "isFine", desc := "()Z" } : Jvm.MethodName) prog_17_method_14_code (1 : Nat) (Option.some Jvm.ClassFile.FieldType.boolean)) ∈ lw_all := lw_g (lw_at lw_m9 205 rfl) rfl
theorem q2267 : (Jvm.Cond.methodLink "HallPlanModel" (118 : Nat) ({ cls := "HallPlanModel", name := "wordLength", desc := "()I" } : Jvm.MethodName)) ∈ lw_all := lw_g (lw_at lw_m9 206 rfl) rfl
theorem q2268 : (Jvm.Cond.privateMethod ({ cls := "HallPlanModel", name := "wordLength", desc := "()I" } : Jvm.MethodName)) ∈ lw_tbl := lw_at lw_m9 207 rfl
theorem q2269 : (Jvm.Cond.instanceMethod ({ cls := "HallPlanModel", name := "wordLength", desc := "()I" } : Jvm.MethodName)) ∈ lw_all := lw_g (lw_at lw_m9 208 rfl) rfl
theorem q2270 : (Jvm.Cond.code ({ cls := "HallPlanModel", name := "wordLength", desc := "()I" } : Jvm.MethodName) prog_17_method_17_code (3 : Nat) (Option.some Jvm.ClassFile.FieldType.int)) ∈ lw_all := lw_g (lw_at lw_m9 209 rfl) rfl
theorem q2271 : (Jvm.Cond.methodLink "HallPlanModel" (110 : Nat) ({ cls := "HallPlanModel", name := "isLetter", desc := "(I)Z" } : Jvm.MethodName)) ∈ lw_all := lw_g (lw_at lw_m9 210 rfl) rfl
theorem q2272 : (Jvm.Cond.static ({ cls := "HallPlanModel", name := "isLetter", desc := "(I)Z" } : Jvm.MethodName)) ∈ lw_all := lw_g (lw_at lw_m9 211 rfl) rfl
theorem q2273 : (Jvm.Cond.code ({ cls := "HallPlanModel", name := "isLetter", desc := "(I)Z" } : Jvm.MethodName) prog_17_method_15_code (1 : Nat) (Option.some Jvm.ClassFile.FieldType.boolean)) ∈ lw_all := lw_g (lw_at lw_m9 212 rfl) rfl
theorem q2274 : (Jvm.Cond.methodLink "HallPlanModel" (121 : Nat) ({ cls := "java/lang/String", name := "length", desc := "()I" } : Jvm.MethodName)) ∈ lw_all := lw_g (lw_at lw_m9 213 rfl) rfl
theorem q2275 : (Jvm.Cond.methodLink "HallPlanModel" (125 : Nat) ({ cls := "java/lang/String", name := "charAt", desc := "(I)C" } : Jvm.MethodName)) ∈ lw_all := lw_g (lw_at lw_m9 214 rfl) rfl
theorem q2286 : (Jvm.Cond.methodLink "HallPlanModel" (190 : Nat) ({ cls := "HallPlanModel", name := "readsHall", desc := "()V" } : Jvm.MethodName)) ∈ lw_all := lw_g (lw_at lw_m9 225 rfl) rfl
theorem q2287 : (Jvm.Cond.privateMethod ({ cls := "HallPlanModel", name := "readsHall", desc := "()V" } : Jvm.MethodName)) ∈ lw_tbl := lw_at lw_m9 226 rfl
theorem q2288 : (Jvm.Cond.instanceMethod ({ cls := "HallPlanModel", name := "readsHall", desc := "()V" } : Jvm.MethodName)) ∈ lw_all := lw_g (lw_at lw_m9 227 rfl) rfl
theorem q2289 : (Jvm.Cond.code ({ cls := "HallPlanModel", name := "readsHall", desc := "()V" } : Jvm.MethodName) prog_17_method_27_code (2 : Nat) (Option.none : Option Jvm.ClassFile.FieldType)) ∈ lw_all := lw_g (lw_at lw_m9 228 rfl) rfl
theorem q2290 : (Jvm.Cond.methodLink "HallPlanModel" (167 : Nat) ({ cls := "HallPlanModel", name := "room", desc := "(II)V" } : Jvm.MethodName)) ∈ lw_all := lw_g (lw_at lw_m9 229 rfl) rfl
theorem q2291 : (Jvm.Cond.privateMethod ({ cls := "HallPlanModel", name := "room", desc := "(II)V" } : Jvm.MethodName)) ∈ lw_tbl := lw_at lw_m9 230 rfl
theorem q2292 : (Jvm.Cond.instanceMethod ({ cls := "HallPlanModel", name := "room", desc := "(II)V" } : Jvm.MethodName)) ∈ lw_all := lw_g (lw_at lw_m9 231 rfl) rfl
theorem q2293 : (Jvm.Cond.code ({ cls := "HallPlanModel", name := "room", desc := "(II)V" } : Jvm.MethodName) prog_17_method_26_code (3 : Nat) (Option.none : Option Jvm.ClassFile.FieldType)) ∈ lw_all := lw_g (lw_at lw_m9 232 rfl) rfl
theorem q2294 : (Jvm.Cond.methodLink "HallPlanModel" (152 : Nat) ({ cls := "HallPlanModel", name := "wrongAt", desc := "(I)V" } : Jvm.MethodName)) ∈ lw_all := lw_g (lw_at lw_m9 233 rfl) rfl
theorem q2295 : (Jvm.Cond.privateMethod ({ cls := "HallPlanModel", name := "wrongAt", desc := "(I)V" } : Jvm.MethodName)) ∈ lw_tbl := lw_at lw_m9 234 rfl
theorem q2296 : (Jvm.Cond.instanceMethod ({ cls := "HallPlanModel", name := "wrongAt", desc := "(I)V" } : Jvm.MethodName)) ∈ lw_all := lw_g (lw_at lw_m9 235 rfl) rfl
theorem q2297 : (Jvm.Cond.code ({ cls := "HallPlanModel", name := "wrongAt", desc := "(I)V" } : Jvm.MethodName) prog_17_method_13_code (2 : Nat) (Option.none : Option Jvm.ClassFile.FieldType)) ∈ lw_all := lw_g (lw_at lw_m9 236 rfl) rfl
theorem q2298 : (Jvm.Cond.methodLink "HallPlanModel" (171 : Nat) ({ cls := "HallPlanModel", name := "names", desc := "(I)V" } : Jvm.MethodName)) ∈ lw_all := lw_g (lw_at lw_m9 237 rfl) rfl
theorem q2299 : (Jvm.Cond.privateMethod ({ cls := "HallPlanModel", name := "names", desc := "(I)V" } : Jvm.MethodName)) ∈ lw_tbl := lw_at lw_m9 238 rfl
theorem q2300 : (Jvm.Cond.instanceMethod ({ cls := "HallPlanModel", name := "names", desc := "(I)V" } : Jvm.MethodName)) ∈ lw_all := lw_g (lw_at lw_m9 239 rfl) rfl
theorem q2301 : (Jvm.Cond.code ({ cls := "HallPlanModel", name := "names", desc := "(I)V" } : Jvm.MethodName) prog_17_method_24_code (5 : Nat) (Option.none : Option Jvm.ClassFile.FieldType)) ∈ lw_all := lw_g (lw_at lw_m10 0 rfl) rfl
theorem q2302 : (Jvm.Cond.constantLong "HallPlanModel" (159 : Nat) (6 : Int64)) ∈ lw_all := lw_g (lw_at lw_m10 1 rfl) rfl
theorem q2303 : (Jvm.Cond.methodLink "HallPlanModel" (161 : Nat) ({ cls := "HallPlanModel", name := "isKeyword", desc := "()Z" } : Jvm.MethodName)) ∈ lw_all := lw_g (lw_at lw_m10 2 rfl) rfl
theorem q2304 : (Jvm.Cond.privateMethod ({ cls := "HallPlanModel", name := "isKeyword", desc := "()Z" } : Jvm.MethodName)) ∈ lw_tbl := lw_at lw_m10 3 rfl
theorem q2305 : (Jvm.Cond.instanceMethod ({ cls := "HallPlanModel", name := "isKeyword", desc := "()Z" } : Jvm.MethodName)) ∈ lw_all := lw_g (lw_at lw_m10 4 rfl) rfl
theorem q2306 : (Jvm.Cond.code ({ cls := "HallPlanModel", name := "isKeyword", desc := "()Z" } : Jvm.MethodName) prog_17_method_20_code (1 : Nat) (Option.some Jvm.ClassFile.FieldType.boolean)) ∈ lw_all := lw_g (lw_at lw_m10 5 rfl) rfl
theorem q2307 : (Jvm.Cond.stringRef "HallPlanModel" (135 : Nat) "type") ∈ lw_tbl := lw_at lw_m10 6 rfl
theorem q2308 : (Jvm.Cond.stringRef "HallPlanModel" (137 : Nat) "kind") ∈ lw_tbl := lw_at lw_m10 7 rfl
theorem q2309 : (Jvm.Cond.stringRef "HallPlanModel" (139 : Nat) "setup") ∈ lw_tbl := lw_at lw_m10 8 rfl
theorem q2310 : (Jvm.Cond.stringRef "HallPlanModel" (141 : Nat) "closed") ∈ lw_tbl := lw_at lw_m10 9 rfl
theorem q2311 : (Jvm.Cond.stringRef "HallPlanModel" (143 : Nat) "weekly") ∈ lw_tbl := lw_at lw_m10 10 rfl
theorem q2312 : (Jvm.Cond.stringRef "HallPlanModel" (145 : Nat) "fee") ∈ lw_tbl := lw_at lw_m10 11 rfl
theorem q2313 : (Jvm.Cond.stringRef "HallPlanModel" (147 : Nat) "weekend") ∈ lw_tbl := lw_at lw_m10 12 rfl
theorem q2314 : (Jvm.Cond.methodLink "HallPlanModel" (164 : Nat) ({ cls := "HallPlanModel", name := "rowHere", desc := "(I)I" } : Jvm.MethodName)) ∈ lw_all := lw_g (lw_at lw_m10 13 rfl) rfl
theorem q2315 : (Jvm.Cond.privateMethod ({ cls := "HallPlanModel", name := "rowHere", desc := "(I)I" } : Jvm.MethodName)) ∈ lw_tbl := lw_at lw_m10 14 rfl
theorem q2316 : (Jvm.Cond.instanceMethod ({ cls := "HallPlanModel", name := "rowHere", desc := "(I)I" } : Jvm.MethodName)) ∈ lw_all := lw_g (lw_at lw_m10 15 rfl) rfl
theorem q2317 : (Jvm.Cond.code ({ cls := "HallPlanModel", name := "rowHere", desc := "(I)I" } : Jvm.MethodName) prog_17_method_23_code (5 : Nat) (Option.some Jvm.ClassFile.FieldType.int)) ∈ lw_all := lw_g (lw_at lw_m10 16 rfl) rfl
theorem q2318 : (Jvm.Cond.methodLink "HallPlanModel" (174 : Nat) ({ cls := "HallPlanModel", name := "reads", desc := "(IIII)V" } : Jvm.MethodName)) ∈ lw_all := lw_g (lw_at lw_m10 17 rfl) rfl
theorem q2319 : (Jvm.Cond.privateMethod ({ cls := "HallPlanModel", name := "reads", desc := "(IIII)V" } : Jvm.MethodName)) ∈ lw_tbl := lw_at lw_m10 18 rfl
theorem q2320 : (Jvm.Cond.instanceMethod ({ cls := "HallPlanModel", name := "reads", desc := "(IIII)V" } : Jvm.MethodName)) ∈ lw_all := lw_g (lw_at lw_m10 19 rfl) rfl
theorem q2321 : (Jvm.Cond.code ({ cls := "HallPlanModel", name := "reads", desc := "(IIII)V" } : Jvm.MethodName) prog_17_method_22_code (6 : Nat) (Option.none : Option Jvm.ClassFile.FieldType)) ∈ lw_all := lw_g (lw_at lw_m10 20 rfl) rfl
theorem q2322 : (Jvm.Cond.methodLink "HallPlanModel" (155 : Nat) ({ cls := "HallPlanModel", name := "number", desc := "(III)I" } : Jvm.MethodName)) ∈ lw_all := lw_g (lw_at lw_m10 21 rfl) rfl
theorem q2323 : (Jvm.Cond.privateMethod ({ cls := "HallPlanModel", name := "number", desc := "(III)I" } : Jvm.MethodName)) ∈ lw_tbl := lw_at lw_m10 22 rfl
theorem q2324 : (Jvm.Cond.instanceMethod ({ cls := "HallPlanModel", name := "number", desc := "(III)I" } : Jvm.MethodName)) ∈ lw_all := lw_g (lw_at lw_m10 23 rfl) rfl
theorem q2325 : (Jvm.Cond.code ({ cls := "HallPlanModel", name := "number", desc := "(III)I" } : Jvm.MethodName) prog_17_method_21_code (6 : Nat) (Option.some Jvm.ClassFile.FieldType.int)) ∈ lw_all := lw_g (lw_at lw_m10 24 rfl) rfl
theorem q2326 : (Jvm.Cond.methodLink "HallPlanModel" (149 : Nat) ({ cls := "HallPlanModel", name := "isDigit", desc := "(I)Z" } : Jvm.MethodName)) ∈ lw_all := lw_g (lw_at lw_m10 25 rfl) rfl
theorem q2327 : (Jvm.Cond.static ({ cls := "HallPlanModel", name := "isDigit", desc := "(I)Z" } : Jvm.MethodName)) ∈ lw_all := lw_g (lw_at lw_m10 26 rfl) rfl
theorem q2328 : (Jvm.Cond.code ({ cls := "HallPlanModel", name := "isDigit", desc := "(I)Z" } : Jvm.MethodName) prog_17_method_16_code (1 : Nat) (Option.some Jvm.ClassFile.FieldType.boolean)) ∈ lw_all := lw_g (lw_at lw_m10 27 rfl) rfl
theorem q2329 : (Jvm.Cond.methodLink "HallPlanModel" (193 : Nat) ({ cls := "HallPlanModel", name := "readsType", desc := "()V" } : Jvm.MethodName)) ∈ lw_all := lw_g (lw_at lw_m10 28 rfl) rfl
theorem q2330 : (Jvm.Cond.privateMethod ({ cls := "HallPlanModel", name := "readsType", desc := "()V" } : Jvm.MethodName)) ∈ lw_tbl := lw_at lw_m10 29 rfl
theorem q2331 : (Jvm.Cond.instanceMethod ({ cls := "HallPlanModel", name := "readsType", desc := "()V" } : Jvm.MethodName)) ∈ lw_all := lw_g (lw_at lw_m10 30 rfl) rfl
theorem q2332 : (Jvm.Cond.code ({ cls := "HallPlanModel", name := "readsType", desc := "()V" } : Jvm.MethodName) prog_17_method_28_code (1 : Nat) (Option.none : Option Jvm.ClassFile.FieldType)) ∈ lw_all := lw_g (lw_at lw_m10 31 rfl) rfl
theorem q2333 : (Jvm.Cond.methodLink "HallPlanModel" (196 : Nat) ({ cls := "HallPlanModel", name := "readsKind", desc := "()V" } : Jvm.MethodName)) ∈ lw_all := lw_g (lw_at lw_m10 32 rfl) rfl
theorem q2334 : (Jvm.Cond.privateMethod ({ cls := "HallPlanModel", name := "readsKind", desc := "()V" } : Jvm.MethodName)) ∈ lw_tbl := lw_at lw_m10 33 rfl
theorem q2335 : (Jvm.Cond.instanceMethod ({ cls := "HallPlanModel", name := "readsKind", desc := "()V" } : Jvm.MethodName)) ∈ lw_all := lw_g (lw_at lw_m10 34 rfl) rfl
theorem q2336 : (Jvm.Cond.code ({ cls := "HallPlanModel", name := "readsKind", desc := "()V" } : Jvm.MethodName) prog_17_method_29_code (2 : Nat) (Option.none : Option Jvm.ClassFile.FieldType)) ∈ lw_all := lw_g (lw_at lw_m10 35 rfl) rfl
theorem q2337 : (Jvm.Cond.methodLink "HallPlanModel" (199 : Nat) ({ cls := "HallPlanModel", name := "readsSetup", desc := "()V" } : Jvm.MethodName)) ∈ lw_all := lw_g (lw_at lw_m10 36 rfl) rfl
theorem q2338 : (Jvm.Cond.privateMethod ({ cls := "HallPlanModel", name := "readsSetup", desc := "()V" } : Jvm.MethodName)) ∈ lw_tbl := lw_at lw_m10 37 rfl
theorem q2339 : (Jvm.Cond.instanceMethod ({ cls := "HallPlanModel", name := "readsSetup", desc := "()V" } : Jvm.MethodName)) ∈ lw_all := lw_g (lw_at lw_m10 38 rfl) rfl
theorem q2340 : (Jvm.Cond.code ({ cls := "HallPlanModel", name := "readsSetup", desc := "()V" } : Jvm.MethodName) prog_17_method_30_code (3 : Nat) (Option.none : Option Jvm.ClassFile.FieldType)) ∈ lw_all := lw_g (lw_at lw_m10 39 rfl) rfl
theorem q2341 : (Jvm.Cond.methodLink "HallPlanModel" (178 : Nat) ({ cls := "HallPlanModel", name := "named", desc := "(I)I" } : Jvm.MethodName)) ∈ lw_all := lw_g (lw_at lw_m10 40 rfl) rfl
theorem q2342 : (Jvm.Cond.privateMethod ({ cls := "HallPlanModel", name := "named", desc := "(I)I" } : Jvm.MethodName)) ∈ lw_tbl := lw_at lw_m10 41 rfl
theorem q2343 : (Jvm.Cond.instanceMethod ({ cls := "HallPlanModel", name := "named", desc := "(I)I" } : Jvm.MethodName)) ∈ lw_all := lw_g (lw_at lw_m10 42 rfl) rfl
theorem q2344 : (Jvm.Cond.code ({ cls := "HallPlanModel", name := "named", desc := "(I)I" } : Jvm.MethodName) prog_17_method_25_code (4 : Nat) (Option.some Jvm.ClassFile.FieldType.int)) ∈ lw_all := lw_g (lw_at lw_m10 43 rfl) rfl
theorem q2345 : (Jvm.Cond.methodLink "HallPlanModel" (202 : Nat) ({ cls := "HallPlanModel", name := "readsClosed", desc := "()V" } : Jvm.MethodName)) ∈ lw_all := lw_g (lw_at lw_m10 44 rfl) rfl
theorem q2346 : (Jvm.Cond.privateMethod ({ cls := "HallPlanModel", name := "readsClosed", desc := "()V" } : Jvm.MethodName)) ∈ lw_tbl := lw_at lw_m10 45 rfl
theorem q2347 : (Jvm.Cond.instanceMethod ({ cls := "HallPlanModel", name := "readsClosed", desc := "()V" } : Jvm.MethodName)) ∈ lw_all := lw_g (lw_at lw_m10 46 rfl) rfl
theorem q2348 : (Jvm.Cond.code ({ cls := "HallPlanModel", name := "readsClosed", desc := "()V" } : Jvm.MethodName) prog_17_method_31_code (3 : Nat) (Option.none : Option Jvm.ClassFile.FieldType)) ∈ lw_all := lw_g (lw_at lw_m10 47 rfl) rfl
theorem q2349 : (Jvm.Cond.constant "HallPlanModel" (181 : Nat) (86385 : Int32)) ∈ lw_all := lw_g (lw_at lw_m10 48 rfl) rfl
theorem q2350 : (Jvm.Cond.constant "HallPlanModel" (182 : Nat) (86400 : Int32)) ∈ lw_all := lw_g (lw_at lw_m10 49 rfl) rfl
theorem q2351 : (Jvm.Cond.methodLink "HallPlanModel" (205 : Nat) ({ cls := "HallPlanModel", name := "readsWeekly", desc := "()V" } : Jvm.MethodName)) ∈ lw_all := lw_g (lw_at lw_m10 50 rfl) rfl
theorem q2352 : (Jvm.Cond.privateMethod ({ cls := "HallPlanModel", name := "readsWeekly", desc := "()V" } : Jvm.MethodName)) ∈ lw_tbl := lw_at lw_m10 51 rfl
theorem q2353 : (Jvm.Cond.instanceMethod ({ cls := "HallPlanModel", name := "readsWeekly", desc := "()V" } : Jvm.MethodName)) ∈ lw_all := lw_g (lw_at lw_m10 52 rfl) rfl
theorem q2354 : (Jvm.Cond.code ({ cls := "HallPlanModel", name := "readsWeekly", desc := "()V" } : Jvm.MethodName) prog_17_method_32_code (2 : Nat) (Option.none : Option Jvm.ClassFile.FieldType)) ∈ lw_all := lw_g (lw_at lw_m10 53 rfl) rfl
theorem q2355 : (Jvm.Cond.methodLink "HallPlanModel" (208 : Nat) ({ cls := "HallPlanModel", name := "readsFee", desc := "()V" } : Jvm.MethodName)) ∈ lw_all := lw_g (lw_at lw_m10 54 rfl) rfl
theorem q2356 : (Jvm.Cond.privateMethod ({ cls := "HallPlanModel", name := "readsFee", desc := "()V" } : Jvm.MethodName)) ∈ lw_tbl := lw_at lw_m10 55 rfl
theorem q2357 : (Jvm.Cond.instanceMethod ({ cls := "HallPlanModel", name := "readsFee", desc := "()V" } : Jvm.MethodName)) ∈ lw_all := lw_g (lw_at lw_m10 56 rfl) rfl
theorem q2358 : (Jvm.Cond.code ({ cls := "HallPlanModel", name := "readsFee", desc := "()V" } : Jvm.MethodName) prog_17_method_33_code (3 : Nat) (Option.none : Option Jvm.ClassFile.FieldType)) ∈ lw_all := lw_g (lw_at lw_m10 57 rfl) rfl
theorem q2359 : (Jvm.Cond.methodLink "HallPlanModel" (211 : Nat) ({ cls := "HallPlanModel", name := "readsWeekend", desc := "()V" } : Jvm.MethodName)) ∈ lw_all := lw_g (lw_at lw_m10 58 rfl) rfl
theorem q2360 : (Jvm.Cond.privateMethod ({ cls := "HallPlanModel", name := "readsWeekend", desc := "()V" } : Jvm.MethodName)) ∈ lw_tbl := lw_at lw_m10 59 rfl
theorem q2361 : (Jvm.Cond.instanceMethod ({ cls := "HallPlanModel", name := "readsWeekend", desc := "()V" } : Jvm.MethodName)) ∈ lw_all := lw_g (lw_at lw_m10 60 rfl) rfl
theorem q2362 : (Jvm.Cond.code ({ cls := "HallPlanModel", name := "readsWeekend", desc := "()V" } : Jvm.MethodName) prog_17_method_34_code (1 : Nat) (Option.none : Option Jvm.ClassFile.FieldType)) ∈ lw_all := lw_g (lw_at lw_m10 61 rfl) rfl
theorem q2364 : (Jvm.Cond.instanceMethod ({ cls := "HallPlanModel", name := "load", desc := "()I" } : Jvm.MethodName)) ∈ lw_all := lw_g (lw_at lw_m10 63 rfl) rfl
theorem q2365 : (Jvm.Cond.selects "HallPlanModel" ({ cls := "HallPlanModel", name := "load", desc := "()I" } : Jvm.MethodName) ({ cls := "HallPlanModel", name := "load", desc := "()I" } : Jvm.MethodName)) ∈ lw_all := lw_g (lw_at lw_m10 64 rfl) rfl
theorem q2366 : (Jvm.Cond.code ({ cls := "HallPlanModel", name := "load", desc := "()I" } : Jvm.MethodName) prog_17_method_38_code (2 : Nat) (Option.some Jvm.ClassFile.FieldType.int)) ∈ lw_all := lw_g (lw_at lw_m10 65 rfl) rfl
theorem q2368 : (Jvm.Cond.instanceMethod ({ cls := "HallPlanModel", name := "draft", desc := "(III)I" } : Jvm.MethodName)) ∈ lw_all := lw_g (lw_at lw_m10 67 rfl) rfl
theorem q2369 : (Jvm.Cond.selects "HallPlanModel" ({ cls := "HallPlanModel", name := "draft", desc := "(III)I" } : Jvm.MethodName) ({ cls := "HallPlanModel", name := "draft", desc := "(III)I" } : Jvm.MethodName)) ∈ lw_all := lw_g (lw_at lw_m10 68 rfl) rfl
theorem q2370 : (Jvm.Cond.code ({ cls := "HallPlanModel", name := "draft", desc := "(III)I" } : Jvm.MethodName) prog_17_method_64_code (6 : Nat) (Option.some Jvm.ClassFile.FieldType.int)) ∈ lw_all := lw_g (lw_at lw_m10 69 rfl) rfl
theorem q2371 : (Jvm.Cond.methodLink "HallPlanModel" (286 : Nat) ({ cls := "HallPlanModel", name := "isType", desc := "(I)Z" } : Jvm.MethodName)) ∈ lw_all := lw_g (lw_at lw_m10 70 rfl) rfl
theorem q2372 : (Jvm.Cond.privateMethod ({ cls := "HallPlanModel", name := "isType", desc := "(I)Z" } : Jvm.MethodName)) ∈ lw_tbl := lw_at lw_m10 71 rfl
theorem q2373 : (Jvm.Cond.instanceMethod ({ cls := "HallPlanModel", name := "isType", desc := "(I)Z" } : Jvm.MethodName)) ∈ lw_all := lw_g (lw_at lw_m10 72 rfl) rfl
theorem q2374 : (Jvm.Cond.code ({ cls := "HallPlanModel", name := "isType", desc := "(I)Z" } : Jvm.MethodName) prog_17_method_40_code (2 : Nat) (Option.some Jvm.ClassFile.FieldType.boolean)) ∈ lw_all := lw_g (lw_at lw_m10 73 rfl) rfl
theorem q2375 : (Jvm.Cond.constantLong "HallPlanModel" (289 : Nat) (3000 : Int64)) ∈ lw_all := lw_g (lw_at lw_m10 74 rfl) rfl
theorem q2376 : (Jvm.Cond.constantLong "HallPlanModel" (291 : Nat) (15 : Int64)) ∈ lw_all := lw_g (lw_at lw_m10 75 rfl) rfl
theorem q2377 : (Jvm.Cond.constantLong "HallPlanModel" (293 : Nat) (1440 : Int64)) ∈ lw_all := lw_g (lw_at lw_m10 76 rfl) rfl
theorem q2379 : (Jvm.Cond.instanceMethod ({ cls := "HallPlanModel", name := "need", desc := "(II)I" } : Jvm.MethodName)) ∈ lw_all := lw_g (lw_at lw_m10 78 rfl) rfl
theorem q2380 : (Jvm.Cond.selects "HallPlanModel" ({ cls := "HallPlanModel", name := "need", desc := "(II)I" } : Jvm.MethodName) ({ cls := "HallPlanModel", name := "need", desc := "(II)I" } : Jvm.MethodName)) ∈ lw_all := lw_g (lw_at lw_m10 79 rfl) rfl
theorem q2381 : (Jvm.Cond.code ({ cls := "HallPlanModel", name := "need", desc := "(II)I" } : Jvm.MethodName) prog_17_method_65_code (4 : Nat) (Option.some Jvm.ClassFile.FieldType.int)) ∈ lw_all := lw_g (lw_at lw_m10 80 rfl) rfl
theorem q2382 : (Jvm.Cond.methodLink "HallPlanModel" (295 : Nat) ({ cls := "HallPlanModel", name := "isKind", desc := "(I)Z" } : Jvm.MethodName)) ∈ lw_all := lw_g (lw_at lw_m10 81 rfl) rfl
theorem q2383 : (Jvm.Cond.privateMethod ({ cls := "HallPlanModel", name := "isKind", desc := "(I)Z" } : Jvm.MethodName)) ∈ lw_tbl := lw_at lw_m10 82 rfl
theorem q2384 : (Jvm.Cond.instanceMethod ({ cls := "HallPlanModel", name := "isKind", desc := "(I)Z" } : Jvm.MethodName)) ∈ lw_all := lw_g (lw_at lw_m10 83 rfl) rfl
theorem q2385 : (Jvm.Cond.code ({ cls := "HallPlanModel", name := "isKind", desc := "(I)Z" } : Jvm.MethodName) prog_17_method_41_code (2 : Nat) (Option.some Jvm.ClassFile.FieldType.boolean)) ∈ lw_all := lw_g (lw_at lw_m10 84 rfl) rfl
theorem q2387 : (Jvm.Cond.instanceMethod ({ cls := "HallPlanModel", name := "book", desc := "(II)I" } : Jvm.MethodName)) ∈ lw_all := lw_g (lw_at lw_m10 86 rfl) rfl
theorem q2388 : (Jvm.Cond.selects "HallPlanModel" ({ cls := "HallPlanModel", name := "book", desc := "(II)I" } : Jvm.MethodName) ({ cls := "HallPlanModel", name := "book", desc := "(II)I" } : Jvm.MethodName)) ∈ lw_all := lw_g (lw_at lw_m10 87 rfl) rfl
theorem q2389 : (Jvm.Cond.code ({ cls := "HallPlanModel", name := "book", desc := "(II)I" } : Jvm.MethodName) prog_17_method_69_code (3 : Nat) (Option.some Jvm.ClassFile.FieldType.int)) ∈ lw_all := lw_g (lw_at lw_m10 88 rfl) rfl
theorem q2390 : (Jvm.Cond.methodLink "HallPlanModel" (308 : Nat) ({ cls := "HallPlanModel", name := "whyNotSlot", desc := "(II)I" } : Jvm.MethodName)) ∈ lw_all := lw_g (lw_at lw_m10 89 rfl) rfl
theorem q2391 : (Jvm.Cond.privateMethod ({ cls := "HallPlanModel", name := "whyNotSlot", desc := "(II)I" } : Jvm.MethodName)) ∈ lw_tbl := lw_at lw_m10 90 rfl
theorem q2392 : (Jvm.Cond.instanceMethod ({ cls := "HallPlanModel", name := "whyNotSlot", desc := "(II)I" } : Jvm.MethodName)) ∈ lw_all := lw_g (lw_at lw_m10 91 rfl) rfl
theorem q2393 : (Jvm.Cond.code ({ cls := "HallPlanModel", name := "whyNotSlot", desc := "(II)I" } : Jvm.MethodName) prog_17_method_66_code (3 : Nat) (Option.some Jvm.ClassFile.FieldType.int)) ∈ lw_all := lw_g (lw_at lw_m10 92 rfl) rfl
theorem q2394 : (Jvm.Cond.methodLink "HallPlanModel" (298 : Nat) ({ cls := "HallPlanModel", name := "isHall", desc := "(I)Z" } : Jvm.MethodName)) ∈ lw_all := lw_g (lw_at lw_m10 93 rfl) rfl
theorem q2395 : (Jvm.Cond.privateMethod ({ cls := "HallPlanModel", name := "isHall", desc := "(I)Z" } : Jvm.MethodName)) ∈ lw_tbl := lw_at lw_m10 94 rfl
theorem q2396 : (Jvm.Cond.instanceMethod ({ cls := "HallPlanModel", name := "isHall", desc := "(I)Z" } : Jvm.MethodName)) ∈ lw_all := lw_g (lw_at lw_m10 95 rfl) rfl
theorem q2397 : (Jvm.Cond.code ({ cls := "HallPlanModel", name := "isHall", desc := "(I)Z" } : Jvm.MethodName) prog_17_method_39_code (2 : Nat) (Option.some Jvm.ClassFile.FieldType.boolean)) ∈ lw_all := lw_g (lw_at lw_m10 96 rfl) rfl
theorem q2398 : (Jvm.Cond.methodLink "HallPlanModel" (301 : Nat) ({ cls := "HallPlanModel", name := "isStart", desc := "(I)Z" } : Jvm.MethodName)) ∈ lw_all := lw_g (lw_at lw_m10 97 rfl) rfl
theorem q2399 : (Jvm.Cond.static ({ cls := "HallPlanModel", name := "isStart", desc := "(I)Z" } : Jvm.MethodName)) ∈ lw_all := lw_g (lw_at lw_m10 98 rfl) rfl
theorem q2400 : (Jvm.Cond.code ({ cls := "HallPlanModel", name := "isStart", desc := "(I)Z" } : Jvm.MethodName) prog_17_method_43_code (1 : Nat) (Option.some Jvm.ClassFile.FieldType.boolean)) ∈ lw_all := lw_g (lw_at lw_m10 99 rfl) rfl
theorem q2401 : (Jvm.Cond.constantLong "HallPlanModel" (223 : Nat) (86385 : Int64)) ∈ lw_all := lw_g (lw_at lw_m10 100 rfl) rfl
theorem q2402 : (Jvm.Cond.methodLink "HallPlanModel" (311 : Nat) ({ cls := "HallPlanModel", name := "draftProblem", desc := "(II)I" } : Jvm.MethodName)) ∈ lw_all := lw_g (lw_at lw_m10 101 rfl) rfl
theorem q2403 : (Jvm.Cond.privateMethod ({ cls := "HallPlanModel", name := "draftProblem", desc := "(II)I" } : Jvm.MethodName)) ∈ lw_tbl := lw_at lw_m10 102 rfl
theorem q2404 : (Jvm.Cond.instanceMethod ({ cls := "HallPlanModel", name := "draftProblem", desc := "(II)I" } : Jvm.MethodName)) ∈ lw_all := lw_g (lw_at lw_m10 103 rfl) rfl
theorem q2405 : (Jvm.Cond.code ({ cls := "HallPlanModel", name := "draftProblem", desc := "(II)I" } : Jvm.MethodName) prog_17_method_62_code (3 : Nat) (Option.some Jvm.ClassFile.FieldType.int)) ∈ lw_all := lw_g (lw_at lw_m10 104 rfl) rfl
theorem q2406 : (Jvm.Cond.methodLink "HallPlanModel" (279 : Nat) ({ cls := "HallPlanModel", name := "asks", desc := "([II)V" } : Jvm.MethodName)) ∈ lw_all := lw_g (lw_at lw_m10 105 rfl) rfl
theorem q2407 : (Jvm.Cond.privateMethod ({ cls := "HallPlanModel", name := "asks", desc := "([II)V" } : Jvm.MethodName)) ∈ lw_tbl := lw_at lw_m10 106 rfl
theorem q2408 : (Jvm.Cond.instanceMethod ({ cls := "HallPlanModel", name := "asks", desc := "([II)V" } : Jvm.MethodName)) ∈ lw_all := lw_g (lw_at lw_m10 107 rfl) rfl
theorem q2409 : (Jvm.Cond.code ({ cls := "HallPlanModel", name := "asks", desc := "([II)V" } : Jvm.MethodName) prog_17_method_48_code (4 : Nat) (Option.none : Option Jvm.ClassFile.FieldType)) ∈ lw_all := lw_g (lw_at lw_m10 108 rfl) rfl
theorem q2410 : (Jvm.Cond.methodLink "HallPlanModel" (283 : Nat) ({ cls := "HallPlanModel", name := "problemOf", desc := "(II)I" } : Jvm.MethodName)) ∈ lw_all := lw_g (lw_at lw_m10 109 rfl) rfl
theorem q2411 : (Jvm.Cond.privateMethod ({ cls := "HallPlanModel", name := "problemOf", desc := "(II)I" } : Jvm.MethodName)) ∈ lw_tbl := lw_at lw_m10 110 rfl
theorem q2412 : (Jvm.Cond.instanceMethod ({ cls := "HallPlanModel", name := "problemOf", desc := "(II)I" } : Jvm.MethodName)) ∈ lw_all := lw_g (lw_at lw_m10 111 rfl) rfl
theorem q2413 : (Jvm.Cond.code ({ cls := "HallPlanModel", name := "problemOf", desc := "(II)I" } : Jvm.MethodName) prog_17_method_61_code (4 : Nat) (Option.some Jvm.ClassFile.FieldType.int)) ∈ lw_all := lw_g (lw_at lw_m10 112 rfl) rfl
theorem q2414 : (Jvm.Cond.methodLink "HallPlanModel" (266 : Nat) ({ cls := "HallPlanModel", name := "isShutIn", desc := "(III)Z" } : Jvm.MethodName)) ∈ lw_all := lw_g (lw_at lw_m10 113 rfl) rfl
theorem q2415 : (Jvm.Cond.privateMethod ({ cls := "HallPlanModel", name := "isShutIn", desc := "(III)Z" } : Jvm.MethodName)) ∈ lw_tbl := lw_at lw_m10 114 rfl
theorem q2416 : (Jvm.Cond.instanceMethod ({ cls := "HallPlanModel", name := "isShutIn", desc := "(III)Z" } : Jvm.MethodName)) ∈ lw_all := lw_g (lw_at lw_m10 115 rfl) rfl
theorem q2417 : (Jvm.Cond.code ({ cls := "HallPlanModel", name := "isShutIn", desc := "(III)Z" } : Jvm.MethodName) prog_17_method_53_code (6 : Nat) (Option.some Jvm.ClassFile.FieldType.boolean)) ∈ lw_all := lw_g (lw_at lw_m10 116 rfl) rfl
theorem q2418 : (Jvm.Cond.methodLink "HallPlanModel" (269 : Nat) ({ cls := "HallPlanModel", name := "isWeeklyIn", desc := "(II)Z" } : Jvm.MethodName)) ∈ lw_all := lw_g (lw_at lw_m10 117 rfl) rfl
theorem q2419 : (Jvm.Cond.privateMethod ({ cls := "HallPlanModel", name := "isWeeklyIn", desc := "(II)Z" } : Jvm.MethodName)) ∈ lw_tbl := lw_at lw_m10 118 rfl
theorem q2420 : (Jvm.Cond.instanceMethod ({ cls := "HallPlanModel", name := "isWeeklyIn", desc := "(II)Z" } : Jvm.MethodName)) ∈ lw_all := lw_g (lw_at lw_m10 119 rfl) rfl
theorem q2421 : (Jvm.Cond.code ({ cls := "HallPlanModel", name := "isWeeklyIn", desc := "(II)Z" } : Jvm.MethodName) prog_17_method_54_code (6 : Nat) (Option.some Jvm.ClassFile.FieldType.boolean)) ∈ lw_all := lw_g (lw_at lw_m10 120 rfl) rfl
theorem q2422 : (Jvm.Cond.methodLink "HallPlanModel" (273 : Nat) ({ cls := "HallPlanModel", name := "isAnyNear", desc := "(II)Z" } : Jvm.MethodName)) ∈ lw_all := lw_g (lw_at lw_m10 121 rfl) rfl
theorem q2423 : (Jvm.Cond.privateMethod ({ cls := "HallPlanModel", name := "isAnyNear", desc := "(II)Z" } : Jvm.MethodName)) ∈ lw_tbl := lw_at lw_m10 122 rfl
theorem q2424 : (Jvm.Cond.instanceMethod ({ cls := "HallPlanModel", name := "isAnyNear", desc := "(II)Z" } : Jvm.MethodName)) ∈ lw_all := lw_g (lw_at lw_m10 123 rfl) rfl
theorem q2425 : (Jvm.Cond.code ({ cls := "HallPlanModel", name := "isAnyNear", desc := "(II)Z" } : Jvm.MethodName) prog_17_method_56_code (4 : Nat) (Option.some Jvm.ClassFile.FieldType.boolean)) ∈ lw_all := lw_g (lw_at lw_m10 124 rfl) rfl
theorem q2426 : (Jvm.Cond.methodLink "HallPlanModel" (248 : Nat) ({ cls := "HallPlanModel", name := "isNear", desc := "(III)Z" } : Jvm.MethodName)) ∈ lw_all := lw_g (lw_at lw_m10 125 rfl) rfl
theorem q2427 : (Jvm.Cond.privateMethod ({ cls := "HallPlanModel", name := "isNear", desc := "(III)Z" } : Jvm.MethodName)) ∈ lw_tbl := lw_at lw_m10 126 rfl
theorem q2428 : (Jvm.Cond.instanceMethod ({ cls := "HallPlanModel", name := "isNear", desc := "(III)Z" } : Jvm.MethodName)) ∈ lw_all := lw_g (lw_at lw_m10 127 rfl) rfl
theorem q2429 : (Jvm.Cond.code ({ cls := "HallPlanModel", name := "isNear", desc := "(III)Z" } : Jvm.MethodName) prog_17_method_55_code (7 : Nat) (Option.some Jvm.ClassFile.FieldType.boolean)) ∈ lw_all := lw_g (lw_at lw_m10 128 rfl) rfl
theorem q2430 : (Jvm.Cond.methodLink "HallPlanModel" (239 : Nat) ({ cls := "HallPlanModel", name := "counts", desc := "(I)Z" } : Jvm.MethodName)) ∈ lw_all := lw_g (lw_at lw_m10 129 rfl) rfl
theorem q2431 : (Jvm.Cond.privateMethod ({ cls := "HallPlanModel", name := "counts", desc := "(I)Z" } : Jvm.MethodName)) ∈ lw_tbl := lw_at lw_m10 130 rfl
theorem q2432 : (Jvm.Cond.instanceMethod ({ cls := "HallPlanModel", name := "counts", desc := "(I)Z" } : Jvm.MethodName)) ∈ lw_all := lw_g (lw_at lw_m10 131 rfl) rfl
theorem q2433 : (Jvm.Cond.code ({ cls := "HallPlanModel", name := "counts", desc := "(I)Z" } : Jvm.MethodName) prog_17_method_52_code (2 : Nat) (Option.some Jvm.ClassFile.FieldType.boolean)) ∈ lw_all := lw_g (lw_at lw_m10 132 rfl) rfl
theorem q2434 : (Jvm.Cond.methodLink "HallPlanModel" (236 : Nat) ({ cls := "HallPlanModel", name := "isActive", desc := "(I)Z" } : Jvm.MethodName)) ∈ lw_all := lw_g (lw_at lw_m10 133 rfl) rfl
theorem q2435 : (Jvm.Cond.privateMethod ({ cls := "HallPlanModel", name := "isActive", desc := "(I)Z" } : Jvm.MethodName)) ∈ lw_tbl := lw_at lw_m10 134 rfl
theorem q2436 : (Jvm.Cond.instanceMethod ({ cls := "HallPlanModel", name := "isActive", desc := "(I)Z" } : Jvm.MethodName)) ∈ lw_all := lw_g (lw_at lw_m10 135 rfl) rfl
theorem q2437 : (Jvm.Cond.code ({ cls := "HallPlanModel", name := "isActive", desc := "(I)Z" } : Jvm.MethodName) prog_17_method_46_code (2 : Nat) (Option.some Jvm.ClassFile.FieldType.boolean)) ∈ lw_all := lw_g (lw_at lw_m10 136 rfl) rfl
theorem q2438 : (Jvm.Cond.methodLink "HallPlanModel" (228 : Nat) ({ cls := "HallPlanModel", name := "of", desc := "(II)I" } : Jvm.MethodName)) ∈ lw_all := lw_g (lw_at lw_m10 137 rfl) rfl
theorem q2439 : (Jvm.Cond.privateMethod ({ cls := "HallPlanModel", name := "of", desc := "(II)I" } : Jvm.MethodName)) ∈ lw_tbl := lw_at lw_m10 138 rfl
theorem q2440 : (Jvm.Cond.instanceMethod ({ cls := "HallPlanModel", name := "of", desc := "(II)I" } : Jvm.MethodName)) ∈ lw_all := lw_g (lw_at lw_m10 139 rfl) rfl
theorem q2441 : (Jvm.Cond.code ({ cls := "HallPlanModel", name := "of", desc := "(II)I" } : Jvm.MethodName) prog_17_method_45_code (3 : Nat) (Option.some Jvm.ClassFile.FieldType.int)) ∈ lw_all := lw_g (lw_at lw_m10 140 rfl) rfl
theorem q2442 : (Jvm.Cond.methodLink "HallPlanModel" (225 : Nat) ({ cls := "HallPlanModel", name := "rowOf", desc := "(I)I" } : Jvm.MethodName)) ∈ lw_all := lw_g (lw_at lw_m10 141 rfl) rfl
theorem q2443 : (Jvm.Cond.static ({ cls := "HallPlanModel", name := "rowOf", desc := "(I)I" } : Jvm.MethodName)) ∈ lw_all := lw_g (lw_at lw_m10 142 rfl) rfl
theorem q2444 : (Jvm.Cond.code ({ cls := "HallPlanModel", name := "rowOf", desc := "(I)I" } : Jvm.MethodName) prog_17_method_44_code (1 : Nat) (Option.some Jvm.ClassFile.FieldType.int)) ∈ lw_all := lw_g (lw_at lw_m10 143 rfl) rfl
theorem q2445 : (Jvm.Cond.methodLink "HallPlanModel" (242 : Nat) ({ cls := "HallPlanModel", name := "endOf", desc := "(I)I" } : Jvm.MethodName)) ∈ lw_all := lw_g (lw_at lw_m10 144 rfl) rfl
theorem q2446 : (Jvm.Cond.privateMethod ({ cls := "HallPlanModel", name := "endOf", desc := "(I)I" } : Jvm.MethodName)) ∈ lw_tbl := lw_at lw_m10 145 rfl
theorem q2447 : (Jvm.Cond.instanceMethod ({ cls := "HallPlanModel", name := "endOf", desc := "(I)I" } : Jvm.MethodName)) ∈ lw_all := lw_g (lw_at lw_m10 146 rfl) rfl
theorem q2448 : (Jvm.Cond.code ({ cls := "HallPlanModel", name := "endOf", desc := "(I)I" } : Jvm.MethodName) prog_17_method_47_code (2 : Nat) (Option.some Jvm.ClassFile.FieldType.int)) ∈ lw_all := lw_g (lw_at lw_m10 147 rfl) rfl
theorem q2449 : (Jvm.Cond.methodLink "HallPlanModel" (245 : Nat) ({ cls := "HallPlanModel", name := "between", desc := "(II)I" } : Jvm.MethodName)) ∈ lw_all := lw_g (lw_at lw_m10 148 rfl) rfl
theorem q2450 : (Jvm.Cond.privateMethod ({ cls := "HallPlanModel", name := "between", desc := "(II)I" } : Jvm.MethodName)) ∈ lw_tbl := lw_at lw_m10 149 rfl
theorem q2451 : (Jvm.Cond.instanceMethod ({ cls := "HallPlanModel", name := "between", desc := "(II)I" } : Jvm.MethodName)) ∈ lw_all := lw_g (lw_at lw_m10 150 rfl) rfl
theorem q2452 : (Jvm.Cond.code ({ cls := "HallPlanModel", name := "between", desc := "(II)I" } : Jvm.MethodName) prog_17_method_49_code (3 : Nat) (Option.some Jvm.ClassFile.FieldType.int)) ∈ lw_all := lw_g (lw_at lw_m10 151 rfl) rfl
theorem q2453 : (Jvm.Cond.methodLink "HallPlanModel" (276 : Nat) ({ cls := "HallPlanModel", name := "isShort", desc := "(I)Z" } : Jvm.MethodName)) ∈ lw_all := lw_g (lw_at lw_m10 152 rfl) rfl
theorem q2454 : (Jvm.Cond.privateMethod ({ cls := "HallPlanModel", name := "isShort", desc := "(I)Z" } : Jvm.MethodName)) ∈ lw_tbl := lw_at lw_m10 153 rfl
theorem q2455 : (Jvm.Cond.instanceMethod ({ cls := "HallPlanModel", name := "isShort", desc := "(I)Z" } : Jvm.MethodName)) ∈ lw_all := lw_g (lw_at lw_m10 154 rfl) rfl
theorem q2456 : (Jvm.Cond.code ({ cls := "HallPlanModel", name := "isShort", desc := "(I)Z" } : Jvm.MethodName) prog_17_method_60_code (5 : Nat) (Option.some Jvm.ClassFile.FieldType.boolean)) ∈ lw_all := lw_g (lw_at lw_m10 155 rfl) rfl
theorem q2457 : (Jvm.Cond.methodLink "HallPlanModel" (263 : Nat) ({ cls := "HallPlanModel", name := "peakBy", desc := "(III)I" } : Jvm.MethodName)) ∈ lw_all := lw_g (lw_at lw_m10 156 rfl) rfl
theorem q2458 : (Jvm.Cond.privateMethod ({ cls := "HallPlanModel", name := "peakBy", desc := "(III)I" } : Jvm.MethodName)) ∈ lw_tbl := lw_at lw_m10 157 rfl
theorem q2459 : (Jvm.Cond.instanceMethod ({ cls := "HallPlanModel", name := "peakBy", desc := "(III)I" } : Jvm.MethodName)) ∈ lw_all := lw_g (lw_at lw_m10 158 rfl) rfl
theorem q2460 : (Jvm.Cond.code ({ cls := "HallPlanModel", name := "peakBy", desc := "(III)I" } : Jvm.MethodName) prog_17_method_59_code (9 : Nat) (Option.some Jvm.ClassFile.FieldType.int)) ∈ lw_all := lw_g (lw_at lw_m10 159 rfl) rfl
theorem q2461 : (Jvm.Cond.methodLink "HallPlanModel" (255 : Nat) ({ cls := "java/lang/Math", name := "max", desc := "(II)I" } : Jvm.MethodName)) ∈ lw_all := lw_g (lw_at lw_m10 160 rfl) rfl
theorem q2462 : (Jvm.Cond.methodLink "HallPlanModel" (260 : Nat) ({ cls := "java/lang/Math", name := "min", desc := "(II)I" } : Jvm.MethodName)) ∈ lw_all := lw_g (lw_at lw_m10 161 rfl) rfl
theorem q2463 : (Jvm.Cond.methodLink "HallPlanModel" (314 : Nat) ({ cls := "HallPlanModel", name := "remembers", desc := "()V" } : Jvm.MethodName)) ∈ lw_all := lw_g (lw_at lw_m10 162 rfl) rfl
theorem q2464 : (Jvm.Cond.privateMethod ({ cls := "HallPlanModel", name := "remembers", desc := "()V" } : Jvm.MethodName)) ∈ lw_tbl := lw_at lw_m10 163 rfl
theorem q2465 : (Jvm.Cond.instanceMethod ({ cls := "HallPlanModel", name := "remembers", desc := "()V" } : Jvm.MethodName)) ∈ lw_all := lw_g (lw_at lw_m10 164 rfl) rfl
theorem q2466 : (Jvm.Cond.code ({ cls := "HallPlanModel", name := "remembers", desc := "()V" } : Jvm.MethodName) prog_17_method_6_code (2 : Nat) (Option.none : Option Jvm.ClassFile.FieldType)) ∈ lw_all := lw_g (lw_at lw_m10 165 rfl) rfl
theorem q2467 : (Jvm.Cond.methodLink "HallPlanModel" (317 : Nat) ({ cls := "HallPlanModel", name := "books", desc := "([IIII)I" } : Jvm.MethodName)) ∈ lw_all := lw_g (lw_at lw_m10 166 rfl) rfl
theorem q2468 : (Jvm.Cond.privateMethod ({ cls := "HallPlanModel", name := "books", desc := "([IIII)I" } : Jvm.MethodName)) ∈ lw_tbl := lw_at lw_m10 167 rfl
theorem q2469 : (Jvm.Cond.instanceMethod ({ cls := "HallPlanModel", name := "books", desc := "([IIII)I" } : Jvm.MethodName)) ∈ lw_all := lw_g (lw_at lw_m10 168 rfl) rfl
theorem q2470 : (Jvm.Cond.code ({ cls := "HallPlanModel", name := "books", desc := "([IIII)I" } : Jvm.MethodName) prog_17_method_67_code (7 : Nat) (Option.some Jvm.ClassFile.FieldType.int)) ∈ lw_all := lw_g (lw_at lw_m10 169 rfl) rfl
theorem q2471 : (Jvm.Cond.methodLink "HallPlanModel" (304 : Nat) ({ cls := "HallPlanModel", name := "puts", desc := "(III)V" } : Jvm.MethodName)) ∈ lw_all := lw_g (lw_at lw_m10 170 rfl) rfl
theorem q2472 : (Jvm.Cond.privateMethod ({ cls := "HallPlanModel", name := "puts", desc := "(III)V" } : Jvm.MethodName)) ∈ lw_tbl := lw_at lw_m10 171 rfl
theorem q2473 : (Jvm.Cond.instanceMethod ({ cls := "HallPlanModel", name := "puts", desc := "(III)V" } : Jvm.MethodName)) ∈ lw_all := lw_g (lw_at lw_m10 172 rfl) rfl
theorem q2474 : (Jvm.Cond.code ({ cls := "HallPlanModel", name := "puts", desc := "(III)V" } : Jvm.MethodName) prog_17_method_68_code (4 : Nat) (Option.none : Option Jvm.ClassFile.FieldType)) ∈ lw_all := lw_g (lw_at lw_m10 173 rfl) rfl
theorem q2476 : (Jvm.Cond.instanceMethod ({ cls := "HallPlanModel", name := "cancel", desc := "(I)I" } : Jvm.MethodName)) ∈ lw_all := lw_g (lw_at lw_m10 175 rfl) rfl
theorem q2477 : (Jvm.Cond.selects "HallPlanModel" ({ cls := "HallPlanModel", name := "cancel", desc := "(I)I" } : Jvm.MethodName) ({ cls := "HallPlanModel", name := "cancel", desc := "(I)I" } : Jvm.MethodName)) ∈ lw_all := lw_g (lw_at lw_m10 176 rfl) rfl
theorem q2478 : (Jvm.Cond.code ({ cls := "HallPlanModel", name := "cancel", desc := "(I)I" } : Jvm.MethodName) prog_17_method_76_code (3 : Nat) (Option.some Jvm.ClassFile.FieldType.int)) ∈ lw_all := lw_g (lw_at lw_m10 177 rfl) rfl
theorem q2479 : (Jvm.Cond.methodLink "HallPlanModel" (332 : Nat) ({ cls := "HallPlanModel", name := "isBooking", desc := "(I)Z" } : Jvm.MethodName)) ∈ lw_all := lw_g (lw_at lw_m10 178 rfl) rfl
theorem q2480 : (Jvm.Cond.privateMethod ({ cls := "HallPlanModel", name := "isBooking", desc := "(I)Z" } : Jvm.MethodName)) ∈ lw_tbl := lw_at lw_m10 179 rfl
theorem q2481 : (Jvm.Cond.instanceMethod ({ cls := "HallPlanModel", name := "isBooking", desc := "(I)Z" } : Jvm.MethodName)) ∈ lw_all := lw_g (lw_at lw_m10 180 rfl) rfl
theorem q2482 : (Jvm.Cond.code ({ cls := "HallPlanModel", name := "isBooking", desc := "(I)Z" } : Jvm.MethodName) prog_17_method_42_code (2 : Nat) (Option.some Jvm.ClassFile.FieldType.boolean)) ∈ lw_all := lw_g (lw_at lw_m10 181 rfl) rfl
theorem q2483 : (Jvm.Cond.methodLink "HallPlanModel" (335 : Nat) ({ cls := "HallPlanModel", name := "isToCome", desc := "(I)Z" } : Jvm.MethodName)) ∈ lw_all := lw_g (lw_at lw_m10 182 rfl) rfl
theorem q2484 : (Jvm.Cond.privateMethod ({ cls := "HallPlanModel", name := "isToCome", desc := "(I)Z" } : Jvm.MethodName)) ∈ lw_tbl := lw_at lw_m10 183 rfl
theorem q2485 : (Jvm.Cond.instanceMethod ({ cls := "HallPlanModel", name := "isToCome", desc := "(I)Z" } : Jvm.MethodName)) ∈ lw_all := lw_g (lw_at lw_m10 184 rfl) rfl
theorem q2486 : (Jvm.Cond.code ({ cls := "HallPlanModel", name := "isToCome", desc := "(I)Z" } : Jvm.MethodName) prog_17_method_70_code (2 : Nat) (Option.some Jvm.ClassFile.FieldType.boolean)) ∈ lw_all := lw_g (lw_at lw_m10 185 rfl) rfl
theorem q2487 : (Jvm.Cond.methodLink "HallPlanModel" (338 : Nat) ({ cls := "HallPlanModel", name := "feeOf", desc := "(I)I" } : Jvm.MethodName)) ∈ lw_all := lw_g (lw_at lw_m10 186 rfl) rfl
theorem q2488 : (Jvm.Cond.privateMethod ({ cls := "HallPlanModel", name := "feeOf", desc := "(I)I" } : Jvm.MethodName)) ∈ lw_tbl := lw_at lw_m10 187 rfl
theorem q2489 : (Jvm.Cond.instanceMethod ({ cls := "HallPlanModel", name := "feeOf", desc := "(I)I" } : Jvm.MethodName)) ∈ lw_all := lw_g (lw_at lw_m10 188 rfl) rfl
theorem q2490 : (Jvm.Cond.code ({ cls := "HallPlanModel", name := "feeOf", desc := "(I)I" } : Jvm.MethodName) prog_17_method_72_code (2 : Nat) (Option.some Jvm.ClassFile.FieldType.int)) ∈ lw_all := lw_g (lw_at lw_m10 189 rfl) rfl
theorem q2491 : (Jvm.Cond.methodLink "HallPlanModel" (320 : Nat) ({ cls := "HallPlanModel", name := "priceNow", desc := "(I)I" } : Jvm.MethodName)) ∈ lw_all := lw_g (lw_at lw_m10 190 rfl) rfl
theorem q2492 : (Jvm.Cond.privateMethod ({ cls := "HallPlanModel", name := "priceNow", desc := "(I)I" } : Jvm.MethodName)) ∈ lw_tbl := lw_at lw_m10 191 rfl
theorem q2493 : (Jvm.Cond.instanceMethod ({ cls := "HallPlanModel", name := "priceNow", desc := "(I)I" } : Jvm.MethodName)) ∈ lw_all := lw_g (lw_at lw_m10 192 rfl) rfl
theorem q2494 : (Jvm.Cond.code ({ cls := "HallPlanModel", name := "priceNow", desc := "(I)I" } : Jvm.MethodName) prog_17_method_51_code (2 : Nat) (Option.some Jvm.ClassFile.FieldType.int)) ∈ lw_all := lw_g (lw_at lw_m10 193 rfl) rfl
theorem q2495 : (Jvm.Cond.methodLink "HallPlanModel" (232 : Nat) ({ cls := "HallPlanModel", name := "priceOf", desc := "([IIII)I" } : Jvm.MethodName)) ∈ lw_all := lw_g (lw_at lw_m10 194 rfl) rfl
theorem q2496 : (Jvm.Cond.privateMethod ({ cls := "HallPlanModel", name := "priceOf", desc := "([IIII)I" } : Jvm.MethodName)) ∈ lw_tbl := lw_at lw_m10 195 rfl
theorem q2497 : (Jvm.Cond.instanceMethod ({ cls := "HallPlanModel", name := "priceOf", desc := "([IIII)I" } : Jvm.MethodName)) ∈ lw_all := lw_g (lw_at lw_m10 196 rfl) rfl
theorem q2498 : (Jvm.Cond.code ({ cls := "HallPlanModel", name := "priceOf", desc := "([IIII)I" } : Jvm.MethodName) prog_17_method_50_code (7 : Nat) (Option.some Jvm.ClassFile.FieldType.int)) ∈ lw_all := lw_g (lw_at lw_m10 197 rfl) rfl
theorem q2499 : (Jvm.Cond.methodLink "HallPlanModel" (323 : Nat) ({ cls := "HallPlanModel", name := "percentOf", desc := "(I)I" } : Jvm.MethodName)) ∈ lw_all := lw_g (lw_at lw_m10 198 rfl) rfl
theorem q2500 : (Jvm.Cond.privateMethod ({ cls := "HallPlanModel", name := "percentOf", desc := "(I)I" } : Jvm.MethodName)) ∈ lw_tbl := lw_at lw_m10 199 rfl
theorem q2501 : (Jvm.Cond.instanceMethod ({ cls := "HallPlanModel", name := "percentOf", desc := "(I)I" } : Jvm.MethodName)) ∈ lw_all := lw_g (lw_at lw_m10 200 rfl) rfl
theorem q2502 : (Jvm.Cond.code ({ cls := "HallPlanModel", name := "percentOf", desc := "(I)I" } : Jvm.MethodName) prog_17_method_71_code (5 : Nat) (Option.some Jvm.ClassFile.FieldType.int)) ∈ lw_all := lw_g (lw_at lw_m10 201 rfl) rfl
theorem q2503 : (Jvm.Cond.methodLink "HallPlanModel" (341 : Nat) ({ cls := "HallPlanModel", name := "serves", desc := "()V" } : Jvm.MethodName)) ∈ lw_all := lw_g (lw_at lw_m10 202 rfl) rfl
theorem q2504 : (Jvm.Cond.privateMethod ({ cls := "HallPlanModel", name := "serves", desc := "()V" } : Jvm.MethodName)) ∈ lw_tbl := lw_at lw_m10 203 rfl
theorem q2505 : (Jvm.Cond.instanceMethod ({ cls := "HallPlanModel", name := "serves", desc := "()V" } : Jvm.MethodName)) ∈ lw_all := lw_g (lw_at lw_m10 204 rfl) rfl
theorem q2506 : (Jvm.Cond.code ({ cls := "HallPlanModel", name := "serves", desc := "()V" } : Jvm.MethodName) prog_17_method_75_code (5 : Nat) (Option.none : Option Jvm.ClassFile.FieldType)) ∈ lw_all := lw_g (lw_at lw_m10 205 rfl) rfl
theorem q2507 : (Jvm.Cond.methodLink "HallPlanModel" (326 : Nat) ({ cls := "HallPlanModel", name := "requestAt", desc := "(I)I" } : Jvm.MethodName)) ∈ lw_all := lw_g (lw_at lw_m10 206 rfl) rfl
theorem q2508 : (Jvm.Cond.static ({ cls := "HallPlanModel", name := "requestAt", desc := "(I)I" } : Jvm.MethodName)) ∈ lw_all := lw_g (lw_at lw_m10 207 rfl) rfl
theorem q2509 : (Jvm.Cond.code ({ cls := "HallPlanModel", name := "requestAt", desc := "(I)I" } : Jvm.MethodName) prog_17_method_73_code (1 : Nat) (Option.some Jvm.ClassFile.FieldType.int)) ∈ lw_all := lw_g (lw_at lw_m10 208 rfl) rfl
theorem q2510 : (Jvm.Cond.methodLink "HallPlanModel" (329 : Nat) ({ cls := "HallPlanModel", name := "removesRequest", desc := "(I)V" } : Jvm.MethodName)) ∈ lw_all := lw_g (lw_at lw_m10 209 rfl) rfl
theorem q2511 : (Jvm.Cond.privateMethod ({ cls := "HallPlanModel", name := "removesRequest", desc := "(I)V" } : Jvm.MethodName)) ∈ lw_tbl := lw_at lw_m10 210 rfl
theorem q2512 : (Jvm.Cond.instanceMethod ({ cls := "HallPlanModel", name := "removesRequest", desc := "(I)V" } : Jvm.MethodName)) ∈ lw_all := lw_g (lw_at lw_m10 211 rfl) rfl
theorem q2513 : (Jvm.Cond.code ({ cls := "HallPlanModel", name := "removesRequest", desc := "(I)V" } : Jvm.MethodName) prog_17_method_74_code (3 : Nat) (Option.none : Option Jvm.ClassFile.FieldType)) ∈ lw_all := lw_g (lw_at lw_m10 212 rfl) rfl
theorem q2515 : (Jvm.Cond.instanceMethod ({ cls := "HallPlanModel", name := "move", desc := "(III)I" } : Jvm.MethodName)) ∈ lw_all := lw_g (lw_at lw_m10 214 rfl) rfl
theorem q2516 : (Jvm.Cond.selects "HallPlanModel" ({ cls := "HallPlanModel", name := "move", desc := "(III)I" } : Jvm.MethodName) ({ cls := "HallPlanModel", name := "move", desc := "(III)I" } : Jvm.MethodName)) ∈ lw_all := lw_g (lw_at lw_m10 215 rfl) rfl
theorem q2517 : (Jvm.Cond.code ({ cls := "HallPlanModel", name := "move", desc := "(III)I" } : Jvm.MethodName) prog_17_method_78_code (4 : Nat) (Option.some Jvm.ClassFile.FieldType.int)) ∈ lw_all := lw_g (lw_at lw_m10 216 rfl) rfl
theorem q2518 : (Jvm.Cond.methodLink "HallPlanModel" (344 : Nat) ({ cls := "HallPlanModel", name := "whyNotBooking", desc := "(III)I" } : Jvm.MethodName)) ∈ lw_all := lw_g (lw_at lw_m10 217 rfl) rfl
theorem q2519 : (Jvm.Cond.privateMethod ({ cls := "HallPlanModel", name := "whyNotBooking", desc := "(III)I" } : Jvm.MethodName)) ∈ lw_tbl := lw_at lw_m10 218 rfl
theorem q2520 : (Jvm.Cond.instanceMethod ({ cls := "HallPlanModel", name := "whyNotBooking", desc := "(III)I" } : Jvm.MethodName)) ∈ lw_all := lw_g (lw_at lw_m10 219 rfl) rfl
theorem q2521 : (Jvm.Cond.code ({ cls := "HallPlanModel", name := "whyNotBooking", desc := "(III)I" } : Jvm.MethodName) prog_17_method_77_code (4 : Nat) (Option.some Jvm.ClassFile.FieldType.int)) ∈ lw_all := lw_g (lw_at lw_m10 220 rfl) rfl
theorem q2522 : (Jvm.Cond.methodLink "HallPlanModel" (347 : Nat) ({ cls := "HallPlanModel", name := "bookingProblem", desc := "(III)I" } : Jvm.MethodName)) ∈ lw_all := lw_g (lw_at lw_m10 221 rfl) rfl
theorem q2523 : (Jvm.Cond.privateMethod ({ cls := "HallPlanModel", name := "bookingProblem", desc := "(III)I" } : Jvm.MethodName)) ∈ lw_tbl := lw_at lw_m10 222 rfl
theorem q2524 : (Jvm.Cond.instanceMethod ({ cls := "HallPlanModel", name := "bookingProblem", desc := "(III)I" } : Jvm.MethodName)) ∈ lw_all := lw_g (lw_at lw_m10 223 rfl) rfl
theorem q2525 : (Jvm.Cond.code ({ cls := "HallPlanModel", name := "bookingProblem", desc := "(III)I" } : Jvm.MethodName) prog_17_method_63_code (6 : Nat) (Option.some Jvm.ClassFile.FieldType.int)) ∈ lw_all := lw_g (lw_at lw_m10 224 rfl) rfl
theorem q2527 : (Jvm.Cond.instanceMethod ({ cls := "HallPlanModel", name := "moveByChain", desc := "(III)I" } : Jvm.MethodName)) ∈ lw_all := lw_g (lw_at lw_m10 226 rfl) rfl
theorem q2528 : (Jvm.Cond.selects "HallPlanModel" ({ cls := "HallPlanModel", name := "moveByChain", desc := "(III)I" } : Jvm.MethodName) ({ cls := "HallPlanModel", name := "moveByChain", desc := "(III)I" } : Jvm.MethodName)) ∈ lw_all := lw_g (lw_at lw_m10 227 rfl) rfl
theorem q2529 : (Jvm.Cond.code ({ cls := "HallPlanModel", name := "moveByChain", desc := "(III)I" } : Jvm.MethodName) prog_17_method_84_code (4 : Nat) (Option.some Jvm.ClassFile.FieldType.int)) ∈ lw_all := lw_g (lw_at lw_m10 228 rfl) rfl
theorem q2530 : (Jvm.Cond.methodLink "HallPlanModel" (362 : Nat) ({ cls := "HallPlanModel", name := "seeks", desc := "(III)I" } : Jvm.MethodName)) ∈ lw_all := lw_g (lw_at lw_m10 229 rfl) rfl
theorem q2531 : (Jvm.Cond.privateMethod ({ cls := "HallPlanModel", name := "seeks", desc := "(III)I" } : Jvm.MethodName)) ∈ lw_tbl := lw_at lw_m10 230 rfl
theorem q2532 : (Jvm.Cond.instanceMethod ({ cls := "HallPlanModel", name := "seeks", desc := "(III)I" } : Jvm.MethodName)) ∈ lw_all := lw_g (lw_at lw_m10 231 rfl) rfl
theorem q2533 : (Jvm.Cond.code ({ cls := "HallPlanModel", name := "seeks", desc := "(III)I" } : Jvm.MethodName) prog_17_method_82_code (4 : Nat) (Option.some Jvm.ClassFile.FieldType.int)) ∈ lw_all := lw_g (lw_at lw_m10 232 rfl) rfl
theorem q2534 : (Jvm.Cond.methodLink "HallPlanModel" (350 : Nat) ({ cls := "HallPlanModel", name := "canTake", desc := "(III)Z" } : Jvm.MethodName)) ∈ lw_all := lw_g (lw_at lw_m10 233 rfl) rfl
theorem q2535 : (Jvm.Cond.privateMethod ({ cls := "HallPlanModel", name := "canTake", desc := "(III)Z" } : Jvm.MethodName)) ∈ lw_tbl := lw_at lw_m10 234 rfl
theorem q2536 : (Jvm.Cond.instanceMethod ({ cls := "HallPlanModel", name := "canTake", desc := "(III)Z" } : Jvm.MethodName)) ∈ lw_all := lw_g (lw_at lw_m10 235 rfl) rfl
theorem q2537 : (Jvm.Cond.code ({ cls := "HallPlanModel", name := "canTake", desc := "(III)Z" } : Jvm.MethodName) prog_17_method_79_code (9 : Nat) (Option.some Jvm.ClassFile.FieldType.boolean)) ∈ lw_all := lw_g (lw_at lw_m10 236 rfl) rfl
theorem q2538 : (Jvm.Cond.methodLink "HallPlanModel" (356 : Nat) ({ cls := "HallPlanModel", name := "seeksTwo", desc := "(II)Z" } : Jvm.MethodName)) ∈ lw_all := lw_g (lw_at lw_m10 237 rfl) rfl
theorem q2539 : (Jvm.Cond.privateMethod ({ cls := "HallPlanModel", name := "seeksTwo", desc := "(II)Z" } : Jvm.MethodName)) ∈ lw_tbl := lw_at lw_m10 238 rfl
theorem q2540 : (Jvm.Cond.instanceMethod ({ cls := "HallPlanModel", name := "seeksTwo", desc := "(II)Z" } : Jvm.MethodName)) ∈ lw_all := lw_g (lw_at lw_m10 239 rfl) rfl
theorem q2541 : (Jvm.Cond.code ({ cls := "HallPlanModel", name := "seeksTwo", desc := "(II)Z" } : Jvm.MethodName) prog_17_method_80_code (4 : Nat) (Option.some Jvm.ClassFile.FieldType.boolean)) ∈ lw_all := lw_g (lw_at lw_m11 0 rfl) rfl
theorem q2542 : (Jvm.Cond.methodLink "HallPlanModel" (359 : Nat) ({ cls := "HallPlanModel", name := "seeksThree", desc := "(II)Z" } : Jvm.MethodName)) ∈ lw_all := lw_g (lw_at lw_m11 1 rfl) rfl
theorem q2543 : (Jvm.Cond.privateMethod ({ cls := "HallPlanModel", name := "seeksThree", desc := "(II)Z" } : Jvm.MethodName)) ∈ lw_tbl := lw_at lw_m11 2 rfl
theorem q2544 : (Jvm.Cond.instanceMethod ({ cls := "HallPlanModel", name := "seeksThree", desc := "(II)Z" } : Jvm.MethodName)) ∈ lw_all := lw_g (lw_at lw_m11 3 rfl) rfl
theorem q2545 : (Jvm.Cond.code ({ cls := "HallPlanModel", name := "seeksThree", desc := "(II)Z" } : Jvm.MethodName) prog_17_method_81_code (6 : Nat) (Option.some Jvm.ClassFile.FieldType.boolean)) ∈ lw_all := lw_g (lw_at lw_m11 4 rfl) rfl
theorem q2546 : (Jvm.Cond.methodLink "HallPlanModel" (365 : Nat) ({ cls := "HallPlanModel", name := "carries", desc := "(II)V" } : Jvm.MethodName)) ∈ lw_all := lw_g (lw_at lw_m11 5 rfl) rfl
theorem q2547 : (Jvm.Cond.privateMethod ({ cls := "HallPlanModel", name := "carries", desc := "(II)V" } : Jvm.MethodName)) ∈ lw_tbl := lw_at lw_m11 6 rfl
theorem q2548 : (Jvm.Cond.instanceMethod ({ cls := "HallPlanModel", name := "carries", desc := "(II)V" } : Jvm.MethodName)) ∈ lw_all := lw_g (lw_at lw_m11 7 rfl) rfl
theorem q2549 : (Jvm.Cond.code ({ cls := "HallPlanModel", name := "carries", desc := "(II)V" } : Jvm.MethodName) prog_17_method_83_code (5 : Nat) (Option.none : Option Jvm.ClassFile.FieldType)) ∈ lw_all := lw_g (lw_at lw_m11 8 rfl) rfl
theorem q2551 : (Jvm.Cond.instanceMethod ({ cls := "HallPlanModel", name := "swap", desc := "(II)I" } : Jvm.MethodName)) ∈ lw_all := lw_g (lw_at lw_m11 10 rfl) rfl
theorem q2552 : (Jvm.Cond.selects "HallPlanModel" ({ cls := "HallPlanModel", name := "swap", desc := "(II)I" } : Jvm.MethodName) ({ cls := "HallPlanModel", name := "swap", desc := "(II)I" } : Jvm.MethodName)) ∈ lw_all := lw_g (lw_at lw_m11 11 rfl) rfl
theorem q2553 : (Jvm.Cond.code ({ cls := "HallPlanModel", name := "swap", desc := "(II)I" } : Jvm.MethodName) prog_17_method_87_code (5 : Nat) (Option.some Jvm.ClassFile.FieldType.int)) ∈ lw_all := lw_g (lw_at lw_m11 12 rfl) rfl
theorem q2554 : (Jvm.Cond.methodLink "HallPlanModel" (368 : Nat) ({ cls := "HallPlanModel", name := "whyNotPair", desc := "(II)I" } : Jvm.MethodName)) ∈ lw_all := lw_g (lw_at lw_m11 13 rfl) rfl
theorem q2555 : (Jvm.Cond.privateMethod ({ cls := "HallPlanModel", name := "whyNotPair", desc := "(II)I" } : Jvm.MethodName)) ∈ lw_tbl := lw_at lw_m11 14 rfl
theorem q2556 : (Jvm.Cond.instanceMethod ({ cls := "HallPlanModel", name := "whyNotPair", desc := "(II)I" } : Jvm.MethodName)) ∈ lw_all := lw_g (lw_at lw_m11 15 rfl) rfl
theorem q2557 : (Jvm.Cond.code ({ cls := "HallPlanModel", name := "whyNotPair", desc := "(II)I" } : Jvm.MethodName) prog_17_method_86_code (3 : Nat) (Option.some Jvm.ClassFile.FieldType.int)) ∈ lw_all := lw_g (lw_at lw_m11 16 rfl) rfl
theorem q2558 : (Jvm.Cond.methodLink "HallPlanModel" (371 : Nat) ({ cls := "HallPlanModel", name := "swapProblemOf", desc := "(II)I" } : Jvm.MethodName)) ∈ lw_all := lw_g (lw_at lw_m11 17 rfl) rfl
theorem q2559 : (Jvm.Cond.privateMethod ({ cls := "HallPlanModel", name := "swapProblemOf", desc := "(II)I" } : Jvm.MethodName)) ∈ lw_tbl := lw_at lw_m11 18 rfl
theorem q2560 : (Jvm.Cond.instanceMethod ({ cls := "HallPlanModel", name := "swapProblemOf", desc := "(II)I" } : Jvm.MethodName)) ∈ lw_all := lw_g (lw_at lw_m11 19 rfl) rfl
theorem q2561 : (Jvm.Cond.code ({ cls := "HallPlanModel", name := "swapProblemOf", desc := "(II)I" } : Jvm.MethodName) prog_17_method_85_code (7 : Nat) (Option.some Jvm.ClassFile.FieldType.int)) ∈ lw_all := lw_g (lw_at lw_m11 20 rfl) rfl
theorem q2563 : (Jvm.Cond.instanceMethod ({ cls := "HallPlanModel", name := "enqueue", desc := "(II)I" } : Jvm.MethodName)) ∈ lw_all := lw_g (lw_at lw_m11 22 rfl) rfl
theorem q2564 : (Jvm.Cond.selects "HallPlanModel" ({ cls := "HallPlanModel", name := "enqueue", desc := "(II)I" } : Jvm.MethodName) ({ cls := "HallPlanModel", name := "enqueue", desc := "(II)I" } : Jvm.MethodName)) ∈ lw_all := lw_g (lw_at lw_m11 23 rfl) rfl
theorem q2565 : (Jvm.Cond.code ({ cls := "HallPlanModel", name := "enqueue", desc := "(II)I" } : Jvm.MethodName) prog_17_method_88_code (5 : Nat) (Option.some Jvm.ClassFile.FieldType.int)) ∈ lw_all := lw_g (lw_at lw_m11 24 rfl) rfl
theorem q2567 : (Jvm.Cond.instanceMethod ({ cls := "HallPlanModel", name := "dequeue", desc := "(I)I" } : Jvm.MethodName)) ∈ lw_all := lw_g (lw_at lw_m11 26 rfl) rfl
theorem q2568 : (Jvm.Cond.selects "HallPlanModel" ({ cls := "HallPlanModel", name := "dequeue", desc := "(I)I" } : Jvm.MethodName) ({ cls := "HallPlanModel", name := "dequeue", desc := "(I)I" } : Jvm.MethodName)) ∈ lw_all := lw_g (lw_at lw_m11 27 rfl) rfl
theorem q2569 : (Jvm.Cond.code ({ cls := "HallPlanModel", name := "dequeue", desc := "(I)I" } : Jvm.MethodName) prog_17_method_89_code (2 : Nat) (Option.some Jvm.ClassFile.FieldType.int)) ∈ lw_all := lw_g (lw_at lw_m11 28 rfl) rfl
theorem q2571 : (Jvm.Cond.instanceMethod ({ cls := "HallPlanModel", name := "close", desc := "(III)I" } : Jvm.MethodName)) ∈ lw_all := lw_g (lw_at lw_m11 30 rfl) rfl
theorem q2572 : (Jvm.Cond.selects "HallPlanModel" ({ cls := "HallPlanModel", name := "close", desc := "(III)I" } : Jvm.MethodName) ({ cls := "HallPlanModel", name := "close", desc := "(III)I" } : Jvm.MethodName)) ∈ lw_all := lw_g (lw_at lw_m11 31 rfl) rfl
theorem q2573 : (Jvm.Cond.code ({ cls := "HallPlanModel", name := "close", desc := "(III)I" } : Jvm.MethodName) prog_17_method_91_code (5 : Nat) (Option.some Jvm.ClassFile.FieldType.int)) ∈ lw_all := lw_g (lw_at lw_m11 32 rfl) rfl
theorem q2574 : (Jvm.Cond.constantLong "HallPlanModel" (374 : Nat) (86400 : Int64)) ∈ lw_all := lw_g (lw_at lw_m11 33 rfl) rfl
theorem q2575 : (Jvm.Cond.methodLink "HallPlanModel" (376 : Nat) ({ cls := "HallPlanModel", name := "isBookedIn", desc := "(III)Z" } : Jvm.MethodName)) ∈ lw_all := lw_g (lw_at lw_m11 34 rfl) rfl
theorem q2576 : (Jvm.Cond.privateMethod ({ cls := "HallPlanModel", name := "isBookedIn", desc := "(III)Z" } : Jvm.MethodName)) ∈ lw_tbl := lw_at lw_m11 35 rfl
theorem q2577 : (Jvm.Cond.instanceMethod ({ cls := "HallPlanModel", name := "isBookedIn", desc := "(III)Z" } : Jvm.MethodName)) ∈ lw_all := lw_g (lw_at lw_m11 36 rfl) rfl
theorem q2578 : (Jvm.Cond.code ({ cls := "HallPlanModel", name := "isBookedIn", desc := "(III)Z" } : Jvm.MethodName) prog_17_method_90_code (5 : Nat) (Option.some Jvm.ClassFile.FieldType.boolean)) ∈ lw_all := lw_g (lw_at lw_m11 37 rfl) rfl
theorem q2580 : (Jvm.Cond.instanceMethod ({ cls := "HallPlanModel", name := "advance", desc := "(I)I" } : Jvm.MethodName)) ∈ lw_all := lw_g (lw_at lw_m11 39 rfl) rfl
theorem q2581 : (Jvm.Cond.selects "HallPlanModel" ({ cls := "HallPlanModel", name := "advance", desc := "(I)I" } : Jvm.MethodName) ({ cls := "HallPlanModel", name := "advance", desc := "(I)I" } : Jvm.MethodName)) ∈ lw_all := lw_g (lw_at lw_m11 40 rfl) rfl
theorem q2582 : (Jvm.Cond.code ({ cls := "HallPlanModel", name := "advance", desc := "(I)I" } : Jvm.MethodName) prog_17_method_92_code (2 : Nat) (Option.some Jvm.ClassFile.FieldType.int)) ∈ lw_all := lw_g (lw_at lw_m11 41 rfl) rfl
theorem q2583 : (Jvm.Cond.constantLong "HallPlanModel" (379 : Nat) (20000 : Int64)) ∈ lw_all := lw_g (lw_at lw_m11 42 rfl) rfl
theorem q2585 : (Jvm.Cond.instanceMethod ({ cls := "HallPlanModel", name := "setup", desc := "(I)I" } : Jvm.MethodName)) ∈ lw_all := lw_g (lw_at lw_m11 44 rfl) rfl
theorem q2586 : (Jvm.Cond.selects "HallPlanModel" ({ cls := "HallPlanModel", name := "setup", desc := "(I)I" } : Jvm.MethodName) ({ cls := "HallPlanModel", name := "setup", desc := "(I)I" } : Jvm.MethodName)) ∈ lw_all := lw_g (lw_at lw_m11 45 rfl) rfl
theorem q2587 : (Jvm.Cond.code ({ cls := "HallPlanModel", name := "setup", desc := "(I)I" } : Jvm.MethodName) prog_17_method_93_code (2 : Nat) (Option.some Jvm.ClassFile.FieldType.int)) ∈ lw_all := lw_g (lw_at lw_m11 46 rfl) rfl
theorem q2589 : (Jvm.Cond.instanceMethod ({ cls := "HallPlanModel", name := "setupTime", desc := "(II)I" } : Jvm.MethodName)) ∈ lw_all := lw_g (lw_at lw_m11 48 rfl) rfl
theorem q2590 : (Jvm.Cond.selects "HallPlanModel" ({ cls := "HallPlanModel", name := "setupTime", desc := "(II)I" } : Jvm.MethodName) ({ cls := "HallPlanModel", name := "setupTime", desc := "(II)I" } : Jvm.MethodName)) ∈ lw_all := lw_g (lw_at lw_m11 49 rfl) rfl
theorem q2591 : (Jvm.Cond.code ({ cls := "HallPlanModel", name := "setupTime", desc := "(II)I" } : Jvm.MethodName) prog_17_method_94_code (3 : Nat) (Option.some Jvm.ClassFile.FieldType.int)) ∈ lw_all := lw_g (lw_at lw_m11 50 rfl) rfl
theorem q2593 : (Jvm.Cond.instanceMethod ({ cls := "HallPlanModel", name := "isClosed", desc := "(II)Z" } : Jvm.MethodName)) ∈ lw_all := lw_g (lw_at lw_m11 52 rfl) rfl
theorem q2594 : (Jvm.Cond.selects "HallPlanModel" ({ cls := "HallPlanModel", name := "isClosed", desc := "(II)Z" } : Jvm.MethodName) ({ cls := "HallPlanModel", name := "isClosed", desc := "(II)Z" } : Jvm.MethodName)) ∈ lw_all := lw_g (lw_at lw_m11 53 rfl) rfl
theorem q2595 : (Jvm.Cond.code ({ cls := "HallPlanModel", name := "isClosed", desc := "(II)Z" } : Jvm.MethodName) prog_17_method_95_code (3 : Nat) (Option.some Jvm.ClassFile.FieldType.boolean)) ∈ lw_all := lw_g (lw_at lw_m11 54 rfl) rfl
theorem q2596 : (Jvm.Cond.constantLong "HallPlanModel" (381 : Nat) (86399 : Int64)) ∈ lw_all := lw_g (lw_at lw_m11 55 rfl) rfl
theorem q2598 : (Jvm.Cond.instanceMethod ({ cls := "HallPlanModel", name := "feePercent", desc := "(I)I" } : Jvm.MethodName)) ∈ lw_all := lw_g (lw_at lw_m11 57 rfl) rfl
theorem q2599 : (Jvm.Cond.selects "HallPlanModel" ({ cls := "HallPlanModel", name := "feePercent", desc := "(I)I" } : Jvm.MethodName) ({ cls := "HallPlanModel", name := "feePercent", desc := "(I)I" } : Jvm.MethodName)) ∈ lw_all := lw_g (lw_at lw_m11 58 rfl) rfl
theorem q2600 : (Jvm.Cond.code ({ cls := "HallPlanModel", name := "feePercent", desc := "(I)I" } : Jvm.MethodName) prog_17_method_96_code (2 : Nat) (Option.some Jvm.ClassFile.FieldType.int)) ∈ lw_all := lw_g (lw_at lw_m11 59 rfl) rfl
theorem q2601 : (Jvm.Cond.constantLong "HallPlanModel" (383 : Nat) (60 : Int64)) ∈ lw_all := lw_g (lw_at lw_m11 60 rfl) rfl
theorem q2603 : (Jvm.Cond.instanceMethod ({ cls := "HallPlanModel", name := "now", desc := "()I" } : Jvm.MethodName)) ∈ lw_all := lw_g (lw_at lw_m11 62 rfl) rfl
theorem q2604 : (Jvm.Cond.selects "HallPlanModel" ({ cls := "HallPlanModel", name := "now", desc := "()I" } : Jvm.MethodName) ({ cls := "HallPlanModel", name := "now", desc := "()I" } : Jvm.MethodName)) ∈ lw_all := lw_g (lw_at lw_m11 63 rfl) rfl
theorem q2605 : (Jvm.Cond.code ({ cls := "HallPlanModel", name := "now", desc := "()I" } : Jvm.MethodName) prog_17_method_97_code (1 : Nat) (Option.some Jvm.ClassFile.FieldType.int)) ∈ lw_all := lw_g (lw_at lw_m11 64 rfl) rfl
theorem q2607 : (Jvm.Cond.instanceMethod ({ cls := "HallPlanModel", name := "bookingCount", desc := "()I" } : Jvm.MethodName)) ∈ lw_all := lw_g (lw_at lw_m11 66 rfl) rfl
theorem q2608 : (Jvm.Cond.selects "HallPlanModel" ({ cls := "HallPlanModel", name := "bookingCount", desc := "()I" } : Jvm.MethodName) ({ cls := "HallPlanModel", name := "bookingCount", desc := "()I" } : Jvm.MethodName)) ∈ lw_all := lw_g (lw_at lw_m11 67 rfl) rfl
theorem q2609 : (Jvm.Cond.code ({ cls := "HallPlanModel", name := "bookingCount", desc := "()I" } : Jvm.MethodName) prog_17_method_98_code (1 : Nat) (Option.some Jvm.ClassFile.FieldType.int)) ∈ lw_all := lw_g (lw_at lw_m11 68 rfl) rfl
theorem q2611 : (Jvm.Cond.instanceMethod ({ cls := "HallPlanModel", name := "booking", desc := "(II)I" } : Jvm.MethodName)) ∈ lw_all := lw_g (lw_at lw_m11 70 rfl) rfl
theorem q2612 : (Jvm.Cond.selects "HallPlanModel" ({ cls := "HallPlanModel", name := "booking", desc := "(II)I" } : Jvm.MethodName) ({ cls := "HallPlanModel", name := "booking", desc := "(II)I" } : Jvm.MethodName)) ∈ lw_all := lw_g (lw_at lw_m11 71 rfl) rfl
theorem q2613 : (Jvm.Cond.code ({ cls := "HallPlanModel", name := "booking", desc := "(II)I" } : Jvm.MethodName) prog_17_method_99_code (3 : Nat) (Option.some Jvm.ClassFile.FieldType.int)) ∈ lw_all := lw_g (lw_at lw_m11 72 rfl) rfl
theorem q2615 : (Jvm.Cond.instanceMethod ({ cls := "HallPlanModel", name := "bookedNeed", desc := "(II)I" } : Jvm.MethodName)) ∈ lw_all := lw_g (lw_at lw_m11 74 rfl) rfl
theorem q2616 : (Jvm.Cond.selects "HallPlanModel" ({ cls := "HallPlanModel", name := "bookedNeed", desc := "(II)I" } : Jvm.MethodName) ({ cls := "HallPlanModel", name := "bookedNeed", desc := "(II)I" } : Jvm.MethodName)) ∈ lw_all := lw_g (lw_at lw_m11 75 rfl) rfl
theorem q2617 : (Jvm.Cond.code ({ cls := "HallPlanModel", name := "bookedNeed", desc := "(II)I" } : Jvm.MethodName) prog_17_method_100_code (3 : Nat) (Option.some Jvm.ClassFile.FieldType.int)) ∈ lw_all := lw_g (lw_at lw_m11 76 rfl) rfl
theorem q2619 : (Jvm.Cond.instanceMethod ({ cls := "HallPlanModel", name := "requestCount", desc := "()I" } : Jvm.MethodName)) ∈ lw_all := lw_g (lw_at lw_m11 78 rfl) rfl
theorem q2620 : (Jvm.Cond.selects "HallPlanModel" ({ cls := "HallPlanModel", name := "requestCount", desc := "()I" } : Jvm.MethodName) ({ cls := "HallPlanModel", name := "requestCount", desc := "()I" } : Jvm.MethodName)) ∈ lw_all := lw_g (lw_at lw_m11 79 rfl) rfl
theorem q2621 : (Jvm.Cond.code ({ cls := "HallPlanModel", name := "requestCount", desc := "()I" } : Jvm.MethodName) prog_17_method_101_code (1 : Nat) (Option.some Jvm.ClassFile.FieldType.int)) ∈ lw_all := lw_g (lw_at lw_m11 80 rfl) rfl
theorem q2623 : (Jvm.Cond.instanceMethod ({ cls := "HallPlanModel", name := "request", desc := "(II)I" } : Jvm.MethodName)) ∈ lw_all := lw_g (lw_at lw_m11 82 rfl) rfl
theorem q2624 : (Jvm.Cond.selects "HallPlanModel" ({ cls := "HallPlanModel", name := "request", desc := "(II)I" } : Jvm.MethodName) ({ cls := "HallPlanModel", name := "request", desc := "(II)I" } : Jvm.MethodName)) ∈ lw_all := lw_g (lw_at lw_m11 83 rfl) rfl
theorem q2625 : (Jvm.Cond.code ({ cls := "HallPlanModel", name := "request", desc := "(II)I" } : Jvm.MethodName) prog_17_method_102_code (4 : Nat) (Option.some Jvm.ClassFile.FieldType.int)) ∈ lw_all := lw_g (lw_at lw_m11 84 rfl) rfl
theorem q2627 : (Jvm.Cond.instanceMethod ({ cls := "HallPlanModel", name := "revenue", desc := "()I" } : Jvm.MethodName)) ∈ lw_all := lw_g (lw_at lw_m11 86 rfl) rfl
theorem q2628 : (Jvm.Cond.selects "HallPlanModel" ({ cls := "HallPlanModel", name := "revenue", desc := "()I" } : Jvm.MethodName) ({ cls := "HallPlanModel", name := "revenue", desc := "()I" } : Jvm.MethodName)) ∈ lw_all := lw_g (lw_at lw_m11 87 rfl) rfl
theorem q2629 : (Jvm.Cond.code ({ cls := "HallPlanModel", name := "revenue", desc := "()I" } : Jvm.MethodName) prog_17_method_103_code (3 : Nat) (Option.some Jvm.ClassFile.FieldType.int)) ∈ lw_all := lw_g (lw_at lw_m11 88 rfl) rfl
theorem q2631 : (Jvm.Cond.instanceMethod ({ cls := "HallPlanModel", name := "problem", desc := "(II)I" } : Jvm.MethodName)) ∈ lw_all := lw_g (lw_at lw_m11 90 rfl) rfl
theorem q2632 : (Jvm.Cond.selects "HallPlanModel" ({ cls := "HallPlanModel", name := "problem", desc := "(II)I" } : Jvm.MethodName) ({ cls := "HallPlanModel", name := "problem", desc := "(II)I" } : Jvm.MethodName)) ∈ lw_all := lw_g (lw_at lw_m11 91 rfl) rfl
theorem q2633 : (Jvm.Cond.code ({ cls := "HallPlanModel", name := "problem", desc := "(II)I" } : Jvm.MethodName) prog_17_method_105_code (3 : Nat) (Option.some Jvm.ClassFile.FieldType.int)) ∈ lw_all := lw_g (lw_at lw_m11 92 rfl) rfl
theorem q2634 : (Jvm.Cond.methodLink "HallPlanModel" (385 : Nat) ({ cls := "HallPlanModel", name := "whyNotDraft", desc := "(II)I" } : Jvm.MethodName)) ∈ lw_all := lw_g (lw_at lw_m11 93 rfl) rfl
theorem q2635 : (Jvm.Cond.privateMethod ({ cls := "HallPlanModel", name := "whyNotDraft", desc := "(II)I" } : Jvm.MethodName)) ∈ lw_tbl := lw_at lw_m11 94 rfl
theorem q2636 : (Jvm.Cond.instanceMethod ({ cls := "HallPlanModel", name := "whyNotDraft", desc := "(II)I" } : Jvm.MethodName)) ∈ lw_all := lw_g (lw_at lw_m11 95 rfl) rfl
theorem q2637 : (Jvm.Cond.code ({ cls := "HallPlanModel", name := "whyNotDraft", desc := "(II)I" } : Jvm.MethodName) prog_17_method_104_code (4 : Nat) (Option.some Jvm.ClassFile.FieldType.int)) ∈ lw_all := lw_g (lw_at lw_m11 96 rfl) rfl
theorem q2639 : (Jvm.Cond.instanceMethod ({ cls := "HallPlanModel", name := "price", desc := "(II)I" } : Jvm.MethodName)) ∈ lw_all := lw_g (lw_at lw_m11 98 rfl) rfl
theorem q2640 : (Jvm.Cond.selects "HallPlanModel" ({ cls := "HallPlanModel", name := "price", desc := "(II)I" } : Jvm.MethodName) ({ cls := "HallPlanModel", name := "price", desc := "(II)I" } : Jvm.MethodName)) ∈ lw_all := lw_g (lw_at lw_m11 99 rfl) rfl
theorem q2641 : (Jvm.Cond.code ({ cls := "HallPlanModel", name := "price", desc := "(II)I" } : Jvm.MethodName) prog_17_method_106_code (3 : Nat) (Option.some Jvm.ClassFile.FieldType.int)) ∈ lw_all := lw_g (lw_at lw_m11 100 rfl) rfl
theorem q2643 : (Jvm.Cond.instanceMethod ({ cls := "HallPlanModel", name := "earliest", desc := "(II)I" } : Jvm.MethodName)) ∈ lw_all := lw_g (lw_at lw_m11 102 rfl) rfl
theorem q2644 : (Jvm.Cond.selects "HallPlanModel" ({ cls := "HallPlanModel", name := "earliest", desc := "(II)I" } : Jvm.MethodName) ({ cls := "HallPlanModel", name := "earliest", desc := "(II)I" } : Jvm.MethodName)) ∈ lw_all := lw_g (lw_at lw_m11 103 rfl) rfl
theorem q2645 : (Jvm.Cond.code ({ cls := "HallPlanModel", name := "earliest", desc := "(II)I" } : Jvm.MethodName) prog_17_method_108_code (4 : Nat) (Option.some Jvm.ClassFile.FieldType.int)) ∈ lw_all := lw_g (lw_at lw_m11 104 rfl) rfl
theorem q2646 : (Jvm.Cond.methodLink "HallPlanModel" (388 : Nat) ({ cls := "HallPlanModel", name := "earliestIn", desc := "(II)I" } : Jvm.MethodName)) ∈ lw_all := lw_g (lw_at lw_m11 105 rfl) rfl
theorem q2647 : (Jvm.Cond.privateMethod ({ cls := "HallPlanModel", name := "earliestIn", desc := "(II)I" } : Jvm.MethodName)) ∈ lw_tbl := lw_at lw_m11 106 rfl
theorem q2648 : (Jvm.Cond.instanceMethod ({ cls := "HallPlanModel", name := "earliestIn", desc := "(II)I" } : Jvm.MethodName)) ∈ lw_all := lw_g (lw_at lw_m11 107 rfl) rfl
theorem q2649 : (Jvm.Cond.code ({ cls := "HallPlanModel", name := "earliestIn", desc := "(II)I" } : Jvm.MethodName) prog_17_method_107_code (4 : Nat) (Option.some Jvm.ClassFile.FieldType.int)) ∈ lw_all := lw_g (lw_at lw_m11 108 rfl) rfl
theorem q2651 : (Jvm.Cond.instanceMethod ({ cls := "HallPlanModel", name := "earliestHall", desc := "(I)I" } : Jvm.MethodName)) ∈ lw_all := lw_g (lw_at lw_m11 110 rfl) rfl
theorem q2652 : (Jvm.Cond.selects "HallPlanModel" ({ cls := "HallPlanModel", name := "earliestHall", desc := "(I)I" } : Jvm.MethodName) ({ cls := "HallPlanModel", name := "earliestHall", desc := "(I)I" } : Jvm.MethodName)) ∈ lw_all := lw_g (lw_at lw_m11 111 rfl) rfl
theorem q2653 : (Jvm.Cond.code ({ cls := "HallPlanModel", name := "earliestHall", desc := "(I)I" } : Jvm.MethodName) prog_17_method_109_code (6 : Nat) (Option.some Jvm.ClassFile.FieldType.int)) ∈ lw_all := lw_g (lw_at lw_m11 112 rfl) rfl
theorem q2655 : (Jvm.Cond.instanceMethod ({ cls := "HallPlanModel", name := "conflicts", desc := "(II)J" } : Jvm.MethodName)) ∈ lw_all := lw_g (lw_at lw_m11 114 rfl) rfl
theorem q2656 : (Jvm.Cond.selects "HallPlanModel" ({ cls := "HallPlanModel", name := "conflicts", desc := "(II)J" } : Jvm.MethodName) ({ cls := "HallPlanModel", name := "conflicts", desc := "(II)J" } : Jvm.MethodName)) ∈ lw_all := lw_g (lw_at lw_m11 115 rfl) rfl
theorem q2657 : (Jvm.Cond.code ({ cls := "HallPlanModel", name := "conflicts", desc := "(II)J" } : Jvm.MethodName) prog_17_method_110_code (6 : Nat) (Option.some Jvm.ClassFile.FieldType.long)) ∈ lw_all := lw_g (lw_at lw_m11 116 rfl) rfl
theorem q2659 : (Jvm.Cond.instanceMethod ({ cls := "HallPlanModel", name := "moveProblem", desc := "(III)I" } : Jvm.MethodName)) ∈ lw_all := lw_g (lw_at lw_m11 118 rfl) rfl
theorem q2660 : (Jvm.Cond.selects "HallPlanModel" ({ cls := "HallPlanModel", name := "moveProblem", desc := "(III)I" } : Jvm.MethodName) ({ cls := "HallPlanModel", name := "moveProblem", desc := "(III)I" } : Jvm.MethodName)) ∈ lw_all := lw_g (lw_at lw_m11 119 rfl) rfl
theorem q2661 : (Jvm.Cond.code ({ cls := "HallPlanModel", name := "moveProblem", desc := "(III)I" } : Jvm.MethodName) prog_17_method_111_code (4 : Nat) (Option.some Jvm.ClassFile.FieldType.int)) ∈ lw_all := lw_g (lw_at lw_m11 120 rfl) rfl
theorem q2663 : (Jvm.Cond.instanceMethod ({ cls := "HallPlanModel", name := "chain", desc := "(IIII)I" } : Jvm.MethodName)) ∈ lw_all := lw_g (lw_at lw_m11 122 rfl) rfl
theorem q2664 : (Jvm.Cond.selects "HallPlanModel" ({ cls := "HallPlanModel", name := "chain", desc := "(IIII)I" } : Jvm.MethodName) ({ cls := "HallPlanModel", name := "chain", desc := "(IIII)I" } : Jvm.MethodName)) ∈ lw_all := lw_g (lw_at lw_m11 123 rfl) rfl
theorem q2665 : (Jvm.Cond.code ({ cls := "HallPlanModel", name := "chain", desc := "(IIII)I" } : Jvm.MethodName) prog_17_method_112_code (5 : Nat) (Option.some Jvm.ClassFile.FieldType.int)) ∈ lw_all := lw_g (lw_at lw_m11 124 rfl) rfl
theorem q2666 : (Jvm.Cond.constantLong "HallPlanModel" (391 : Nat) (3 : Int64)) ∈ lw_all := lw_g (lw_at lw_m11 125 rfl) rfl
theorem q2668 : (Jvm.Cond.instanceMethod ({ cls := "HallPlanModel", name := "swapProblem", desc := "(II)I" } : Jvm.MethodName)) ∈ lw_all := lw_g (lw_at lw_m11 127 rfl) rfl
theorem q2669 : (Jvm.Cond.selects "HallPlanModel" ({ cls := "HallPlanModel", name := "swapProblem", desc := "(II)I" } : Jvm.MethodName) ({ cls := "HallPlanModel", name := "swapProblem", desc := "(II)I" } : Jvm.MethodName)) ∈ lw_all := lw_g (lw_at lw_m11 128 rfl) rfl
theorem q2670 : (Jvm.Cond.code ({ cls := "HallPlanModel", name := "swapProblem", desc := "(II)I" } : Jvm.MethodName) prog_17_method_113_code (3 : Nat) (Option.some Jvm.ClassFile.FieldType.int)) ∈ lw_all := lw_g (lw_at lw_m11 129 rfl) rfl
theorem q2672 : (Jvm.Cond.instanceMethod ({ cls := "HallPlanModel", name := "feeNow", desc := "(I)I" } : Jvm.MethodName)) ∈ lw_all := lw_g (lw_at lw_m11 131 rfl) rfl
theorem q2673 : (Jvm.Cond.selects "HallPlanModel" ({ cls := "HallPlanModel", name := "feeNow", desc := "(I)I" } : Jvm.MethodName) ({ cls := "HallPlanModel", name := "feeNow", desc := "(I)I" } : Jvm.MethodName)) ∈ lw_all := lw_g (lw_at lw_m11 132 rfl) rfl
theorem q2674 : (Jvm.Cond.code ({ cls := "HallPlanModel", name := "feeNow", desc := "(I)I" } : Jvm.MethodName) prog_17_method_114_code (2 : Nat) (Option.some Jvm.ClassFile.FieldType.int)) ∈ lw_all := lw_g (lw_at lw_m11 133 rfl) rfl
theorem q2676 : (Jvm.Cond.instanceMethod ({ cls := "HallPlanModel", name := "inUse", desc := "(II)I" } : Jvm.MethodName)) ∈ lw_all := lw_g (lw_at lw_m11 135 rfl) rfl
theorem q2677 : (Jvm.Cond.selects "HallPlanModel" ({ cls := "HallPlanModel", name := "inUse", desc := "(II)I" } : Jvm.MethodName) ({ cls := "HallPlanModel", name := "inUse", desc := "(II)I" } : Jvm.MethodName)) ∈ lw_all := lw_g (lw_at lw_m11 136 rfl) rfl
theorem q2678 : (Jvm.Cond.code ({ cls := "HallPlanModel", name := "inUse", desc := "(II)I" } : Jvm.MethodName) prog_17_method_115_code (3 : Nat) (Option.some Jvm.ClassFile.FieldType.int)) ∈ lw_all := lw_g (lw_at lw_m11 137 rfl) rfl
theorem q2679 : (Jvm.Cond.methodLink "HallPlanModel" (252 : Nat) ({ cls := "HallPlanModel", name := "useAt", desc := "(II)I" } : Jvm.MethodName)) ∈ lw_all := lw_g (lw_at lw_m11 138 rfl) rfl
theorem q2680 : (Jvm.Cond.privateMethod ({ cls := "HallPlanModel", name := "useAt", desc := "(II)I" } : Jvm.MethodName)) ∈ lw_tbl := lw_at lw_m11 139 rfl
theorem q2681 : (Jvm.Cond.instanceMethod ({ cls := "HallPlanModel", name := "useAt", desc := "(II)I" } : Jvm.MethodName)) ∈ lw_all := lw_g (lw_at lw_m11 140 rfl) rfl
theorem q2682 : (Jvm.Cond.code ({ cls := "HallPlanModel", name := "useAt", desc := "(II)I" } : Jvm.MethodName) prog_17_method_57_code (7 : Nat) (Option.some Jvm.ClassFile.FieldType.int)) ∈ lw_all := lw_g (lw_at lw_m11 141 rfl) rfl
theorem q2684 : (Jvm.Cond.instanceMethod ({ cls := "HallPlanModel", name := "peak", desc := "(II)I" } : Jvm.MethodName)) ∈ lw_all := lw_g (lw_at lw_m11 143 rfl) rfl
theorem q2685 : (Jvm.Cond.selects "HallPlanModel" ({ cls := "HallPlanModel", name := "peak", desc := "(II)I" } : Jvm.MethodName) ({ cls := "HallPlanModel", name := "peak", desc := "(II)I" } : Jvm.MethodName)) ∈ lw_all := lw_g (lw_at lw_m11 144 rfl) rfl
theorem q2686 : (Jvm.Cond.code ({ cls := "HallPlanModel", name := "peak", desc := "(II)I" } : Jvm.MethodName) prog_17_method_116_code (3 : Nat) (Option.some Jvm.ClassFile.FieldType.int)) ∈ lw_all := lw_g (lw_at lw_m11 145 rfl) rfl
theorem q2687 : (Jvm.Cond.constantLong "HallPlanModel" (393 : Nat) (59 : Int64)) ∈ lw_all := lw_g (lw_at lw_m11 146 rfl) rfl
theorem q2688 : (Jvm.Cond.methodLink "HallPlanModel" (395 : Nat) ({ cls := "HallPlanModel", name := "peakIn", desc := "(III)I" } : Jvm.MethodName)) ∈ lw_all := lw_g (lw_at lw_m11 147 rfl) rfl
theorem q2689 : (Jvm.Cond.privateMethod ({ cls := "HallPlanModel", name := "peakIn", desc := "(III)I" } : Jvm.MethodName)) ∈ lw_tbl := lw_at lw_m11 148 rfl
theorem q2690 : (Jvm.Cond.instanceMethod ({ cls := "HallPlanModel", name := "peakIn", desc := "(III)I" } : Jvm.MethodName)) ∈ lw_all := lw_g (lw_at lw_m11 149 rfl) rfl
theorem q2691 : (Jvm.Cond.code ({ cls := "HallPlanModel", name := "peakIn", desc := "(III)I" } : Jvm.MethodName) prog_17_method_58_code (7 : Nat) (Option.some Jvm.ClassFile.FieldType.int)) ∈ lw_all := lw_g (lw_at lw_m11 150 rfl) rfl
theorem q2693 : (Jvm.Cond.instanceMethod ({ cls := "HallPlanModel", name := "occupancy", desc := "(II)I" } : Jvm.MethodName)) ∈ lw_all := lw_g (lw_at lw_m11 152 rfl) rfl
theorem q2694 : (Jvm.Cond.selects "HallPlanModel" ({ cls := "HallPlanModel", name := "occupancy", desc := "(II)I" } : Jvm.MethodName) ({ cls := "HallPlanModel", name := "occupancy", desc := "(II)I" } : Jvm.MethodName)) ∈ lw_all := lw_g (lw_at lw_m11 153 rfl) rfl
theorem q2695 : (Jvm.Cond.code ({ cls := "HallPlanModel", name := "occupancy", desc := "(II)I" } : Jvm.MethodName) prog_17_method_119_code (5 : Nat) (Option.some Jvm.ClassFile.FieldType.int)) ∈ lw_all := lw_g (lw_at lw_m11 154 rfl) rfl
theorem q2696 : (Jvm.Cond.methodLink "HallPlanModel" (398 : Nat) ({ cls := "HallPlanModel", name := "whyNotDay", desc := "(II)I" } : Jvm.MethodName)) ∈ lw_all := lw_g (lw_at lw_m11 155 rfl) rfl
theorem q2697 : (Jvm.Cond.privateMethod ({ cls := "HallPlanModel", name := "whyNotDay", desc := "(II)I" } : Jvm.MethodName)) ∈ lw_tbl := lw_at lw_m11 156 rfl
theorem q2698 : (Jvm.Cond.instanceMethod ({ cls := "HallPlanModel", name := "whyNotDay", desc := "(II)I" } : Jvm.MethodName)) ∈ lw_all := lw_g (lw_at lw_m11 157 rfl) rfl
theorem q2699 : (Jvm.Cond.code ({ cls := "HallPlanModel", name := "whyNotDay", desc := "(II)I" } : Jvm.MethodName) prog_17_method_117_code (3 : Nat) (Option.some Jvm.ClassFile.FieldType.int)) ∈ lw_all := lw_g (lw_at lw_m11 158 rfl) rfl
theorem q2700 : (Jvm.Cond.methodLink "HallPlanModel" (401 : Nat) ({ cls := "HallPlanModel", name := "isOn", desc := "(III)Z" } : Jvm.MethodName)) ∈ lw_all := lw_g (lw_at lw_m11 159 rfl) rfl
theorem q2701 : (Jvm.Cond.privateMethod ({ cls := "HallPlanModel", name := "isOn", desc := "(III)Z" } : Jvm.MethodName)) ∈ lw_tbl := lw_at lw_m11 160 rfl
theorem q2702 : (Jvm.Cond.instanceMethod ({ cls := "HallPlanModel", name := "isOn", desc := "(III)Z" } : Jvm.MethodName)) ∈ lw_all := lw_g (lw_at lw_m11 161 rfl) rfl
theorem q2703 : (Jvm.Cond.code ({ cls := "HallPlanModel", name := "isOn", desc := "(III)Z" } : Jvm.MethodName) prog_17_method_118_code (4 : Nat) (Option.some Jvm.ClassFile.FieldType.boolean)) ∈ lw_all := lw_g (lw_at lw_m11 162 rfl) rfl
theorem q2705 : (Jvm.Cond.instanceMethod ({ cls := "HallPlanModel", name := "setupSum", desc := "(II)I" } : Jvm.MethodName)) ∈ lw_all := lw_g (lw_at lw_m11 164 rfl) rfl
theorem q2706 : (Jvm.Cond.selects "HallPlanModel" ({ cls := "HallPlanModel", name := "setupSum", desc := "(II)I" } : Jvm.MethodName) ({ cls := "HallPlanModel", name := "setupSum", desc := "(II)I" } : Jvm.MethodName)) ∈ lw_all := lw_g (lw_at lw_m11 165 rfl) rfl
theorem q2707 : (Jvm.Cond.code ({ cls := "HallPlanModel", name := "setupSum", desc := "(II)I" } : Jvm.MethodName) prog_17_method_121_code (6 : Nat) (Option.some Jvm.ClassFile.FieldType.int)) ∈ lw_all := lw_g (lw_at lw_m11 166 rfl) rfl
theorem q2708 : (Jvm.Cond.methodLink "HallPlanModel" (404 : Nat) ({ cls := "HallPlanModel", name := "nextIn", desc := "(II)I" } : Jvm.MethodName)) ∈ lw_all := lw_g (lw_at lw_m11 167 rfl) rfl
theorem q2709 : (Jvm.Cond.privateMethod ({ cls := "HallPlanModel", name := "nextIn", desc := "(II)I" } : Jvm.MethodName)) ∈ lw_tbl := lw_at lw_m11 168 rfl
theorem q2710 : (Jvm.Cond.instanceMethod ({ cls := "HallPlanModel", name := "nextIn", desc := "(II)I" } : Jvm.MethodName)) ∈ lw_all := lw_g (lw_at lw_m11 169 rfl) rfl
theorem q2711 : (Jvm.Cond.code ({ cls := "HallPlanModel", name := "nextIn", desc := "(II)I" } : Jvm.MethodName) prog_17_method_120_code (6 : Nat) (Option.some Jvm.ClassFile.FieldType.int)) ∈ lw_all := lw_g (lw_at lw_m11 170 rfl) rfl
theorem q2713 : (Jvm.Cond.instanceMethod ({ cls := "HallPlanModel", name := "leastSetup", desc := "(II)I" } : Jvm.MethodName)) ∈ lw_all := lw_g (lw_at lw_m11 172 rfl) rfl
theorem q2714 : (Jvm.Cond.selects "HallPlanModel" ({ cls := "HallPlanModel", name := "leastSetup", desc := "(II)I" } : Jvm.MethodName) ({ cls := "HallPlanModel", name := "leastSetup", desc := "(II)I" } : Jvm.MethodName)) ∈ lw_all := lw_g (lw_at lw_m11 173 rfl) rfl
theorem q2715 : (Jvm.Cond.code ({ cls := "HallPlanModel", name := "leastSetup", desc := "(II)I" } : Jvm.MethodName) prog_17_method_124_code (8 : Nat) (Option.some Jvm.ClassFile.FieldType.int)) ∈ lw_all := lw_g (lw_at lw_m11 174 rfl) rfl
theorem q2716 : (Jvm.Cond.methodLink "HallPlanModel" (410 : Nat) ({ cls := "HallPlanModel", name := "onDay", desc := "(II)I" } : Jvm.MethodName)) ∈ lw_all := lw_g (lw_at lw_m11 175 rfl) rfl
theorem q2717 : (Jvm.Cond.privateMethod ({ cls := "HallPlanModel", name := "onDay", desc := "(II)I" } : Jvm.MethodName)) ∈ lw_tbl := lw_at lw_m11 176 rfl
theorem q2718 : (Jvm.Cond.instanceMethod ({ cls := "HallPlanModel", name := "onDay", desc := "(II)I" } : Jvm.MethodName)) ∈ lw_all := lw_g (lw_at lw_m11 177 rfl) rfl
theorem q2719 : (Jvm.Cond.code ({ cls := "HallPlanModel", name := "onDay", desc := "(II)I" } : Jvm.MethodName) prog_17_method_122_code (5 : Nat) (Option.some Jvm.ClassFile.FieldType.int)) ∈ lw_all := lw_g (lw_at lw_m11 178 rfl) rfl
theorem q2720 : (Jvm.Cond.constant "HallPlanModel" (409 : Nat) (2147483647 : Int32)) ∈ lw_all := lw_g (lw_at lw_m11 179 rfl) rfl
theorem q2721 : (Jvm.Cond.methodLink "HallPlanModel" (413 : Nat) ({ cls := "HallPlanModel", name := "leastOf", desc := "(III)I" } : Jvm.MethodName)) ∈ lw_all := lw_g (lw_at lw_m11 180 rfl) rfl
theorem q2722 : (Jvm.Cond.privateMethod ({ cls := "HallPlanModel", name := "leastOf", desc := "(III)I" } : Jvm.MethodName)) ∈ lw_tbl := lw_at lw_m11 181 rfl
theorem q2723 : (Jvm.Cond.instanceMethod ({ cls := "HallPlanModel", name := "leastOf", desc := "(III)I" } : Jvm.MethodName)) ∈ lw_all := lw_g (lw_at lw_m11 182 rfl) rfl
theorem q2724 : (Jvm.Cond.code ({ cls := "HallPlanModel", name := "leastOf", desc := "(III)I" } : Jvm.MethodName) prog_17_method_123_code (7 : Nat) (Option.some Jvm.ClassFile.FieldType.int)) ∈ lw_all := lw_g (lw_at lw_m11 183 rfl) rfl
theorem q2726 : (Jvm.Cond.instanceMethod ({ cls := "HallPlanModel", name := "nextBooking", desc := "(II)I" } : Jvm.MethodName)) ∈ lw_all := lw_g (lw_at lw_m11 185 rfl) rfl
theorem q2727 : (Jvm.Cond.selects "HallPlanModel" ({ cls := "HallPlanModel", name := "nextBooking", desc := "(II)I" } : Jvm.MethodName) ({ cls := "HallPlanModel", name := "nextBooking", desc := "(II)I" } : Jvm.MethodName)) ∈ lw_all := lw_g (lw_at lw_m11 186 rfl) rfl
theorem q2728 : (Jvm.Cond.code ({ cls := "HallPlanModel", name := "nextBooking", desc := "(II)I" } : Jvm.MethodName) prog_17_method_125_code (4 : Nat) (Option.some Jvm.ClassFile.FieldType.int)) ∈ lw_all := lw_g (lw_at lw_m11 187 rfl) rfl
theorem q2730 : (Jvm.Cond.instanceMethod ({ cls := "HallPlanModel", name := "undo", desc := "()I" } : Jvm.MethodName)) ∈ lw_all := lw_g (lw_at lw_m11 189 rfl) rfl
theorem q2731 : (Jvm.Cond.selects "HallPlanModel" ({ cls := "HallPlanModel", name := "undo", desc := "()I" } : Jvm.MethodName) ({ cls := "HallPlanModel", name := "undo", desc := "()I" } : Jvm.MethodName)) ∈ lw_all := lw_g (lw_at lw_m11 190 rfl) rfl
theorem q2732 : (Jvm.Cond.code ({ cls := "HallPlanModel", name := "undo", desc := "()I" } : Jvm.MethodName) prog_17_method_126_code (2 : Nat) (Option.some Jvm.ClassFile.FieldType.int)) ∈ lw_all := lw_g (lw_at lw_m11 191 rfl) rfl
theorem q2734 : (Jvm.Cond.instanceMethod ({ cls := "HallPlanModel", name := "undoCount", desc := "()I" } : Jvm.MethodName)) ∈ lw_all := lw_g (lw_at lw_m11 193 rfl) rfl
theorem q2735 : (Jvm.Cond.selects "HallPlanModel" ({ cls := "HallPlanModel", name := "undoCount", desc := "()I" } : Jvm.MethodName) ({ cls := "HallPlanModel", name := "undoCount", desc := "()I" } : Jvm.MethodName)) ∈ lw_all := lw_g (lw_at lw_m11 194 rfl) rfl
theorem q2736 : (Jvm.Cond.code ({ cls := "HallPlanModel", name := "undoCount", desc := "()I" } : Jvm.MethodName) prog_17_method_127_code (1 : Nat) (Option.some Jvm.ClassFile.FieldType.int)) ∈ lw_all := lw_g (lw_at lw_m11 195 rfl) rfl
theorem q2738 : (Jvm.Cond.instanceMethod ({ cls := "HallPlanModel", name := "save", desc := "()I" } : Jvm.MethodName)) ∈ lw_all := lw_g (lw_at lw_m11 197 rfl) rfl
theorem q2739 : (Jvm.Cond.selects "HallPlanModel" ({ cls := "HallPlanModel", name := "save", desc := "()I" } : Jvm.MethodName) ({ cls := "HallPlanModel", name := "save", desc := "()I" } : Jvm.MethodName)) ∈ lw_all := lw_g (lw_at lw_m11 198 rfl) rfl
theorem q2740 : (Jvm.Cond.code ({ cls := "HallPlanModel", name := "save", desc := "()I" } : Jvm.MethodName) prog_17_method_128_code (2 : Nat) (Option.some Jvm.ClassFile.FieldType.int)) ∈ lw_all := lw_g (lw_at lw_m11 199 rfl) rfl
theorem q2742 : (Jvm.Cond.instanceMethod ({ cls := "HallPlanModel", name := "restore", desc := "()I" } : Jvm.MethodName)) ∈ lw_all := lw_g (lw_at lw_m11 201 rfl) rfl
theorem q2743 : (Jvm.Cond.selects "HallPlanModel" ({ cls := "HallPlanModel", name := "restore", desc := "()I" } : Jvm.MethodName) ({ cls := "HallPlanModel", name := "restore", desc := "()I" } : Jvm.MethodName)) ∈ lw_all := lw_g (lw_at lw_m11 202 rfl) rfl
theorem q2744 : (Jvm.Cond.code ({ cls := "HallPlanModel", name := "restore", desc := "()I" } : Jvm.MethodName) prog_17_method_129_code (2 : Nat) (Option.some Jvm.ClassFile.FieldType.int)) ∈ lw_all := lw_g (lw_at lw_m11 203 rfl) rfl
theorem q2769 : (Jvm.Cond.castable "HallPlanModel" "java/lang/Object") ∈ lw_tbl := lw_at lw_m11 228 rfl
theorem in_X5 : ∀ w ∈ wsX50, w ∈ lw_all := lw_in wsX50 [2156, 2158, 2160, 2162, 2164, 2166, 2168, 2170, 2172, 2174, 2176, 2178, 2180, 2182, 2184, 2186, 2188, 2190, 2192, 2194, 2196, 2198, 2200, 2202, 2204, 2206, 2208] (by decide +kernel) (by decide +kernel)

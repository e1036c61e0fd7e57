/-! HallPlan$Setup -/
set_option maxRecDepth 100000
def RX2 : String := "HallPlan$Setup"
def TX2 : u_T := fun k => match k with
  | 0 => ("HallPlan$Setup", "halls", "Ljava/util/List;", true)
  | 1 => ("HallPlan$Setup", "kinds", "Ljava/util/List;", true)
  | 2 => ("HallPlan$Setup", "between", "[[I", true)
  | 3 => ("HallPlan$Setup", "closures", "[LHallPlan$Closure;", true)
  | 4 => ("HallPlan$Setup", "weeklies", "[LHallPlan$Closure;", true)
  | 5 => ("HallPlan$Setup", "fees", "[LHallPlan$Fee;", true)
  | 6 => ("HallPlan$Setup", "feeDays", "[I", true)
  | 7 => ("HallPlan$Setup", "types", "I", false)
  | 8 => ("HallPlan$Setup", "closed", "I", false)
  | 9 => ("HallPlan$Setup", "weekly", "I", false)
  | 10 => ("HallPlan$Setup", "feeCount", "I", false)
  | _ => ("HallPlan$Setup", "weekend", "I", false)
def tyX2 : Nat → FieldType := fun k => match k with
  | 0 => .object "java/util/List"
  | 1 => .object "java/util/List"
  | 2 => .array (.array .int)
  | 3 => .array (.object "HallPlan$Closure")
  | 4 => .array (.object "HallPlan$Closure")
  | 5 => .array (.object "HallPlan$Fee")
  | 6 => .array .int
  | 7 => .int
  | 8 => .int
  | 9 => .int
  | 10 => .int
  | _ => .int
abbrev wsX20 : List Cond := u_ws RX2 TX2 12
theorem nmX2 : ∀ a, a < 12 → ∀ b, b < 12 → a ≠ b → (TX2 a).2.1 ≠ (TX2 b).2.1 := by decide +kernel
theorem tyX2_ok : ∀ k, k < 12 → parseFieldDescriptor (TX2 k).2.2.1 = some (tyX2 k) := by decide +kernel
abbrev cX2_init : ByteArray := prog_13_method_1_code
def yX2_init : MethodName := ⟨RX2, "<init>", "()V"⟩
def dkwX2_init_3 : List UInt8 := [177]
abbrev dktX2_init_3 : List UInt8 := dkwX2_init_3 ++ []
def dkwX2_init_2 : List UInt8 := [42, 16, 8, 189, 0, 26, 181, 0, 32, 42, 7, 189, 0, 35, 181, 0, 37, 42, 7, 188, 10, 181, 0, 41]
abbrev dktX2_init_2 : List UInt8 := dkwX2_init_2 ++ dktX2_init_3
def dkwX2_init_1 : List UInt8 := [181, 0, 18, 42, 16, 6, 16, 6, 197, 0, 21, 2, 181, 0, 23, 42, 16, 16, 189, 0, 26, 181, 0, 28]
abbrev dktX2_init_1 : List UInt8 := dkwX2_init_1 ++ dktX2_init_2
def dkwX2_init_0 : List UInt8 := [42, 183, 0, 3, 42, 187, 0, 9, 89, 183, 0, 11, 181, 0, 12, 42, 187, 0, 9, 89, 183, 0, 11]
abbrev dktX2_init_0 : List UInt8 := dkwX2_init_0 ++ dktX2_init_1
theorem dksX2_init_0 : cX2_init.data.toList.drop 0 = dktX2_init_0 := by decide +kernel
theorem dksX2_init_1 : cX2_init.data.toList.drop 23 = dktX2_init_1 := dk_seg dksX2_init_0 23 rfl rfl
theorem dksX2_init_2 : cX2_init.data.toList.drop 47 = dktX2_init_2 := dk_seg dksX2_init_1 24 rfl rfl
theorem dksX2_init_3 : cX2_init.data.toList.drop 71 = dktX2_init_3 := dk_seg dksX2_init_2 24 rfl rfl
theorem dX2_init_0 : decode cX2_init 0 = .ok (.aload_n 0, 1) := dk_42 (dk_at dksX2_init_0 0 rfl rfl)
theorem dX2_init_1 : decode cX2_init 1 = .ok (.invokespecial 3, 3) := dk_183 0 3 (dk_at dksX2_init_0 1 rfl rfl)
theorem dX2_init_4 : decode cX2_init 4 = .ok (.aload_n 0, 1) := dk_42 (dk_at dksX2_init_0 4 rfl rfl)
theorem dX2_init_5 : decode cX2_init 5 = .ok (.new 9, 3) := dk_187 0 9 (dk_at dksX2_init_0 5 rfl rfl)
theorem dX2_init_8 : decode cX2_init 8 = .ok (.dup, 1) := dk_89 (dk_at dksX2_init_0 8 rfl rfl)
theorem dX2_init_9 : decode cX2_init 9 = .ok (.invokespecial 11, 3) := dk_183 0 11 (dk_at dksX2_init_0 9 rfl rfl)
theorem dX2_init_12 : decode cX2_init 12 = .ok (.putfield 12, 3) := dk_181 0 12 (dk_at dksX2_init_0 12 rfl rfl)
theorem dX2_init_15 : decode cX2_init 15 = .ok (.aload_n 0, 1) := dk_42 (dk_at dksX2_init_0 15 rfl rfl)
theorem dX2_init_16 : decode cX2_init 16 = .ok (.new 9, 3) := dk_187 0 9 (dk_at dksX2_init_0 16 rfl rfl)
theorem dX2_init_19 : decode cX2_init 19 = .ok (.dup, 1) := dk_89 (dk_at dksX2_init_0 19 rfl rfl)
theorem dX2_init_20 : decode cX2_init 20 = .ok (.invokespecial 11, 3) := dk_183 0 11 (dk_at dksX2_init_0 20 rfl rfl)
theorem dX2_init_23 : decode cX2_init 23 = .ok (.putfield 18, 3) := dk_181 0 18 (dk_at dksX2_init_1 0 rfl rfl)
theorem dX2_init_26 : decode cX2_init 26 = .ok (.aload_n 0, 1) := dk_42 (dk_at dksX2_init_1 3 rfl rfl)
theorem dX2_init_27 : decode cX2_init 27 = .ok (.bipush 6, 2) := dk_16 6 (dk_at dksX2_init_1 4 rfl rfl)
theorem dX2_init_29 : decode cX2_init 29 = .ok (.bipush 6, 2) := dk_16 6 (dk_at dksX2_init_1 6 rfl rfl)
theorem dX2_init_31 : decode cX2_init 31 = .ok (.multianewarray 21 2, 4) := by decide +kernel
theorem dX2_init_35 : decode cX2_init 35 = .ok (.putfield 23, 3) := dk_181 0 23 (dk_at dksX2_init_1 12 rfl rfl)
theorem dX2_init_38 : decode cX2_init 38 = .ok (.aload_n 0, 1) := dk_42 (dk_at dksX2_init_1 15 rfl rfl)
theorem dX2_init_39 : decode cX2_init 39 = .ok (.bipush 16, 2) := dk_16 16 (dk_at dksX2_init_1 16 rfl rfl)
theorem dX2_init_41 : decode cX2_init 41 = .ok (.anewarray 26, 3) := dk_189 0 26 (dk_at dksX2_init_1 18 rfl rfl)
theorem dX2_init_44 : decode cX2_init 44 = .ok (.putfield 28, 3) := dk_181 0 28 (dk_at dksX2_init_1 21 rfl rfl)
theorem dX2_init_47 : decode cX2_init 47 = .ok (.aload_n 0, 1) := dk_42 (dk_at dksX2_init_2 0 rfl rfl)
theorem dX2_init_48 : decode cX2_init 48 = .ok (.bipush 8, 2) := dk_16 8 (dk_at dksX2_init_2 1 rfl rfl)
theorem dX2_init_50 : decode cX2_init 50 = .ok (.anewarray 26, 3) := dk_189 0 26 (dk_at dksX2_init_2 3 rfl rfl)
theorem dX2_init_53 : decode cX2_init 53 = .ok (.putfield 32, 3) := dk_181 0 32 (dk_at dksX2_init_2 6 rfl rfl)
theorem dX2_init_56 : decode cX2_init 56 = .ok (.aload_n 0, 1) := dk_42 (dk_at dksX2_init_2 9 rfl rfl)
theorem dX2_init_57 : decode cX2_init 57 = .ok (.iconst 4, 1) := dk_7 (dk_at dksX2_init_2 10 rfl rfl)
theorem dX2_init_58 : decode cX2_init 58 = .ok (.anewarray 35, 3) := dk_189 0 35 (dk_at dksX2_init_2 11 rfl rfl)
theorem dX2_init_61 : decode cX2_init 61 = .ok (.putfield 37, 3) := dk_181 0 37 (dk_at dksX2_init_2 14 rfl rfl)
theorem dX2_init_64 : decode cX2_init 64 = .ok (.aload_n 0, 1) := dk_42 (dk_at dksX2_init_2 17 rfl rfl)
theorem dX2_init_65 : decode cX2_init 65 = .ok (.iconst 4, 1) := dk_7 (dk_at dksX2_init_2 18 rfl rfl)
theorem dX2_init_66 : decode cX2_init 66 = .ok (.newarray .int, 2) := dk_188_10 (dk_at dksX2_init_2 19 rfl rfl)
theorem dX2_init_68 : decode cX2_init 68 = .ok (.putfield 41, 3) := dk_181 0 41 (dk_at dksX2_init_2 21 rfl rfl)
theorem dX2_init_71 : decode cX2_init 71 = .ok (.return_, 1) := dk_177 (dk_at dksX2_init_3 0 rfl rfl)
abbrev cX2_addClosure : ByteArray := prog_13_method_2_code
def yX2_addClosure : MethodName := ⟨RX2, "addClosure", "(III)V"⟩
def dkwX2_addClosure_1 : List UInt8 := [181, 0, 45, 177]
abbrev dktX2_addClosure_1 : List UInt8 := dkwX2_addClosure_1 ++ []
def dkwX2_addClosure_0 : List UInt8 := [42, 180, 0, 28, 42, 180, 0, 45, 27, 28, 29, 184, 0, 49, 83, 42, 89, 180, 0, 45, 4, 96]
abbrev dktX2_addClosure_0 : List UInt8 := dkwX2_addClosure_0 ++ dktX2_addClosure_1
theorem dksX2_addClosure_0 : cX2_addClosure.data.toList.drop 0 = dktX2_addClosure_0 := by decide +kernel
theorem dksX2_addClosure_1 : cX2_addClosure.data.toList.drop 22 = dktX2_addClosure_1 := dk_seg dksX2_addClosure_0 22 rfl rfl
theorem dX2_addClosure_0 : decode cX2_addClosure 0 = .ok (.aload_n 0, 1) := dk_42 (dk_at dksX2_addClosure_0 0 rfl rfl)
theorem dX2_addClosure_1 : decode cX2_addClosure 1 = .ok (.getfield 28, 3) := dk_180 0 28 (dk_at dksX2_addClosure_0 1 rfl rfl)
theorem dX2_addClosure_4 : decode cX2_addClosure 4 = .ok (.aload_n 0, 1) := dk_42 (dk_at dksX2_addClosure_0 4 rfl rfl)
theorem dX2_addClosure_5 : decode cX2_addClosure 5 = .ok (.getfield 45, 3) := dk_180 0 45 (dk_at dksX2_addClosure_0 5 rfl rfl)
theorem dX2_addClosure_8 : decode cX2_addClosure 8 = .ok (.iload_n 1, 1) := dk_27 (dk_at dksX2_addClosure_0 8 rfl rfl)
theorem dX2_addClosure_9 : decode cX2_addClosure 9 = .ok (.iload_n 2, 1) := dk_28 (dk_at dksX2_addClosure_0 9 rfl rfl)
theorem dX2_addClosure_10 : decode cX2_addClosure 10 = .ok (.iload_n 3, 1) := dk_29 (dk_at dksX2_addClosure_0 10 rfl rfl)
theorem dX2_addClosure_11 : decode cX2_addClosure 11 = .ok (.invokestatic 49, 3) := dk_184 0 49 (dk_at dksX2_addClosure_0 11 rfl rfl)
theorem dX2_addClosure_14 : decode cX2_addClosure 14 = .ok (.aastore, 1) := dk_83 (dk_at dksX2_addClosure_0 14 rfl rfl)
theorem dX2_addClosure_15 : decode cX2_addClosure 15 = .ok (.aload_n 0, 1) := dk_42 (dk_at dksX2_addClosure_0 15 rfl rfl)
theorem dX2_addClosure_16 : decode cX2_addClosure 16 = .ok (.dup, 1) := dk_89 (dk_at dksX2_addClosure_0 16 rfl rfl)
theorem dX2_addClosure_17 : decode cX2_addClosure 17 = .ok (.getfield 45, 3) := dk_180 0 45 (dk_at dksX2_addClosure_0 17 rfl rfl)
theorem dX2_addClosure_20 : decode cX2_addClosure 20 = .ok (.iconst 1, 1) := dk_4 (dk_at dksX2_addClosure_0 20 rfl rfl)
theorem dX2_addClosure_21 : decode cX2_addClosure 21 = .ok (.iadd, 1) := dk_96 (dk_at dksX2_addClosure_0 21 rfl rfl)
theorem dX2_addClosure_22 : decode cX2_addClosure 22 = .ok (.putfield 45, 3) := dk_181 0 45 (dk_at dksX2_addClosure_1 0 rfl rfl)
theorem dX2_addClosure_25 : decode cX2_addClosure 25 = .ok (.return_, 1) := dk_177 (dk_at dksX2_addClosure_1 3 rfl rfl)
abbrev cX2_addWeekly : ByteArray := prog_13_method_3_code
def yX2_addWeekly : MethodName := ⟨RX2, "addWeekly", "(III)V"⟩
def dkwX2_addWeekly_1 : List UInt8 := [181, 0, 53, 177]
abbrev dktX2_addWeekly_1 : List UInt8 := dkwX2_addWeekly_1 ++ []
def dkwX2_addWeekly_0 : List UInt8 := [42, 180, 0, 32, 42, 180, 0, 53, 27, 29, 28, 186, 0, 56, 0, 0, 83, 42, 89, 180, 0, 53, 4, 96]
abbrev dktX2_addWeekly_0 : List UInt8 := dkwX2_addWeekly_0 ++ dktX2_addWeekly_1
theorem dksX2_addWeekly_0 : cX2_addWeekly.data.toList.drop 0 = dktX2_addWeekly_0 := by decide +kernel
theorem dksX2_addWeekly_1 : cX2_addWeekly.data.toList.drop 24 = dktX2_addWeekly_1 := dk_seg dksX2_addWeekly_0 24 rfl rfl
theorem dX2_addWeekly_0 : decode cX2_addWeekly 0 = .ok (.aload_n 0, 1) := dk_42 (dk_at dksX2_addWeekly_0 0 rfl rfl)
theorem dX2_addWeekly_1 : decode cX2_addWeekly 1 = .ok (.getfield 32, 3) := dk_180 0 32 (dk_at dksX2_addWeekly_0 1 rfl rfl)
theorem dX2_addWeekly_4 : decode cX2_addWeekly 4 = .ok (.aload_n 0, 1) := dk_42 (dk_at dksX2_addWeekly_0 4 rfl rfl)
theorem dX2_addWeekly_5 : decode cX2_addWeekly 5 = .ok (.getfield 53, 3) := dk_180 0 53 (dk_at dksX2_addWeekly_0 5 rfl rfl)
theorem dX2_addWeekly_8 : decode cX2_addWeekly 8 = .ok (.iload_n 1, 1) := dk_27 (dk_at dksX2_addWeekly_0 8 rfl rfl)
theorem dX2_addWeekly_9 : decode cX2_addWeekly 9 = .ok (.iload_n 3, 1) := dk_29 (dk_at dksX2_addWeekly_0 9 rfl rfl)
theorem dX2_addWeekly_10 : decode cX2_addWeekly 10 = .ok (.iload_n 2, 1) := dk_28 (dk_at dksX2_addWeekly_0 10 rfl rfl)
theorem dX2_addWeekly_11 : decode cX2_addWeekly 11 = .ok (.invokedynamic 56, 5) := by decide +kernel
theorem dX2_addWeekly_16 : decode cX2_addWeekly 16 = .ok (.aastore, 1) := dk_83 (dk_at dksX2_addWeekly_0 16 rfl rfl)
theorem dX2_addWeekly_17 : decode cX2_addWeekly 17 = .ok (.aload_n 0, 1) := dk_42 (dk_at dksX2_addWeekly_0 17 rfl rfl)
theorem dX2_addWeekly_18 : decode cX2_addWeekly 18 = .ok (.dup, 1) := dk_89 (dk_at dksX2_addWeekly_0 18 rfl rfl)
theorem dX2_addWeekly_19 : decode cX2_addWeekly 19 = .ok (.getfield 53, 3) := dk_180 0 53 (dk_at dksX2_addWeekly_0 19 rfl rfl)
theorem dX2_addWeekly_22 : decode cX2_addWeekly 22 = .ok (.iconst 1, 1) := dk_4 (dk_at dksX2_addWeekly_0 22 rfl rfl)
theorem dX2_addWeekly_23 : decode cX2_addWeekly 23 = .ok (.iadd, 1) := dk_96 (dk_at dksX2_addWeekly_0 23 rfl rfl)
theorem dX2_addWeekly_24 : decode cX2_addWeekly 24 = .ok (.putfield 53, 3) := dk_181 0 53 (dk_at dksX2_addWeekly_1 0 rfl rfl)
theorem dX2_addWeekly_27 : decode cX2_addWeekly 27 = .ok (.return_, 1) := dk_177 (dk_at dksX2_addWeekly_1 3 rfl rfl)
abbrev cX2_lambda_addWeekly_0 : ByteArray := prog_13_method_9_code
def yX2_lambda_addWeekly_0 : MethodName := ⟨RX2, "lambda$addWeekly$0", "(IIIIII)Z"⟩
def dkwX2_lambda_addWeekly_0_1 : List UInt8 := [21, 4, 17, 5, 160, 112, 21, 5, 96, 21, 4, 100, 162, 0, 7, 4, 167, 0, 4, 3, 172]
abbrev dktX2_lambda_addWeekly_0_1 : List UInt8 := dkwX2_lambda_addWeekly_0_1 ++ []
def dkwX2_lambda_addWeekly_0_0 : List UInt8 := [21, 4, 17, 5, 160, 108, 16, 7, 112, 26, 160, 0, 33, 21, 4, 17, 5, 160, 112, 27, 162, 0, 23, 28]
abbrev dktX2_lambda_addWeekly_0_0 : List UInt8 := dkwX2_lambda_addWeekly_0_0 ++ dktX2_lambda_addWeekly_0_1
theorem dksX2_lambda_addWeekly_0_0 : cX2_lambda_addWeekly_0.data.toList.drop 0 = dktX2_lambda_addWeekly_0_0 := by decide +kernel
theorem dksX2_lambda_addWeekly_0_1 : cX2_lambda_addWeekly_0.data.toList.drop 24 = dktX2_lambda_addWeekly_0_1 := dk_seg dksX2_lambda_addWeekly_0_0 24 rfl rfl
theorem dX2_lambda_addWeekly_0_0 : decode cX2_lambda_addWeekly_0 0 = .ok (.iload 4, 2) := dk_21 4 (dk_at dksX2_lambda_addWeekly_0_0 0 rfl rfl)
theorem dX2_lambda_addWeekly_0_2 : decode cX2_lambda_addWeekly_0 2 = .ok (.sipush 1440, 3) := dk_17 5 160 (dk_at dksX2_lambda_addWeekly_0_0 2 rfl rfl)
theorem dX2_lambda_addWeekly_0_5 : decode cX2_lambda_addWeekly_0 5 = .ok (.idiv, 1) := dk_108 (dk_at dksX2_lambda_addWeekly_0_0 5 rfl rfl)
theorem dX2_lambda_addWeekly_0_6 : decode cX2_lambda_addWeekly_0 6 = .ok (.bipush 7, 2) := dk_16 7 (dk_at dksX2_lambda_addWeekly_0_0 6 rfl rfl)
theorem dX2_lambda_addWeekly_0_8 : decode cX2_lambda_addWeekly_0 8 = .ok (.irem, 1) := dk_112 (dk_at dksX2_lambda_addWeekly_0_0 8 rfl rfl)
theorem dX2_lambda_addWeekly_0_9 : decode cX2_lambda_addWeekly_0 9 = .ok (.iload_n 0, 1) := dk_26 (dk_at dksX2_lambda_addWeekly_0_0 9 rfl rfl)
theorem dX2_lambda_addWeekly_0_10 : decode cX2_lambda_addWeekly_0 10 = .ok (.if_icmp .ne 33, 3) := dk_160 0 33 (dk_at dksX2_lambda_addWeekly_0_0 10 rfl rfl)
theorem dX2_lambda_addWeekly_0_13 : decode cX2_lambda_addWeekly_0 13 = .ok (.iload 4, 2) := dk_21 4 (dk_at dksX2_lambda_addWeekly_0_0 13 rfl rfl)
theorem dX2_lambda_addWeekly_0_15 : decode cX2_lambda_addWeekly_0 15 = .ok (.sipush 1440, 3) := dk_17 5 160 (dk_at dksX2_lambda_addWeekly_0_0 15 rfl rfl)
theorem dX2_lambda_addWeekly_0_18 : decode cX2_lambda_addWeekly_0 18 = .ok (.irem, 1) := dk_112 (dk_at dksX2_lambda_addWeekly_0_0 18 rfl rfl)
theorem dX2_lambda_addWeekly_0_19 : decode cX2_lambda_addWeekly_0 19 = .ok (.iload_n 1, 1) := dk_27 (dk_at dksX2_lambda_addWeekly_0_0 19 rfl rfl)
theorem dX2_lambda_addWeekly_0_20 : decode cX2_lambda_addWeekly_0 20 = .ok (.if_icmp .ge 23, 3) := dk_162 0 23 (dk_at dksX2_lambda_addWeekly_0_0 20 rfl rfl)
theorem dX2_lambda_addWeekly_0_23 : decode cX2_lambda_addWeekly_0 23 = .ok (.iload_n 2, 1) := dk_28 (dk_at dksX2_lambda_addWeekly_0_0 23 rfl rfl)
theorem dX2_lambda_addWeekly_0_24 : decode cX2_lambda_addWeekly_0 24 = .ok (.iload 4, 2) := dk_21 4 (dk_at dksX2_lambda_addWeekly_0_1 0 rfl rfl)
theorem dX2_lambda_addWeekly_0_26 : decode cX2_lambda_addWeekly_0 26 = .ok (.sipush 1440, 3) := dk_17 5 160 (dk_at dksX2_lambda_addWeekly_0_1 2 rfl rfl)
theorem dX2_lambda_addWeekly_0_29 : decode cX2_lambda_addWeekly_0 29 = .ok (.irem, 1) := dk_112 (dk_at dksX2_lambda_addWeekly_0_1 5 rfl rfl)
theorem dX2_lambda_addWeekly_0_30 : decode cX2_lambda_addWeekly_0 30 = .ok (.iload 5, 2) := dk_21 5 (dk_at dksX2_lambda_addWeekly_0_1 6 rfl rfl)
theorem dX2_lambda_addWeekly_0_32 : decode cX2_lambda_addWeekly_0 32 = .ok (.iadd, 1) := dk_96 (dk_at dksX2_lambda_addWeekly_0_1 8 rfl rfl)
theorem dX2_lambda_addWeekly_0_33 : decode cX2_lambda_addWeekly_0 33 = .ok (.iload 4, 2) := dk_21 4 (dk_at dksX2_lambda_addWeekly_0_1 9 rfl rfl)
theorem dX2_lambda_addWeekly_0_35 : decode cX2_lambda_addWeekly_0 35 = .ok (.isub, 1) := dk_100 (dk_at dksX2_lambda_addWeekly_0_1 11 rfl rfl)
theorem dX2_lambda_addWeekly_0_36 : decode cX2_lambda_addWeekly_0 36 = .ok (.if_icmp .ge 7, 3) := dk_162 0 7 (dk_at dksX2_lambda_addWeekly_0_1 12 rfl rfl)
theorem dX2_lambda_addWeekly_0_39 : decode cX2_lambda_addWeekly_0 39 = .ok (.iconst 1, 1) := dk_4 (dk_at dksX2_lambda_addWeekly_0_1 15 rfl rfl)
theorem dX2_lambda_addWeekly_0_40 : decode cX2_lambda_addWeekly_0 40 = .ok (.goto 4, 3) := dk_167 0 4 (dk_at dksX2_lambda_addWeekly_0_1 16 rfl rfl)
theorem dX2_lambda_addWeekly_0_43 : decode cX2_lambda_addWeekly_0 43 = .ok (.iconst 0, 1) := dk_3 (dk_at dksX2_lambda_addWeekly_0_1 19 rfl rfl)
theorem dX2_lambda_addWeekly_0_44 : decode cX2_lambda_addWeekly_0 44 = .ok (.ireturn, 1) := dk_172 (dk_at dksX2_lambda_addWeekly_0_1 20 rfl rfl)
abbrev cX2_hasFee : ByteArray := prog_13_method_4_code
def yX2_hasFee : MethodName := ⟨RX2, "hasFee", "(I)Z"⟩
def dkwX2_hasFee_1 : List UInt8 := [167, 0, 4, 3, 128, 61, 132, 3, 1, 167, 255, 227, 28, 172]
abbrev dktX2_hasFee_1 : List UInt8 := dkwX2_hasFee_1 ++ []
def dkwX2_hasFee_0 : List UInt8 := [3, 61, 3, 62, 29, 42, 180, 0, 59, 162, 0, 27, 28, 42, 180, 0, 41, 29, 46, 27, 160, 0, 7, 4]
abbrev dktX2_hasFee_0 : List UInt8 := dkwX2_hasFee_0 ++ dktX2_hasFee_1
theorem dksX2_hasFee_0 : cX2_hasFee.data.toList.drop 0 = dktX2_hasFee_0 := by decide +kernel
theorem dksX2_hasFee_1 : cX2_hasFee.data.toList.drop 24 = dktX2_hasFee_1 := dk_seg dksX2_hasFee_0 24 rfl rfl
theorem dX2_hasFee_0 : decode cX2_hasFee 0 = .ok (.iconst 0, 1) := dk_3 (dk_at dksX2_hasFee_0 0 rfl rfl)
theorem dX2_hasFee_1 : decode cX2_hasFee 1 = .ok (.istore_n 2, 1) := dk_61 (dk_at dksX2_hasFee_0 1 rfl rfl)
theorem dX2_hasFee_2 : decode cX2_hasFee 2 = .ok (.iconst 0, 1) := dk_3 (dk_at dksX2_hasFee_0 2 rfl rfl)
theorem dX2_hasFee_3 : decode cX2_hasFee 3 = .ok (.istore_n 3, 1) := dk_62 (dk_at dksX2_hasFee_0 3 rfl rfl)
theorem dX2_hasFee_4 : decode cX2_hasFee 4 = .ok (.iload_n 3, 1) := dk_29 (dk_at dksX2_hasFee_0 4 rfl rfl)
theorem dX2_hasFee_5 : decode cX2_hasFee 5 = .ok (.aload_n 0, 1) := dk_42 (dk_at dksX2_hasFee_0 5 rfl rfl)
theorem dX2_hasFee_6 : decode cX2_hasFee 6 = .ok (.getfield 59, 3) := dk_180 0 59 (dk_at dksX2_hasFee_0 6 rfl rfl)
theorem dX2_hasFee_9 : decode cX2_hasFee 9 = .ok (.if_icmp .ge 27, 3) := dk_162 0 27 (dk_at dksX2_hasFee_0 9 rfl rfl)
theorem dX2_hasFee_12 : decode cX2_hasFee 12 = .ok (.iload_n 2, 1) := dk_28 (dk_at dksX2_hasFee_0 12 rfl rfl)
theorem dX2_hasFee_13 : decode cX2_hasFee 13 = .ok (.aload_n 0, 1) := dk_42 (dk_at dksX2_hasFee_0 13 rfl rfl)
theorem dX2_hasFee_14 : decode cX2_hasFee 14 = .ok (.getfield 41, 3) := dk_180 0 41 (dk_at dksX2_hasFee_0 14 rfl rfl)
theorem dX2_hasFee_17 : decode cX2_hasFee 17 = .ok (.iload_n 3, 1) := dk_29 (dk_at dksX2_hasFee_0 17 rfl rfl)
theorem dX2_hasFee_18 : decode cX2_hasFee 18 = .ok (.iaload, 1) := dk_46 (dk_at dksX2_hasFee_0 18 rfl rfl)
theorem dX2_hasFee_19 : decode cX2_hasFee 19 = .ok (.iload_n 1, 1) := dk_27 (dk_at dksX2_hasFee_0 19 rfl rfl)
theorem dX2_hasFee_20 : decode cX2_hasFee 20 = .ok (.if_icmp .ne 7, 3) := dk_160 0 7 (dk_at dksX2_hasFee_0 20 rfl rfl)
theorem dX2_hasFee_23 : decode cX2_hasFee 23 = .ok (.iconst 1, 1) := dk_4 (dk_at dksX2_hasFee_0 23 rfl rfl)
theorem dX2_hasFee_24 : decode cX2_hasFee 24 = .ok (.goto 4, 3) := dk_167 0 4 (dk_at dksX2_hasFee_1 0 rfl rfl)
theorem dX2_hasFee_27 : decode cX2_hasFee 27 = .ok (.iconst 0, 1) := dk_3 (dk_at dksX2_hasFee_1 3 rfl rfl)
theorem dX2_hasFee_28 : decode cX2_hasFee 28 = .ok (.ior, 1) := dk_128 (dk_at dksX2_hasFee_1 4 rfl rfl)
theorem dX2_hasFee_29 : decode cX2_hasFee 29 = .ok (.istore_n 2, 1) := dk_61 (dk_at dksX2_hasFee_1 5 rfl rfl)
theorem dX2_hasFee_30 : decode cX2_hasFee 30 = .ok (.iinc 3 1, 3) := dk_132 3 1 (dk_at dksX2_hasFee_1 6 rfl rfl)
theorem dX2_hasFee_33 : decode cX2_hasFee 33 = .ok (.goto (-29), 3) := dk_167 255 227 (dk_at dksX2_hasFee_1 9 rfl rfl)
theorem dX2_hasFee_36 : decode cX2_hasFee 36 = .ok (.iload_n 2, 1) := dk_28 (dk_at dksX2_hasFee_1 12 rfl rfl)
theorem dX2_hasFee_37 : decode cX2_hasFee 37 = .ok (.ireturn, 1) := dk_172 (dk_at dksX2_hasFee_1 13 rfl rfl)
abbrev cX2_addFee : ByteArray := prog_13_method_5_code
def yX2_addFee : MethodName := ⟨RX2, "addFee", "(II)V"⟩
def dkwX2_addFee_3 : List UInt8 := [186, 0, 62, 0, 0, 83, 42, 89, 180, 0, 59, 4, 96, 181, 0, 59, 177]
abbrev dktX2_addFee_3 : List UInt8 := dkwX2_addFee_3 ++ []
def dkwX2_addFee_2 : List UInt8 := [100, 50, 83, 132, 3, 255, 167, 255, 209, 42, 180, 0, 41, 29, 27, 79, 42, 180, 0, 37, 29, 27, 28]
abbrev dktX2_addFee_2 : List UInt8 := dkwX2_addFee_2 ++ dktX2_addFee_3
def dkwX2_addFee_1 : List UInt8 := [180, 0, 41, 29, 42, 180, 0, 41, 29, 4, 100, 46, 79, 42, 180, 0, 37, 29, 42, 180, 0, 37, 29, 4]
abbrev dktX2_addFee_1 : List UInt8 := dkwX2_addFee_1 ++ dktX2_addFee_2
def dkwX2_addFee_0 : List UInt8 := [42, 180, 0, 59, 62, 29, 158, 0, 49, 42, 180, 0, 41, 29, 4, 100, 46, 27, 162, 0, 37, 42]
abbrev dktX2_addFee_0 : List UInt8 := dkwX2_addFee_0 ++ dktX2_addFee_1
theorem dksX2_addFee_0 : cX2_addFee.data.toList.drop 0 = dktX2_addFee_0 := by decide +kernel
theorem dksX2_addFee_1 : cX2_addFee.data.toList.drop 22 = dktX2_addFee_1 := dk_seg dksX2_addFee_0 22 rfl rfl
theorem dksX2_addFee_2 : cX2_addFee.data.toList.drop 46 = dktX2_addFee_2 := dk_seg dksX2_addFee_1 24 rfl rfl
theorem dksX2_addFee_3 : cX2_addFee.data.toList.drop 69 = dktX2_addFee_3 := dk_seg dksX2_addFee_2 23 rfl rfl
theorem dX2_addFee_0 : decode cX2_addFee 0 = .ok (.aload_n 0, 1) := dk_42 (dk_at dksX2_addFee_0 0 rfl rfl)
theorem dX2_addFee_1 : decode cX2_addFee 1 = .ok (.getfield 59, 3) := dk_180 0 59 (dk_at dksX2_addFee_0 1 rfl rfl)
theorem dX2_addFee_4 : decode cX2_addFee 4 = .ok (.istore_n 3, 1) := dk_62 (dk_at dksX2_addFee_0 4 rfl rfl)
theorem dX2_addFee_5 : decode cX2_addFee 5 = .ok (.iload_n 3, 1) := dk_29 (dk_at dksX2_addFee_0 5 rfl rfl)
theorem dX2_addFee_6 : decode cX2_addFee 6 = .ok (.ifCond .le 49, 3) := dk_158 0 49 (dk_at dksX2_addFee_0 6 rfl rfl)
theorem dX2_addFee_9 : decode cX2_addFee 9 = .ok (.aload_n 0, 1) := dk_42 (dk_at dksX2_addFee_0 9 rfl rfl)
theorem dX2_addFee_10 : decode cX2_addFee 10 = .ok (.getfield 41, 3) := dk_180 0 41 (dk_at dksX2_addFee_0 10 rfl rfl)
theorem dX2_addFee_13 : decode cX2_addFee 13 = .ok (.iload_n 3, 1) := dk_29 (dk_at dksX2_addFee_0 13 rfl rfl)
theorem dX2_addFee_14 : decode cX2_addFee 14 = .ok (.iconst 1, 1) := dk_4 (dk_at dksX2_addFee_0 14 rfl rfl)
theorem dX2_addFee_15 : decode cX2_addFee 15 = .ok (.isub, 1) := dk_100 (dk_at dksX2_addFee_0 15 rfl rfl)
theorem dX2_addFee_16 : decode cX2_addFee 16 = .ok (.iaload, 1) := dk_46 (dk_at dksX2_addFee_0 16 rfl rfl)
theorem dX2_addFee_17 : decode cX2_addFee 17 = .ok (.iload_n 1, 1) := dk_27 (dk_at dksX2_addFee_0 17 rfl rfl)
theorem dX2_addFee_18 : decode cX2_addFee 18 = .ok (.if_icmp .ge 37, 3) := dk_162 0 37 (dk_at dksX2_addFee_0 18 rfl rfl)
theorem dX2_addFee_21 : decode cX2_addFee 21 = .ok (.aload_n 0, 1) := dk_42 (dk_at dksX2_addFee_0 21 rfl rfl)
theorem dX2_addFee_22 : decode cX2_addFee 22 = .ok (.getfield 41, 3) := dk_180 0 41 (dk_at dksX2_addFee_1 0 rfl rfl)
theorem dX2_addFee_25 : decode cX2_addFee 25 = .ok (.iload_n 3, 1) := dk_29 (dk_at dksX2_addFee_1 3 rfl rfl)
theorem dX2_addFee_26 : decode cX2_addFee 26 = .ok (.aload_n 0, 1) := dk_42 (dk_at dksX2_addFee_1 4 rfl rfl)
theorem dX2_addFee_27 : decode cX2_addFee 27 = .ok (.getfield 41, 3) := dk_180 0 41 (dk_at dksX2_addFee_1 5 rfl rfl)
theorem dX2_addFee_30 : decode cX2_addFee 30 = .ok (.iload_n 3, 1) := dk_29 (dk_at dksX2_addFee_1 8 rfl rfl)
theorem dX2_addFee_31 : decode cX2_addFee 31 = .ok (.iconst 1, 1) := dk_4 (dk_at dksX2_addFee_1 9 rfl rfl)
theorem dX2_addFee_32 : decode cX2_addFee 32 = .ok (.isub, 1) := dk_100 (dk_at dksX2_addFee_1 10 rfl rfl)
theorem dX2_addFee_33 : decode cX2_addFee 33 = .ok (.iaload, 1) := dk_46 (dk_at dksX2_addFee_1 11 rfl rfl)
theorem dX2_addFee_34 : decode cX2_addFee 34 = .ok (.iastore, 1) := dk_79 (dk_at dksX2_addFee_1 12 rfl rfl)
theorem dX2_addFee_35 : decode cX2_addFee 35 = .ok (.aload_n 0, 1) := dk_42 (dk_at dksX2_addFee_1 13 rfl rfl)
theorem dX2_addFee_36 : decode cX2_addFee 36 = .ok (.getfield 37, 3) := dk_180 0 37 (dk_at dksX2_addFee_1 14 rfl rfl)
theorem dX2_addFee_39 : decode cX2_addFee 39 = .ok (.iload_n 3, 1) := dk_29 (dk_at dksX2_addFee_1 17 rfl rfl)
theorem dX2_addFee_40 : decode cX2_addFee 40 = .ok (.aload_n 0, 1) := dk_42 (dk_at dksX2_addFee_1 18 rfl rfl)
theorem dX2_addFee_41 : decode cX2_addFee 41 = .ok (.getfield 37, 3) := dk_180 0 37 (dk_at dksX2_addFee_1 19 rfl rfl)
theorem dX2_addFee_44 : decode cX2_addFee 44 = .ok (.iload_n 3, 1) := dk_29 (dk_at dksX2_addFee_1 22 rfl rfl)
theorem dX2_addFee_45 : decode cX2_addFee 45 = .ok (.iconst 1, 1) := dk_4 (dk_at dksX2_addFee_1 23 rfl rfl)
theorem dX2_addFee_46 : decode cX2_addFee 46 = .ok (.isub, 1) := dk_100 (dk_at dksX2_addFee_2 0 rfl rfl)
theorem dX2_addFee_47 : decode cX2_addFee 47 = .ok (.aaload, 1) := dk_50 (dk_at dksX2_addFee_2 1 rfl rfl)
theorem dX2_addFee_48 : decode cX2_addFee 48 = .ok (.aastore, 1) := dk_83 (dk_at dksX2_addFee_2 2 rfl rfl)
theorem dX2_addFee_49 : decode cX2_addFee 49 = .ok (.iinc 3 (-1), 3) := dk_132 3 255 (dk_at dksX2_addFee_2 3 rfl rfl)
theorem dX2_addFee_52 : decode cX2_addFee 52 = .ok (.goto (-47), 3) := dk_167 255 209 (dk_at dksX2_addFee_2 6 rfl rfl)
theorem dX2_addFee_55 : decode cX2_addFee 55 = .ok (.aload_n 0, 1) := dk_42 (dk_at dksX2_addFee_2 9 rfl rfl)
theorem dX2_addFee_56 : decode cX2_addFee 56 = .ok (.getfield 41, 3) := dk_180 0 41 (dk_at dksX2_addFee_2 10 rfl rfl)
theorem dX2_addFee_59 : decode cX2_addFee 59 = .ok (.iload_n 3, 1) := dk_29 (dk_at dksX2_addFee_2 13 rfl rfl)
theorem dX2_addFee_60 : decode cX2_addFee 60 = .ok (.iload_n 1, 1) := dk_27 (dk_at dksX2_addFee_2 14 rfl rfl)
theorem dX2_addFee_61 : decode cX2_addFee 61 = .ok (.iastore, 1) := dk_79 (dk_at dksX2_addFee_2 15 rfl rfl)
theorem dX2_addFee_62 : decode cX2_addFee 62 = .ok (.aload_n 0, 1) := dk_42 (dk_at dksX2_addFee_2 16 rfl rfl)
theorem dX2_addFee_63 : decode cX2_addFee 63 = .ok (.getfield 37, 3) := dk_180 0 37 (dk_at dksX2_addFee_2 17 rfl rfl)
theorem dX2_addFee_66 : decode cX2_addFee 66 = .ok (.iload_n 3, 1) := dk_29 (dk_at dksX2_addFee_2 20 rfl rfl)
theorem dX2_addFee_67 : decode cX2_addFee 67 = .ok (.iload_n 1, 1) := dk_27 (dk_at dksX2_addFee_2 21 rfl rfl)
theorem dX2_addFee_68 : decode cX2_addFee 68 = .ok (.iload_n 2, 1) := dk_28 (dk_at dksX2_addFee_2 22 rfl rfl)
theorem dX2_addFee_69 : decode cX2_addFee 69 = .ok (.invokedynamic 62, 5) := by decide +kernel
theorem dX2_addFee_74 : decode cX2_addFee 74 = .ok (.aastore, 1) := dk_83 (dk_at dksX2_addFee_3 5 rfl rfl)
theorem dX2_addFee_75 : decode cX2_addFee 75 = .ok (.aload_n 0, 1) := dk_42 (dk_at dksX2_addFee_3 6 rfl rfl)
theorem dX2_addFee_76 : decode cX2_addFee 76 = .ok (.dup, 1) := dk_89 (dk_at dksX2_addFee_3 7 rfl rfl)
theorem dX2_addFee_77 : decode cX2_addFee 77 = .ok (.getfield 59, 3) := dk_180 0 59 (dk_at dksX2_addFee_3 8 rfl rfl)
theorem dX2_addFee_80 : decode cX2_addFee 80 = .ok (.iconst 1, 1) := dk_4 (dk_at dksX2_addFee_3 11 rfl rfl)
theorem dX2_addFee_81 : decode cX2_addFee 81 = .ok (.iadd, 1) := dk_96 (dk_at dksX2_addFee_3 12 rfl rfl)
theorem dX2_addFee_82 : decode cX2_addFee 82 = .ok (.putfield 59, 3) := dk_181 0 59 (dk_at dksX2_addFee_3 13 rfl rfl)
theorem dX2_addFee_85 : decode cX2_addFee 85 = .ok (.return_, 1) := dk_177 (dk_at dksX2_addFee_3 16 rfl rfl)
abbrev cX2_lambda_addFee_1 : ByteArray := prog_13_method_8_code
def yX2_lambda_addFee_1 : MethodName := ⟨RX2, "lambda$addFee$1", "(III)I"⟩
def dkwX2_lambda_addFee_1_0 : List UInt8 := [28, 26, 161, 0, 7, 27, 167, 0, 4, 2, 172]
abbrev dktX2_lambda_addFee_1_0 : List UInt8 := dkwX2_lambda_addFee_1_0 ++ []
theorem dksX2_lambda_addFee_1_0 : cX2_lambda_addFee_1.data.toList.drop 0 = dktX2_lambda_addFee_1_0 := by decide +kernel
theorem dX2_lambda_addFee_1_0 : decode cX2_lambda_addFee_1 0 = .ok (.iload_n 2, 1) := dk_28 (dk_at dksX2_lambda_addFee_1_0 0 rfl rfl)
theorem dX2_lambda_addFee_1_1 : decode cX2_lambda_addFee_1 1 = .ok (.iload_n 0, 1) := dk_26 (dk_at dksX2_lambda_addFee_1_0 1 rfl rfl)
theorem dX2_lambda_addFee_1_2 : decode cX2_lambda_addFee_1 2 = .ok (.if_icmp .lt 7, 3) := dk_161 0 7 (dk_at dksX2_lambda_addFee_1_0 2 rfl rfl)
theorem dX2_lambda_addFee_1_5 : decode cX2_lambda_addFee_1 5 = .ok (.iload_n 1, 1) := dk_27 (dk_at dksX2_lambda_addFee_1_0 5 rfl rfl)
theorem dX2_lambda_addFee_1_6 : decode cX2_lambda_addFee_1 6 = .ok (.goto 4, 3) := dk_167 0 4 (dk_at dksX2_lambda_addFee_1_0 6 rfl rfl)
theorem dX2_lambda_addFee_1_9 : decode cX2_lambda_addFee_1 9 = .ok (.iconst (-1), 1) := dk_2 (dk_at dksX2_lambda_addFee_1_0 9 rfl rfl)
theorem dX2_lambda_addFee_1_10 : decode cX2_lambda_addFee_1 10 = .ok (.ireturn, 1) := dk_172 (dk_at dksX2_lambda_addFee_1_0 10 rfl rfl)
abbrev cX2_price : ByteArray := prog_13_method_7_code
def yX2_price : MethodName := ⟨RX2, "price", "(LHallPlan$Event;II)I"⟩
def dkwX2_price_4 : List UInt8 := [21, 4, 42, 180, 0, 97, 104, 16, 100, 108, 96, 167, 0, 5, 21, 4, 172]
abbrev dktX2_price_4 : List UInt8 := dkwX2_price_4 ++ []
def dkwX2_price_3 : List UInt8 := [96, 54, 4, 132, 5, 1, 167, 255, 209, 29, 17, 5, 160, 108, 16, 7, 112, 7, 164, 0, 19, 21, 4]
abbrev dktX2_price_3 : List UInt8 := dkwX2_price_3 ++ dktX2_price_4
def dkwX2_price_2 : List UInt8 := [180, 0, 89, 21, 5, 46, 42, 180, 0, 18, 21, 5, 185, 0, 69, 2, 0, 192, 0, 92, 180, 0, 94, 104]
abbrev dktX2_price_2 : List UInt8 := dkwX2_price_2 ++ dktX2_price_3
def dkwX2_price_1 : List UInt8 := [54, 4, 3, 54, 5, 21, 5, 42, 180, 0, 18, 185, 0, 85, 1, 0, 162, 0, 39, 21, 4, 43]
abbrev dktX2_price_1 : List UInt8 := dkwX2_price_1 ++ dktX2_price_2
def dkwX2_price_0 : List UInt8 := [42, 180, 0, 12, 28, 185, 0, 69, 2, 0, 192, 0, 75, 180, 0, 77, 43, 180, 0, 80, 104, 16, 60, 108]
abbrev dktX2_price_0 : List UInt8 := dkwX2_price_0 ++ dktX2_price_1
theorem dksX2_price_0 : cX2_price.data.toList.drop 0 = dktX2_price_0 := by decide +kernel
theorem dksX2_price_1 : cX2_price.data.toList.drop 24 = dktX2_price_1 := dk_seg dksX2_price_0 24 rfl rfl
theorem dksX2_price_2 : cX2_price.data.toList.drop 46 = dktX2_price_2 := dk_seg dksX2_price_1 22 rfl rfl
theorem dksX2_price_3 : cX2_price.data.toList.drop 70 = dktX2_price_3 := dk_seg dksX2_price_2 24 rfl rfl
theorem dksX2_price_4 : cX2_price.data.toList.drop 93 = dktX2_price_4 := dk_seg dksX2_price_3 23 rfl rfl
theorem dX2_price_0 : decode cX2_price 0 = .ok (.aload_n 0, 1) := dk_42 (dk_at dksX2_price_0 0 rfl rfl)
theorem dX2_price_1 : decode cX2_price 1 = .ok (.getfield 12, 3) := dk_180 0 12 (dk_at dksX2_price_0 1 rfl rfl)
theorem dX2_price_4 : decode cX2_price 4 = .ok (.iload_n 2, 1) := dk_28 (dk_at dksX2_price_0 4 rfl rfl)
theorem dX2_price_5 : decode cX2_price 5 = .ok (.invokeinterface 69 2, 5) := by decide +kernel
theorem dX2_price_10 : decode cX2_price 10 = .ok (.checkcast 75, 3) := dk_192 0 75 (dk_at dksX2_price_0 10 rfl rfl)
theorem dX2_price_13 : decode cX2_price 13 = .ok (.getfield 77, 3) := dk_180 0 77 (dk_at dksX2_price_0 13 rfl rfl)
theorem dX2_price_16 : decode cX2_price 16 = .ok (.aload_n 1, 1) := dk_43 (dk_at dksX2_price_0 16 rfl rfl)
theorem dX2_price_17 : decode cX2_price 17 = .ok (.getfield 80, 3) := dk_180 0 80 (dk_at dksX2_price_0 17 rfl rfl)
theorem dX2_price_20 : decode cX2_price 20 = .ok (.imul, 1) := dk_104 (dk_at dksX2_price_0 20 rfl rfl)
theorem dX2_price_21 : decode cX2_price 21 = .ok (.bipush 60, 2) := dk_16 60 (dk_at dksX2_price_0 21 rfl rfl)
theorem dX2_price_23 : decode cX2_price 23 = .ok (.idiv, 1) := dk_108 (dk_at dksX2_price_0 23 rfl rfl)
theorem dX2_price_24 : decode cX2_price 24 = .ok (.istore 4, 2) := dk_54 4 (dk_at dksX2_price_1 0 rfl rfl)
theorem dX2_price_26 : decode cX2_price 26 = .ok (.iconst 0, 1) := dk_3 (dk_at dksX2_price_1 2 rfl rfl)
theorem dX2_price_27 : decode cX2_price 27 = .ok (.istore 5, 2) := dk_54 5 (dk_at dksX2_price_1 3 rfl rfl)
theorem dX2_price_29 : decode cX2_price 29 = .ok (.iload 5, 2) := dk_21 5 (dk_at dksX2_price_1 5 rfl rfl)
theorem dX2_price_31 : decode cX2_price 31 = .ok (.aload_n 0, 1) := dk_42 (dk_at dksX2_price_1 7 rfl rfl)
theorem dX2_price_32 : decode cX2_price 32 = .ok (.getfield 18, 3) := dk_180 0 18 (dk_at dksX2_price_1 8 rfl rfl)
theorem dX2_price_35 : decode cX2_price 35 = .ok (.invokeinterface 85 1, 5) := by decide +kernel
theorem dX2_price_40 : decode cX2_price 40 = .ok (.if_icmp .ge 39, 3) := dk_162 0 39 (dk_at dksX2_price_1 16 rfl rfl)
theorem dX2_price_43 : decode cX2_price 43 = .ok (.iload 4, 2) := dk_21 4 (dk_at dksX2_price_1 19 rfl rfl)
theorem dX2_price_45 : decode cX2_price 45 = .ok (.aload_n 1, 1) := dk_43 (dk_at dksX2_price_1 21 rfl rfl)
theorem dX2_price_46 : decode cX2_price 46 = .ok (.getfield 89, 3) := dk_180 0 89 (dk_at dksX2_price_2 0 rfl rfl)
theorem dX2_price_49 : decode cX2_price 49 = .ok (.iload 5, 2) := dk_21 5 (dk_at dksX2_price_2 3 rfl rfl)
theorem dX2_price_51 : decode cX2_price 51 = .ok (.iaload, 1) := dk_46 (dk_at dksX2_price_2 5 rfl rfl)
theorem dX2_price_52 : decode cX2_price 52 = .ok (.aload_n 0, 1) := dk_42 (dk_at dksX2_price_2 6 rfl rfl)
theorem dX2_price_53 : decode cX2_price 53 = .ok (.getfield 18, 3) := dk_180 0 18 (dk_at dksX2_price_2 7 rfl rfl)
theorem dX2_price_56 : decode cX2_price 56 = .ok (.iload 5, 2) := dk_21 5 (dk_at dksX2_price_2 10 rfl rfl)
theorem dX2_price_58 : decode cX2_price 58 = .ok (.invokeinterface 69 2, 5) := by decide +kernel
theorem dX2_price_63 : decode cX2_price 63 = .ok (.checkcast 92, 3) := dk_192 0 92 (dk_at dksX2_price_2 17 rfl rfl)
theorem dX2_price_66 : decode cX2_price 66 = .ok (.getfield 94, 3) := dk_180 0 94 (dk_at dksX2_price_2 20 rfl rfl)
theorem dX2_price_69 : decode cX2_price 69 = .ok (.imul, 1) := dk_104 (dk_at dksX2_price_2 23 rfl rfl)
theorem dX2_price_70 : decode cX2_price 70 = .ok (.iadd, 1) := dk_96 (dk_at dksX2_price_3 0 rfl rfl)
theorem dX2_price_71 : decode cX2_price 71 = .ok (.istore 4, 2) := dk_54 4 (dk_at dksX2_price_3 1 rfl rfl)
theorem dX2_price_73 : decode cX2_price 73 = .ok (.iinc 5 1, 3) := dk_132 5 1 (dk_at dksX2_price_3 3 rfl rfl)
theorem dX2_price_76 : decode cX2_price 76 = .ok (.goto (-47), 3) := dk_167 255 209 (dk_at dksX2_price_3 6 rfl rfl)
theorem dX2_price_79 : decode cX2_price 79 = .ok (.iload_n 3, 1) := dk_29 (dk_at dksX2_price_3 9 rfl rfl)
theorem dX2_price_80 : decode cX2_price 80 = .ok (.sipush 1440, 3) := dk_17 5 160 (dk_at dksX2_price_3 10 rfl rfl)
theorem dX2_price_83 : decode cX2_price 83 = .ok (.idiv, 1) := dk_108 (dk_at dksX2_price_3 13 rfl rfl)
theorem dX2_price_84 : decode cX2_price 84 = .ok (.bipush 7, 2) := dk_16 7 (dk_at dksX2_price_3 14 rfl rfl)
theorem dX2_price_86 : decode cX2_price 86 = .ok (.irem, 1) := dk_112 (dk_at dksX2_price_3 16 rfl rfl)
theorem dX2_price_87 : decode cX2_price 87 = .ok (.iconst 4, 1) := dk_7 (dk_at dksX2_price_3 17 rfl rfl)
theorem dX2_price_88 : decode cX2_price 88 = .ok (.if_icmp .le 19, 3) := dk_164 0 19 (dk_at dksX2_price_3 18 rfl rfl)
theorem dX2_price_91 : decode cX2_price 91 = .ok (.iload 4, 2) := dk_21 4 (dk_at dksX2_price_3 21 rfl rfl)
theorem dX2_price_93 : decode cX2_price 93 = .ok (.iload 4, 2) := dk_21 4 (dk_at dksX2_price_4 0 rfl rfl)
theorem dX2_price_95 : decode cX2_price 95 = .ok (.aload_n 0, 1) := dk_42 (dk_at dksX2_price_4 2 rfl rfl)
theorem dX2_price_96 : decode cX2_price 96 = .ok (.getfield 97, 3) := dk_180 0 97 (dk_at dksX2_price_4 3 rfl rfl)
theorem dX2_price_99 : decode cX2_price 99 = .ok (.imul, 1) := dk_104 (dk_at dksX2_price_4 6 rfl rfl)
theorem dX2_price_100 : decode cX2_price 100 = .ok (.bipush 100, 2) := dk_16 100 (dk_at dksX2_price_4 7 rfl rfl)
theorem dX2_price_102 : decode cX2_price 102 = .ok (.idiv, 1) := dk_108 (dk_at dksX2_price_4 9 rfl rfl)
theorem dX2_price_103 : decode cX2_price 103 = .ok (.iadd, 1) := dk_96 (dk_at dksX2_price_4 10 rfl rfl)
theorem dX2_price_104 : decode cX2_price 104 = .ok (.goto 5, 3) := dk_167 0 5 (dk_at dksX2_price_4 11 rfl rfl)
theorem dX2_price_107 : decode cX2_price 107 = .ok (.iload 4, 2) := dk_21 4 (dk_at dksX2_price_4 14 rfl rfl)
theorem dX2_price_109 : decode cX2_price 109 = .ok (.ireturn, 1) := dk_172 (dk_at dksX2_price_4 16 rfl rfl)
abbrev cX2_feePercent : ByteArray := prog_13_method_6_code
def yX2_feePercent : MethodName := ⟨RX2, "feePercent", "(I)I"⟩
def dkwX2_feePercent_1 : List UInt8 := [2, 159, 0, 5, 29, 172, 132, 2, 1, 167, 255, 225, 16, 100, 172]
abbrev dktX2_feePercent_1 : List UInt8 := dkwX2_feePercent_1 ++ []
def dkwX2_feePercent_0 : List UInt8 := [3, 61, 28, 42, 180, 0, 59, 162, 0, 29, 42, 180, 0, 37, 28, 50, 27, 185, 0, 66, 2, 0, 62, 29]
abbrev dktX2_feePercent_0 : List UInt8 := dkwX2_feePercent_0 ++ dktX2_feePercent_1
theorem dksX2_feePercent_0 : cX2_feePercent.data.toList.drop 0 = dktX2_feePercent_0 := by decide +kernel
theorem dksX2_feePercent_1 : cX2_feePercent.data.toList.drop 24 = dktX2_feePercent_1 := dk_seg dksX2_feePercent_0 24 rfl rfl
theorem dX2_feePercent_0 : decode cX2_feePercent 0 = .ok (.iconst 0, 1) := dk_3 (dk_at dksX2_feePercent_0 0 rfl rfl)
theorem dX2_feePercent_1 : decode cX2_feePercent 1 = .ok (.istore_n 2, 1) := dk_61 (dk_at dksX2_feePercent_0 1 rfl rfl)
theorem dX2_feePercent_2 : decode cX2_feePercent 2 = .ok (.iload_n 2, 1) := dk_28 (dk_at dksX2_feePercent_0 2 rfl rfl)
theorem dX2_feePercent_3 : decode cX2_feePercent 3 = .ok (.aload_n 0, 1) := dk_42 (dk_at dksX2_feePercent_0 3 rfl rfl)
theorem dX2_feePercent_4 : decode cX2_feePercent 4 = .ok (.getfield 59, 3) := dk_180 0 59 (dk_at dksX2_feePercent_0 4 rfl rfl)
theorem dX2_feePercent_7 : decode cX2_feePercent 7 = .ok (.if_icmp .ge 29, 3) := dk_162 0 29 (dk_at dksX2_feePercent_0 7 rfl rfl)
theorem dX2_feePercent_10 : decode cX2_feePercent 10 = .ok (.aload_n 0, 1) := dk_42 (dk_at dksX2_feePercent_0 10 rfl rfl)
theorem dX2_feePercent_11 : decode cX2_feePercent 11 = .ok (.getfield 37, 3) := dk_180 0 37 (dk_at dksX2_feePercent_0 11 rfl rfl)
theorem dX2_feePercent_14 : decode cX2_feePercent 14 = .ok (.iload_n 2, 1) := dk_28 (dk_at dksX2_feePercent_0 14 rfl rfl)
theorem dX2_feePercent_15 : decode cX2_feePercent 15 = .ok (.aaload, 1) := dk_50 (dk_at dksX2_feePercent_0 15 rfl rfl)
theorem dX2_feePercent_16 : decode cX2_feePercent 16 = .ok (.iload_n 1, 1) := dk_27 (dk_at dksX2_feePercent_0 16 rfl rfl)
theorem dX2_feePercent_17 : decode cX2_feePercent 17 = .ok (.invokeinterface 66 2, 5) := by decide +kernel
theorem dX2_feePercent_22 : decode cX2_feePercent 22 = .ok (.istore_n 3, 1) := dk_62 (dk_at dksX2_feePercent_0 22 rfl rfl)
theorem dX2_feePercent_23 : decode cX2_feePercent 23 = .ok (.iload_n 3, 1) := dk_29 (dk_at dksX2_feePercent_0 23 rfl rfl)
theorem dX2_feePercent_24 : decode cX2_feePercent 24 = .ok (.iconst (-1), 1) := dk_2 (dk_at dksX2_feePercent_1 0 rfl rfl)
theorem dX2_feePercent_25 : decode cX2_feePercent 25 = .ok (.if_icmp .eq 5, 3) := dk_159 0 5 (dk_at dksX2_feePercent_1 1 rfl rfl)
theorem dX2_feePercent_28 : decode cX2_feePercent 28 = .ok (.iload_n 3, 1) := dk_29 (dk_at dksX2_feePercent_1 4 rfl rfl)
theorem dX2_feePercent_29 : decode cX2_feePercent 29 = .ok (.ireturn, 1) := dk_172 (dk_at dksX2_feePercent_1 5 rfl rfl)
theorem dX2_feePercent_30 : decode cX2_feePercent 30 = .ok (.iinc 2 1, 3) := dk_132 2 1 (dk_at dksX2_feePercent_1 6 rfl rfl)
theorem dX2_feePercent_33 : decode cX2_feePercent 33 = .ok (.goto (-31), 3) := dk_167 255 225 (dk_at dksX2_feePercent_1 9 rfl rfl)
theorem dX2_feePercent_36 : decode cX2_feePercent 36 = .ok (.bipush 100, 2) := dk_16 100 (dk_at dksX2_feePercent_1 12 rfl rfl)
theorem dX2_feePercent_38 : decode cX2_feePercent 38 = .ok (.ireturn, 1) := dk_172 (dk_at dksX2_feePercent_1 14 rfl rfl)
theorem q143 : (Jvm.Cond.initialized "HallPlan$Setup") ∈ lw_all := lw_g (lw_at lw_m1 2 rfl) rfl
theorem q191 : (Jvm.Cond.instantiable "HallPlan$Setup" (12 : Nat)) ∈ lw_all := lw_g (lw_at lw_m1 50 rfl) rfl
theorem q193 : (Jvm.Cond.instanceMethod ({ cls := "HallPlan$Setup", name := "<init>", desc := "()V" } : Jvm.MethodName)) ∈ lw_all := lw_g (lw_at lw_m1 52 rfl) rfl
theorem q194 : (Jvm.Cond.code ({ cls := "HallPlan$Setup", name := "<init>", desc := "()V" } : Jvm.MethodName) prog_13_method_1_code (1 : Nat) (Option.none : Option Jvm.ClassFile.FieldType)) ∈ lw_all := lw_g (lw_at lw_m1 53 rfl) rfl
theorem q195 : (Jvm.Cond.methodLink "HallPlan$Setup" (3 : Nat) ({ cls := "java/lang/Object", name := "<init>", desc := "()V" } : Jvm.MethodName)) ∈ lw_all := lw_g (lw_at lw_m1 54 rfl) rfl
theorem q196 : (Jvm.Cond.classLink "HallPlan$Setup" (9 : Nat) "java/util/ArrayList") ∈ lw_all := lw_g (lw_at lw_m1 55 rfl) rfl
theorem q198 : (Jvm.Cond.methodLink "HallPlan$Setup" (11 : Nat) ({ cls := "java/util/ArrayList", name := "<init>", desc := "()V" } : Jvm.MethodName)) ∈ lw_all := lw_g (lw_at lw_m1 57 rfl) rfl
theorem q226 : (Jvm.Cond.classLink "HallPlan$Setup" (21 : Nat) "[[I") ∈ lw_all := lw_g (lw_at lw_m1 85 rfl) rfl
theorem q228 : (Jvm.Cond.classLink "HallPlan$Setup" (26 : Nat) "HallPlan$Closure") ∈ lw_all := lw_g (lw_at lw_m1 87 rfl) rfl
theorem q230 : (Jvm.Cond.classLink "HallPlan$Setup" (35 : Nat) "HallPlan$Fee") ∈ lw_all := lw_g (lw_at lw_m1 89 rfl) rfl
theorem q232 : (Jvm.Cond.fieldLink "HallPlan$Setup" (12 : Nat) "HallPlan$Setup" "halls" "Ljava/util/List;") ∈ lw_all := lw_g (lw_at lw_m1 91 rfl) rfl
theorem q235 : (Jvm.Cond.fieldLink "HallPlan$Setup" (18 : Nat) "HallPlan$Setup" "kinds" "Ljava/util/List;") ∈ lw_all := lw_g (lw_at lw_m1 94 rfl) rfl
theorem q238 : (Jvm.Cond.fieldLink "HallPlan$Setup" (23 : Nat) "HallPlan$Setup" "between" "[[I") ∈ lw_all := lw_g (lw_at lw_m1 97 rfl) rfl
theorem q242 : (Jvm.Cond.fieldLink "HallPlan$Setup" (28 : Nat) "HallPlan$Setup" "closures" "[LHallPlan$Closure;") ∈ lw_all := lw_g (lw_at lw_m1 101 rfl) rfl
theorem q243 : (Jvm.Cond.fieldLink "HallPlan$Setup" (32 : Nat) "HallPlan$Setup" "weeklies" "[LHallPlan$Closure;") ∈ lw_all := lw_g (lw_at lw_m1 102 rfl) rfl
theorem q245 : (Jvm.Cond.fieldLink "HallPlan$Setup" (37 : Nat) "HallPlan$Setup" "fees" "[LHallPlan$Fee;") ∈ lw_all := lw_g (lw_at lw_m1 104 rfl) rfl
theorem q246 : (Jvm.Cond.fieldLink "HallPlan$Setup" (41 : Nat) "HallPlan$Setup" "feeDays" "[I") ∈ lw_all := lw_g (lw_at lw_m1 105 rfl) rfl
theorem q250 : (Jvm.Cond.fieldLink "HallPlan$Setup" (45 : Nat) "HallPlan$Setup" "closed" "I") ∈ lw_all := lw_g (lw_at lw_m1 109 rfl) rfl
theorem q252 : (Jvm.Cond.fieldLink "HallPlan$Setup" (53 : Nat) "HallPlan$Setup" "weekly" "I") ∈ lw_all := lw_g (lw_at lw_m1 111 rfl) rfl
theorem q255 : (Jvm.Cond.fieldLink "HallPlan$Setup" (59 : Nat) "HallPlan$Setup" "feeCount" "I") ∈ lw_all := lw_g (lw_at lw_m1 114 rfl) rfl
theorem q258 : (Jvm.Cond.fieldLink "HallPlan$Setup" (97 : Nat) "HallPlan$Setup" "weekend" "I") ∈ lw_all := lw_g (lw_at lw_m1 117 rfl) rfl
theorem q261 : (Jvm.Cond.laysFinal "HallPlan$Setup" "HallPlan$Setup" "halls" "Ljava/util/List;") ∈ lw_all := lw_g (lw_at lw_m1 120 rfl) rfl
theorem q262 : (Jvm.Cond.soleField "HallPlan$Setup" "halls") ∈ lw_all := lw_g (lw_at lw_m1 121 rfl) rfl
theorem q263 : (Jvm.Cond.laysFinal "HallPlan$Setup" "HallPlan$Setup" "kinds" "Ljava/util/List;") ∈ lw_all := lw_g (lw_at lw_m1 122 rfl) rfl
theorem q264 : (Jvm.Cond.soleField "HallPlan$Setup" "kinds") ∈ lw_all := lw_g (lw_at lw_m1 123 rfl) rfl
theorem q265 : (Jvm.Cond.laysFinal "HallPlan$Setup" "HallPlan$Setup" "between" "[[I") ∈ lw_all := lw_g (lw_at lw_m1 124 rfl) rfl
theorem q266 : (Jvm.Cond.soleField "HallPlan$Setup" "between") ∈ lw_all := lw_g (lw_at lw_m1 125 rfl) rfl
theorem q267 : (Jvm.Cond.laysFinal "HallPlan$Setup" "HallPlan$Setup" "closures" "[LHallPlan$Closure;") ∈ lw_all := lw_g (lw_at lw_m1 126 rfl) rfl
theorem q268 : (Jvm.Cond.soleField "HallPlan$Setup" "closures") ∈ lw_all := lw_g (lw_at lw_m1 127 rfl) rfl
theorem q269 : (Jvm.Cond.laysFinal "HallPlan$Setup" "HallPlan$Setup" "weeklies" "[LHallPlan$Closure;") ∈ lw_all := lw_g (lw_at lw_m1 128 rfl) rfl
theorem q270 : (Jvm.Cond.soleField "HallPlan$Setup" "weeklies") ∈ lw_all := lw_g (lw_at lw_m1 129 rfl) rfl
theorem q271 : (Jvm.Cond.laysFinal "HallPlan$Setup" "HallPlan$Setup" "fees" "[LHallPlan$Fee;") ∈ lw_all := lw_g (lw_at lw_m1 130 rfl) rfl
theorem q272 : (Jvm.Cond.soleField "HallPlan$Setup" "fees") ∈ lw_all := lw_g (lw_at lw_m1 131 rfl) rfl
theorem q273 : (Jvm.Cond.laysFinal "HallPlan$Setup" "HallPlan$Setup" "feeDays" "[I") ∈ lw_all := lw_g (lw_at lw_m1 132 rfl) rfl
theorem q274 : (Jvm.Cond.soleField "HallPlan$Setup" "feeDays") ∈ lw_all := lw_g (lw_at lw_m1 133 rfl) rfl
theorem q275 : (Jvm.Cond.lays "HallPlan$Setup" "HallPlan$Setup" "types" "I") ∈ lw_all := lw_g (lw_at lw_m1 134 rfl) rfl
theorem q276 : (Jvm.Cond.soleField "HallPlan$Setup" "types") ∈ lw_all := lw_g (lw_at lw_m1 135 rfl) rfl
theorem q277 : (Jvm.Cond.lays "HallPlan$Setup" "HallPlan$Setup" "closed" "I") ∈ lw_all := lw_g (lw_at lw_m1 136 rfl) rfl
theorem q278 : (Jvm.Cond.soleField "HallPlan$Setup" "closed") ∈ lw_all := lw_g (lw_at lw_m1 137 rfl) rfl
theorem q279 : (Jvm.Cond.lays "HallPlan$Setup" "HallPlan$Setup" "weekly" "I") ∈ lw_all := lw_g (lw_at lw_m1 138 rfl) rfl
theorem q280 : (Jvm.Cond.soleField "HallPlan$Setup" "weekly") ∈ lw_all := lw_g (lw_at lw_m1 139 rfl) rfl
theorem q281 : (Jvm.Cond.lays "HallPlan$Setup" "HallPlan$Setup" "feeCount" "I") ∈ lw_all := lw_g (lw_at lw_m1 140 rfl) rfl
theorem q282 : (Jvm.Cond.soleField "HallPlan$Setup" "feeCount") ∈ lw_all := lw_g (lw_at lw_m1 141 rfl) rfl
theorem q283 : (Jvm.Cond.lays "HallPlan$Setup" "HallPlan$Setup" "weekend" "I") ∈ lw_all := lw_g (lw_at lw_m1 142 rfl) rfl
theorem q284 : (Jvm.Cond.soleField "HallPlan$Setup" "weekend") ∈ lw_all := lw_g (lw_at lw_m1 143 rfl) rfl
theorem q285 : (Jvm.Cond.superclass "HallPlan$Setup" "java/lang/Object") ∈ lw_all := lw_g (lw_at lw_m1 144 rfl) rfl
theorem q338 : (Jvm.Cond.fieldLinkNest "HallPlan$Setup" (80 : Nat) "HallPlan$Event" "duration" "I" "HallPlan") ∈ lw_tbl := lw_at lw_m1 197 rfl
theorem q341 : (Jvm.Cond.fieldLinkNest "HallPlan$Setup" (89 : Nat) "HallPlan$Event" "needs" "[I" "HallPlan") ∈ lw_tbl := lw_at lw_m1 200 rfl
theorem q1062 : (Jvm.Cond.selects "HallPlan$Setup" ({ cls := "java/lang/Object", name := "equals", desc := "(Ljava/lang/Object;)Z" } : Jvm.MethodName) ({ cls := "java/lang/Object", name := "equals", desc := "(Ljava/lang/Object;)Z" } : Jvm.MethodName)) ∈ lw_all := lw_g (lw_at lw_m4 201 rfl) rfl
theorem q1111 : (Jvm.Cond.selects "HallPlan$Setup" ({ cls := "java/lang/Object", name := "getClass", desc := "()Ljava/lang/Class;" } : Jvm.MethodName) ({ cls := "java/lang/Object", name := "getClass", desc := "()Ljava/lang/Class;" } : Jvm.MethodName)) ∈ lw_all := lw_g (lw_at lw_m5 10 rfl) rfl
theorem q1156 : (Jvm.Cond.fieldLinkNest "HallPlan$Setup" (77 : Nat) "HallPlan$Hall" "rate" "I" "HallPlan") ∈ lw_tbl := lw_at lw_m5 55 rfl
theorem q1183 : (Jvm.Cond.fieldLinkNest "HallPlan$Setup" (94 : Nat) "HallPlan$Kind" "price" "I" "HallPlan") ∈ lw_tbl := lw_at lw_m5 82 rfl
theorem q1215 : (Jvm.Cond.instanceMethod ({ cls := "HallPlan$Setup", name := "addClosure", desc := "(III)V" } : Jvm.MethodName)) ∈ lw_all := lw_g (lw_at lw_m5 114 rfl) rfl
theorem q1216 : (Jvm.Cond.selects "HallPlan$Setup" ({ cls := "HallPlan$Setup", name := "addClosure", desc := "(III)V" } : Jvm.MethodName) ({ cls := "HallPlan$Setup", name := "addClosure", desc := "(III)V" } : Jvm.MethodName)) ∈ lw_all := lw_g (lw_at lw_m5 115 rfl) rfl
theorem q1217 : (Jvm.Cond.code ({ cls := "HallPlan$Setup", name := "addClosure", desc := "(III)V" } : Jvm.MethodName) prog_13_method_2_code (4 : Nat) (Option.none : Option Jvm.ClassFile.FieldType)) ∈ lw_all := lw_g (lw_at lw_m5 116 rfl) rfl
theorem q1218 : (Jvm.Cond.methodLinkNest "HallPlan$Setup" (49 : Nat) ({ cls := "HallPlan", name := "closure", desc := "(III)LHallPlan$Closure;" } : Jvm.MethodName) "HallPlan") ∈ lw_tbl := lw_at lw_m5 117 rfl
theorem q1228 : (Jvm.Cond.instanceMethod ({ cls := "HallPlan$Setup", name := "addWeekly", desc := "(III)V" } : Jvm.MethodName)) ∈ lw_all := lw_g (lw_at lw_m5 127 rfl) rfl
theorem q1229 : (Jvm.Cond.selects "HallPlan$Setup" ({ cls := "HallPlan$Setup", name := "addWeekly", desc := "(III)V" } : Jvm.MethodName) ({ cls := "HallPlan$Setup", name := "addWeekly", desc := "(III)V" } : Jvm.MethodName)) ∈ lw_all := lw_g (lw_at lw_m5 128 rfl) rfl
theorem q1230 : (Jvm.Cond.code ({ cls := "HallPlan$Setup", name := "addWeekly", desc := "(III)V" } : Jvm.MethodName) prog_13_method_3_code (4 : Nat) (Option.none : Option Jvm.ClassFile.FieldType)) ∈ lw_all := lw_g (lw_at lw_m5 129 rfl) rfl
theorem q1231 : (Jvm.Cond.static ({ cls := "HallPlan$Setup", name := "lambda$addWeekly$0", desc := "(IIIIII)Z" } : Jvm.MethodName)) ∈ lw_all := lw_g (lw_at lw_m5 130 rfl) rfl
theorem q1232 : (Jvm.Cond.code ({ cls := "HallPlan$Setup", name := "lambda$addWeekly$0", desc := "(IIIIII)Z" } : Jvm.MethodName) prog_13_method_9_code (6 : Nat) (Option.some Jvm.ClassFile.FieldType.boolean)) ∈ lw_all := lw_g (lw_at lw_m5 131 rfl) rfl
theorem q1238 : (Jvm.Cond.instanceMethod ({ cls := "HallPlan$Setup", name := "hasFee", desc := "(I)Z" } : Jvm.MethodName)) ∈ lw_all := lw_g (lw_at lw_m5 137 rfl) rfl
theorem q1239 : (Jvm.Cond.selects "HallPlan$Setup" ({ cls := "HallPlan$Setup", name := "hasFee", desc := "(I)Z" } : Jvm.MethodName) ({ cls := "HallPlan$Setup", name := "hasFee", desc := "(I)Z" } : Jvm.MethodName)) ∈ lw_all := lw_g (lw_at lw_m5 138 rfl) rfl
theorem q1240 : (Jvm.Cond.code ({ cls := "HallPlan$Setup", name := "hasFee", desc := "(I)Z" } : Jvm.MethodName) prog_13_method_4_code (4 : Nat) (Option.some Jvm.ClassFile.FieldType.boolean)) ∈ lw_all := lw_g (lw_at lw_m5 139 rfl) rfl
theorem q1242 : (Jvm.Cond.instanceMethod ({ cls := "HallPlan$Setup", name := "addFee", desc := "(II)V" } : Jvm.MethodName)) ∈ lw_all := lw_g (lw_at lw_m5 141 rfl) rfl
theorem q1243 : (Jvm.Cond.selects "HallPlan$Setup" ({ cls := "HallPlan$Setup", name := "addFee", desc := "(II)V" } : Jvm.MethodName) ({ cls := "HallPlan$Setup", name := "addFee", desc := "(II)V" } : Jvm.MethodName)) ∈ lw_all := lw_g (lw_at lw_m5 142 rfl) rfl
theorem q1244 : (Jvm.Cond.code ({ cls := "HallPlan$Setup", name := "addFee", desc := "(II)V" } : Jvm.MethodName) prog_13_method_5_code (4 : Nat) (Option.none : Option Jvm.ClassFile.FieldType)) ∈ lw_all := lw_g (lw_at lw_m5 143 rfl) rfl
theorem q1245 : (Jvm.Cond.static ({ cls := "HallPlan$Setup", name := "lambda$addFee$1", desc := "(III)I" } : Jvm.MethodName)) ∈ lw_all := lw_g (lw_at lw_m5 144 rfl) rfl
theorem q1246 : (Jvm.Cond.code ({ cls := "HallPlan$Setup", name := "lambda$addFee$1", desc := "(III)I" } : Jvm.MethodName) prog_13_method_8_code (3 : Nat) (Option.some Jvm.ClassFile.FieldType.int)) ∈ lw_all := lw_g (lw_at lw_m5 145 rfl) rfl
theorem q1562 : (Jvm.Cond.instanceMethod ({ cls := "HallPlan$Setup", name := "price", desc := "(LHallPlan$Event;II)I" } : Jvm.MethodName)) ∈ lw_all := lw_g (lw_at lw_m6 221 rfl) rfl
theorem q1563 : (Jvm.Cond.selects "HallPlan$Setup" ({ cls := "HallPlan$Setup", name := "price", desc := "(LHallPlan$Event;II)I" } : Jvm.MethodName) ({ cls := "HallPlan$Setup", name := "price", desc := "(LHallPlan$Event;II)I" } : Jvm.MethodName)) ∈ lw_all := lw_g (lw_at lw_m6 222 rfl) rfl
theorem q1564 : (Jvm.Cond.code ({ cls := "HallPlan$Setup", name := "price", desc := "(LHallPlan$Event;II)I" } : Jvm.MethodName) prog_13_method_7_code (6 : Nat) (Option.some Jvm.ClassFile.FieldType.int)) ∈ lw_all := lw_g (lw_at lw_m6 223 rfl) rfl
theorem q1565 : (Jvm.Cond.interfaceEntry "HallPlan$Setup" (69 : Nat)) ∈ lw_tbl := lw_at lw_m6 224 rfl
theorem q1566 : (Jvm.Cond.methodLink "HallPlan$Setup" (69 : Nat) ({ cls := "java/util/List", name := "get", desc := "(I)Ljava/lang/Object;" } : Jvm.MethodName)) ∈ lw_all := lw_g (lw_at lw_m6 225 rfl) rfl
theorem q1567 : (Jvm.Cond.classLink "HallPlan$Setup" (75 : Nat) "HallPlan$Hall") ∈ lw_all := lw_g (lw_at lw_m6 226 rfl) rfl
theorem q1568 : (Jvm.Cond.interfaceEntry "HallPlan$Setup" (85 : Nat)) ∈ lw_tbl := lw_at lw_m6 227 rfl
theorem q1569 : (Jvm.Cond.methodLink "HallPlan$Setup" (85 : Nat) ({ cls := "java/util/List", name := "size", desc := "()I" } : Jvm.MethodName)) ∈ lw_all := lw_g (lw_at lw_m6 228 rfl) rfl
theorem q1570 : (Jvm.Cond.classLink "HallPlan$Setup" (92 : Nat) "HallPlan$Kind") ∈ lw_all := lw_g (lw_at lw_m6 229 rfl) rfl
theorem q1598 : (Jvm.Cond.instanceMethod ({ cls := "HallPlan$Setup", name := "feePercent", desc := "(I)I" } : Jvm.MethodName)) ∈ lw_all := lw_g (lw_at lw_m7 17 rfl) rfl
theorem q1599 : (Jvm.Cond.selects "HallPlan$Setup" ({ cls := "HallPlan$Setup", name := "feePercent", desc := "(I)I" } : Jvm.MethodName) ({ cls := "HallPlan$Setup", name := "feePercent", desc := "(I)I" } : Jvm.MethodName)) ∈ lw_all := lw_g (lw_at lw_m7 18 rfl) rfl
theorem q1600 : (Jvm.Cond.code ({ cls := "HallPlan$Setup", name := "feePercent", desc := "(I)I" } : Jvm.MethodName) prog_13_method_6_code (4 : Nat) (Option.some Jvm.ClassFile.FieldType.int)) ∈ lw_all := lw_g (lw_at lw_m7 19 rfl) rfl
theorem q1601 : (Jvm.Cond.interfaceEntry "HallPlan$Setup" (66 : Nat)) ∈ lw_tbl := lw_at lw_m7 20 rfl
theorem q1602 : (Jvm.Cond.methodLink "HallPlan$Setup" (66 : Nat) ({ cls := "HallPlan$Fee", name := "percent", desc := "(I)I" } : Jvm.MethodName)) ∈ lw_all := lw_g (lw_at lw_m7 21 rfl) rfl
theorem q2764 : (Jvm.Cond.castable "HallPlan$Setup" "java/lang/Object") ∈ lw_tbl := lw_at lw_m11 223 rfl
theorem in_X2 : ∀ w ∈ wsX20, w ∈ lw_all := lw_in wsX20 [261, 263, 265, 267, 269, 271, 273, 275, 277, 279, 281, 283] (by decide +kernel) (by decide +kernel)
/-! HallPlan$State -/
set_option maxRecDepth 100000
def RX3 : String := "HallPlan$State"
def TX3 : u_T := fun k => match k with
  | 0 => ("HallPlan$State", "bookings", "Ljava/util/List;", true)
  | 1 => ("HallPlan$State", "requests", "Ljava/util/List;", true)
  | 2 => ("HallPlan$State", "closures", "[LHallPlan$Closure;", true)
  | 3 => ("HallPlan$State", "closed", "I", false)
  | _ => ("HallPlan$State", "now", "I", false)
def tyX3 : Nat → FieldType := fun k => match k with
  | 0 => .object "java/util/List"
  | 1 => .object "java/util/List"
  | 2 => .array (.object "HallPlan$Closure")
  | 3 => .int
  | _ => .int
abbrev wsX30 : List Cond := u_ws RX3 TX3 5
theorem nmX3 : ∀ a, a < 5 → ∀ b, b < 5 → a ≠ b → (TX3 a).2.1 ≠ (TX3 b).2.1 := by decide +kernel
theorem tyX3_ok : ∀ k, k < 5 → parseFieldDescriptor (TX3 k).2.2.1 = some (tyX3 k) := by decide +kernel
abbrev cX3_init : ByteArray := prog_14_method_1_code
def yX3_init : MethodName := ⟨RX3, "<init>", "(LHallPlan$Setup;)V"⟩
def dkwX3_init_2 : List UInt8 := [184, 0, 30, 42, 43, 180, 0, 36, 181, 0, 40, 177]
abbrev dktX3_init_2 : List UInt8 := dkwX3_init_2 ++ []
def dkwX3_init_1 : List UInt8 := [181, 0, 18, 42, 16, 16, 189, 0, 21, 181, 0, 23, 43, 180, 0, 27, 3, 42, 180, 0, 23, 3, 16, 16]
abbrev dktX3_init_1 : List UInt8 := dkwX3_init_1 ++ dktX3_init_2
def dkwX3_init_0 : List UInt8 := [42, 183, 0, 3, 42, 187, 0, 9, 89, 183, 0, 11, 181, 0, 12, 42, 187, 0, 9, 89, 183, 0, 11]
abbrev dktX3_init_0 : List UInt8 := dkwX3_init_0 ++ dktX3_init_1
theorem dksX3_init_0 : cX3_init.data.toList.drop 0 = dktX3_init_0 := by decide +kernel
theorem dksX3_init_1 : cX3_init.data.toList.drop 23 = dktX3_init_1 := dk_seg dksX3_init_0 23 rfl rfl
theorem dksX3_init_2 : cX3_init.data.toList.drop 47 = dktX3_init_2 := dk_seg dksX3_init_1 24 rfl rfl
theorem dX3_init_0 : decode cX3_init 0 = .ok (.aload_n 0, 1) := dk_42 (dk_at dksX3_init_0 0 rfl rfl)
theorem dX3_init_1 : decode cX3_init 1 = .ok (.invokespecial 3, 3) := dk_183 0 3 (dk_at dksX3_init_0 1 rfl rfl)
theorem dX3_init_4 : decode cX3_init 4 = .ok (.aload_n 0, 1) := dk_42 (dk_at dksX3_init_0 4 rfl rfl)
theorem dX3_init_5 : decode cX3_init 5 = .ok (.new 9, 3) := dk_187 0 9 (dk_at dksX3_init_0 5 rfl rfl)
theorem dX3_init_8 : decode cX3_init 8 = .ok (.dup, 1) := dk_89 (dk_at dksX3_init_0 8 rfl rfl)
theorem dX3_init_9 : decode cX3_init 9 = .ok (.invokespecial 11, 3) := dk_183 0 11 (dk_at dksX3_init_0 9 rfl rfl)
theorem dX3_init_12 : decode cX3_init 12 = .ok (.putfield 12, 3) := dk_181 0 12 (dk_at dksX3_init_0 12 rfl rfl)
theorem dX3_init_15 : decode cX3_init 15 = .ok (.aload_n 0, 1) := dk_42 (dk_at dksX3_init_0 15 rfl rfl)
theorem dX3_init_16 : decode cX3_init 16 = .ok (.new 9, 3) := dk_187 0 9 (dk_at dksX3_init_0 16 rfl rfl)
theorem dX3_init_19 : decode cX3_init 19 = .ok (.dup, 1) := dk_89 (dk_at dksX3_init_0 19 rfl rfl)
theorem dX3_init_20 : decode cX3_init 20 = .ok (.invokespecial 11, 3) := dk_183 0 11 (dk_at dksX3_init_0 20 rfl rfl)
theorem dX3_init_23 : decode cX3_init 23 = .ok (.putfield 18, 3) := dk_181 0 18 (dk_at dksX3_init_1 0 rfl rfl)
theorem dX3_init_26 : decode cX3_init 26 = .ok (.aload_n 0, 1) := dk_42 (dk_at dksX3_init_1 3 rfl rfl)
theorem dX3_init_27 : decode cX3_init 27 = .ok (.bipush 16, 2) := dk_16 16 (dk_at dksX3_init_1 4 rfl rfl)
theorem dX3_init_29 : decode cX3_init 29 = .ok (.anewarray 21, 3) := dk_189 0 21 (dk_at dksX3_init_1 6 rfl rfl)
theorem dX3_init_32 : decode cX3_init 32 = .ok (.putfield 23, 3) := dk_181 0 23 (dk_at dksX3_init_1 9 rfl rfl)
theorem dX3_init_35 : decode cX3_init 35 = .ok (.aload_n 1, 1) := dk_43 (dk_at dksX3_init_1 12 rfl rfl)
theorem dX3_init_36 : decode cX3_init 36 = .ok (.getfield 27, 3) := dk_180 0 27 (dk_at dksX3_init_1 13 rfl rfl)
theorem dX3_init_39 : decode cX3_init 39 = .ok (.iconst 0, 1) := dk_3 (dk_at dksX3_init_1 16 rfl rfl)
theorem dX3_init_40 : decode cX3_init 40 = .ok (.aload_n 0, 1) := dk_42 (dk_at dksX3_init_1 17 rfl rfl)
theorem dX3_init_41 : decode cX3_init 41 = .ok (.getfield 23, 3) := dk_180 0 23 (dk_at dksX3_init_1 18 rfl rfl)
theorem dX3_init_44 : decode cX3_init 44 = .ok (.iconst 0, 1) := dk_3 (dk_at dksX3_init_1 21 rfl rfl)
theorem dX3_init_45 : decode cX3_init 45 = .ok (.bipush 16, 2) := dk_16 16 (dk_at dksX3_init_1 22 rfl rfl)
theorem dX3_init_47 : decode cX3_init 47 = .ok (.invokestatic 30, 3) := dk_184 0 30 (dk_at dksX3_init_2 0 rfl rfl)
theorem dX3_init_50 : decode cX3_init 50 = .ok (.aload_n 0, 1) := dk_42 (dk_at dksX3_init_2 3 rfl rfl)
theorem dX3_init_51 : decode cX3_init 51 = .ok (.aload_n 1, 1) := dk_43 (dk_at dksX3_init_2 4 rfl rfl)
theorem dX3_init_52 : decode cX3_init 52 = .ok (.getfield 36, 3) := dk_180 0 36 (dk_at dksX3_init_2 5 rfl rfl)
theorem dX3_init_55 : decode cX3_init 55 = .ok (.putfield 40, 3) := dk_181 0 40 (dk_at dksX3_init_2 8 rfl rfl)
theorem dX3_init_58 : decode cX3_init 58 = .ok (.return_, 1) := dk_177 (dk_at dksX3_init_2 11 rfl rfl)
abbrev cX3_init_2 : ByteArray := prog_14_method_2_code
def yX3_init_2 : MethodName := ⟨RX3, "<init>", "(LHallPlan$State;)V"⟩
def dkwX3_init_2_6 : List UInt8 := [184, 0, 30, 42, 43, 180, 0, 40, 181, 0, 40, 42, 43, 180, 0, 63, 181, 0, 63, 177]
abbrev dktX3_init_2_6 : List UInt8 := dkwX3_init_2_6 ++ []
def dkwX3_init_2_5 : List UInt8 := [185, 0, 57, 2, 0, 87, 132, 2, 1, 167, 255, 217, 43, 180, 0, 23, 3, 42, 180, 0, 23, 3, 16, 16]
abbrev dktX3_init_2_5 : List UInt8 := dkwX3_init_2_5 ++ dktX3_init_2_6
def dkwX3_init_2_4 : List UInt8 := [162, 0, 32, 42, 180, 0, 18, 43, 180, 0, 18, 28, 185, 0, 47, 2, 0, 192, 0, 61]
abbrev dktX3_init_2_4 : List UInt8 := dkwX3_init_2_4 ++ dktX3_init_2_5
def dkwX3_init_2_3 : List UInt8 := [185, 0, 57, 2, 0, 87, 132, 2, 1, 167, 255, 214, 3, 61, 28, 43, 180, 0, 18, 185, 0, 41, 1, 0]
abbrev dktX3_init_2_3 : List UInt8 := dkwX3_init_2_3 ++ dktX3_init_2_4
def dkwX3_init_2_2 : List UInt8 := [162, 0, 35, 42, 180, 0, 12, 43, 180, 0, 12, 28, 185, 0, 47, 2, 0, 192, 0, 51, 182, 0, 53]
abbrev dktX3_init_2_2 : List UInt8 := dkwX3_init_2_2 ++ dktX3_init_2_3
def dkwX3_init_2_1 : List UInt8 := [181, 0, 18, 42, 16, 16, 189, 0, 21, 181, 0, 23, 3, 61, 28, 43, 180, 0, 12, 185, 0, 41, 1, 0]
abbrev dktX3_init_2_1 : List UInt8 := dkwX3_init_2_1 ++ dktX3_init_2_2
def dkwX3_init_2_0 : List UInt8 := [42, 183, 0, 3, 42, 187, 0, 9, 89, 183, 0, 11, 181, 0, 12, 42, 187, 0, 9, 89, 183, 0, 11]
abbrev dktX3_init_2_0 : List UInt8 := dkwX3_init_2_0 ++ dktX3_init_2_1
theorem dksX3_init_2_0 : cX3_init_2.data.toList.drop 0 = dktX3_init_2_0 := by decide +kernel
theorem dksX3_init_2_1 : cX3_init_2.data.toList.drop 23 = dktX3_init_2_1 := dk_seg dksX3_init_2_0 23 rfl rfl
theorem dksX3_init_2_2 : cX3_init_2.data.toList.drop 47 = dktX3_init_2_2 := dk_seg dksX3_init_2_1 24 rfl rfl
theorem dksX3_init_2_3 : cX3_init_2.data.toList.drop 70 = dktX3_init_2_3 := dk_seg dksX3_init_2_2 23 rfl rfl
theorem dksX3_init_2_4 : cX3_init_2.data.toList.drop 94 = dktX3_init_2_4 := dk_seg dksX3_init_2_3 24 rfl rfl
theorem dksX3_init_2_5 : cX3_init_2.data.toList.drop 114 = dktX3_init_2_5 := dk_seg dksX3_init_2_4 20 rfl rfl
theorem dksX3_init_2_6 : cX3_init_2.data.toList.drop 138 = dktX3_init_2_6 := dk_seg dksX3_init_2_5 24 rfl rfl
theorem dX3_init_2_0 : decode cX3_init_2 0 = .ok (.aload_n 0, 1) := dk_42 (dk_at dksX3_init_2_0 0 rfl rfl)
theorem dX3_init_2_1 : decode cX3_init_2 1 = .ok (.invokespecial 3, 3) := dk_183 0 3 (dk_at dksX3_init_2_0 1 rfl rfl)
theorem dX3_init_2_4 : decode cX3_init_2 4 = .ok (.aload_n 0, 1) := dk_42 (dk_at dksX3_init_2_0 4 rfl rfl)
theorem dX3_init_2_5 : decode cX3_init_2 5 = .ok (.new 9, 3) := dk_187 0 9 (dk_at dksX3_init_2_0 5 rfl rfl)
theorem dX3_init_2_8 : decode cX3_init_2 8 = .ok (.dup, 1) := dk_89 (dk_at dksX3_init_2_0 8 rfl rfl)
theorem dX3_init_2_9 : decode cX3_init_2 9 = .ok (.invokespecial 11, 3) := dk_183 0 11 (dk_at dksX3_init_2_0 9 rfl rfl)
theorem dX3_init_2_12 : decode cX3_init_2 12 = .ok (.putfield 12, 3) := dk_181 0 12 (dk_at dksX3_init_2_0 12 rfl rfl)
theorem dX3_init_2_15 : decode cX3_init_2 15 = .ok (.aload_n 0, 1) := dk_42 (dk_at dksX3_init_2_0 15 rfl rfl)
theorem dX3_init_2_16 : decode cX3_init_2 16 = .ok (.new 9, 3) := dk_187 0 9 (dk_at dksX3_init_2_0 16 rfl rfl)
theorem dX3_init_2_19 : decode cX3_init_2 19 = .ok (.dup, 1) := dk_89 (dk_at dksX3_init_2_0 19 rfl rfl)
theorem dX3_init_2_20 : decode cX3_init_2 20 = .ok (.invokespecial 11, 3) := dk_183 0 11 (dk_at dksX3_init_2_0 20 rfl rfl)
theorem dX3_init_2_23 : decode cX3_init_2 23 = .ok (.putfield 18, 3) := dk_181 0 18 (dk_at dksX3_init_2_1 0 rfl rfl)
theorem dX3_init_2_26 : decode cX3_init_2 26 = .ok (.aload_n 0, 1) := dk_42 (dk_at dksX3_init_2_1 3 rfl rfl)
theorem dX3_init_2_27 : decode cX3_init_2 27 = .ok (.bipush 16, 2) := dk_16 16 (dk_at dksX3_init_2_1 4 rfl rfl)
theorem dX3_init_2_29 : decode cX3_init_2 29 = .ok (.anewarray 21, 3) := dk_189 0 21 (dk_at dksX3_init_2_1 6 rfl rfl)
theorem dX3_init_2_32 : decode cX3_init_2 32 = .ok (.putfield 23, 3) := dk_181 0 23 (dk_at dksX3_init_2_1 9 rfl rfl)
theorem dX3_init_2_35 : decode cX3_init_2 35 = .ok (.iconst 0, 1) := dk_3 (dk_at dksX3_init_2_1 12 rfl rfl)
theorem dX3_init_2_36 : decode cX3_init_2 36 = .ok (.istore_n 2, 1) := dk_61 (dk_at dksX3_init_2_1 13 rfl rfl)
theorem dX3_init_2_37 : decode cX3_init_2 37 = .ok (.iload_n 2, 1) := dk_28 (dk_at dksX3_init_2_1 14 rfl rfl)
theorem dX3_init_2_38 : decode cX3_init_2 38 = .ok (.aload_n 1, 1) := dk_43 (dk_at dksX3_init_2_1 15 rfl rfl)
theorem dX3_init_2_39 : decode cX3_init_2 39 = .ok (.getfield 12, 3) := dk_180 0 12 (dk_at dksX3_init_2_1 16 rfl rfl)
theorem dX3_init_2_42 : decode cX3_init_2 42 = .ok (.invokeinterface 41 1, 5) := by decide +kernel
theorem dX3_init_2_47 : decode cX3_init_2 47 = .ok (.if_icmp .ge 35, 3) := dk_162 0 35 (dk_at dksX3_init_2_2 0 rfl rfl)
theorem dX3_init_2_50 : decode cX3_init_2 50 = .ok (.aload_n 0, 1) := dk_42 (dk_at dksX3_init_2_2 3 rfl rfl)
theorem dX3_init_2_51 : decode cX3_init_2 51 = .ok (.getfield 12, 3) := dk_180 0 12 (dk_at dksX3_init_2_2 4 rfl rfl)
theorem dX3_init_2_54 : decode cX3_init_2 54 = .ok (.aload_n 1, 1) := dk_43 (dk_at dksX3_init_2_2 7 rfl rfl)
theorem dX3_init_2_55 : decode cX3_init_2 55 = .ok (.getfield 12, 3) := dk_180 0 12 (dk_at dksX3_init_2_2 8 rfl rfl)
theorem dX3_init_2_58 : decode cX3_init_2 58 = .ok (.iload_n 2, 1) := dk_28 (dk_at dksX3_init_2_2 11 rfl rfl)
theorem dX3_init_2_59 : decode cX3_init_2 59 = .ok (.invokeinterface 47 2, 5) := by decide +kernel
theorem dX3_init_2_64 : decode cX3_init_2 64 = .ok (.checkcast 51, 3) := dk_192 0 51 (dk_at dksX3_init_2_2 17 rfl rfl)
theorem dX3_init_2_67 : decode cX3_init_2 67 = .ok (.invokevirtual 53, 3) := dk_182 0 53 (dk_at dksX3_init_2_2 20 rfl rfl)
theorem dX3_init_2_70 : decode cX3_init_2 70 = .ok (.invokeinterface 57 2, 5) := by decide +kernel
theorem dX3_init_2_75 : decode cX3_init_2 75 = .ok (.pop, 1) := dk_87 (dk_at dksX3_init_2_3 5 rfl rfl)
theorem dX3_init_2_76 : decode cX3_init_2 76 = .ok (.iinc 2 1, 3) := dk_132 2 1 (dk_at dksX3_init_2_3 6 rfl rfl)
theorem dX3_init_2_79 : decode cX3_init_2 79 = .ok (.goto (-42), 3) := dk_167 255 214 (dk_at dksX3_init_2_3 9 rfl rfl)
theorem dX3_init_2_82 : decode cX3_init_2 82 = .ok (.iconst 0, 1) := dk_3 (dk_at dksX3_init_2_3 12 rfl rfl)
theorem dX3_init_2_83 : decode cX3_init_2 83 = .ok (.istore_n 2, 1) := dk_61 (dk_at dksX3_init_2_3 13 rfl rfl)
theorem dX3_init_2_84 : decode cX3_init_2 84 = .ok (.iload_n 2, 1) := dk_28 (dk_at dksX3_init_2_3 14 rfl rfl)
theorem dX3_init_2_85 : decode cX3_init_2 85 = .ok (.aload_n 1, 1) := dk_43 (dk_at dksX3_init_2_3 15 rfl rfl)
theorem dX3_init_2_86 : decode cX3_init_2 86 = .ok (.getfield 18, 3) := dk_180 0 18 (dk_at dksX3_init_2_3 16 rfl rfl)
theorem dX3_init_2_89 : decode cX3_init_2 89 = .ok (.invokeinterface 41 1, 5) := by decide +kernel
theorem dX3_init_2_94 : decode cX3_init_2 94 = .ok (.if_icmp .ge 32, 3) := dk_162 0 32 (dk_at dksX3_init_2_4 0 rfl rfl)
theorem dX3_init_2_97 : decode cX3_init_2 97 = .ok (.aload_n 0, 1) := dk_42 (dk_at dksX3_init_2_4 3 rfl rfl)
theorem dX3_init_2_98 : decode cX3_init_2 98 = .ok (.getfield 18, 3) := dk_180 0 18 (dk_at dksX3_init_2_4 4 rfl rfl)
theorem dX3_init_2_101 : decode cX3_init_2 101 = .ok (.aload_n 1, 1) := dk_43 (dk_at dksX3_init_2_4 7 rfl rfl)
theorem dX3_init_2_102 : decode cX3_init_2 102 = .ok (.getfield 18, 3) := dk_180 0 18 (dk_at dksX3_init_2_4 8 rfl rfl)
theorem dX3_init_2_105 : decode cX3_init_2 105 = .ok (.iload_n 2, 1) := dk_28 (dk_at dksX3_init_2_4 11 rfl rfl)
theorem dX3_init_2_106 : decode cX3_init_2 106 = .ok (.invokeinterface 47 2, 5) := by decide +kernel
theorem dX3_init_2_111 : decode cX3_init_2 111 = .ok (.checkcast 61, 3) := dk_192 0 61 (dk_at dksX3_init_2_4 17 rfl rfl)
theorem dX3_init_2_114 : decode cX3_init_2 114 = .ok (.invokeinterface 57 2, 5) := by decide +kernel
theorem dX3_init_2_119 : decode cX3_init_2 119 = .ok (.pop, 1) := dk_87 (dk_at dksX3_init_2_5 5 rfl rfl)
theorem dX3_init_2_120 : decode cX3_init_2 120 = .ok (.iinc 2 1, 3) := dk_132 2 1 (dk_at dksX3_init_2_5 6 rfl rfl)
theorem dX3_init_2_123 : decode cX3_init_2 123 = .ok (.goto (-39), 3) := dk_167 255 217 (dk_at dksX3_init_2_5 9 rfl rfl)
theorem dX3_init_2_126 : decode cX3_init_2 126 = .ok (.aload_n 1, 1) := dk_43 (dk_at dksX3_init_2_5 12 rfl rfl)
theorem dX3_init_2_127 : decode cX3_init_2 127 = .ok (.getfield 23, 3) := dk_180 0 23 (dk_at dksX3_init_2_5 13 rfl rfl)
theorem dX3_init_2_130 : decode cX3_init_2 130 = .ok (.iconst 0, 1) := dk_3 (dk_at dksX3_init_2_5 16 rfl rfl)
theorem dX3_init_2_131 : decode cX3_init_2 131 = .ok (.aload_n 0, 1) := dk_42 (dk_at dksX3_init_2_5 17 rfl rfl)
theorem dX3_init_2_132 : decode cX3_init_2 132 = .ok (.getfield 23, 3) := dk_180 0 23 (dk_at dksX3_init_2_5 18 rfl rfl)
theorem dX3_init_2_135 : decode cX3_init_2 135 = .ok (.iconst 0, 1) := dk_3 (dk_at dksX3_init_2_5 21 rfl rfl)
theorem dX3_init_2_136 : decode cX3_init_2 136 = .ok (.bipush 16, 2) := dk_16 16 (dk_at dksX3_init_2_5 22 rfl rfl)
theorem dX3_init_2_138 : decode cX3_init_2 138 = .ok (.invokestatic 30, 3) := dk_184 0 30 (dk_at dksX3_init_2_6 0 rfl rfl)
theorem dX3_init_2_141 : decode cX3_init_2 141 = .ok (.aload_n 0, 1) := dk_42 (dk_at dksX3_init_2_6 3 rfl rfl)
theorem dX3_init_2_142 : decode cX3_init_2 142 = .ok (.aload_n 1, 1) := dk_43 (dk_at dksX3_init_2_6 4 rfl rfl)
theorem dX3_init_2_143 : decode cX3_init_2 143 = .ok (.getfield 40, 3) := dk_180 0 40 (dk_at dksX3_init_2_6 5 rfl rfl)
theorem dX3_init_2_146 : decode cX3_init_2 146 = .ok (.putfield 40, 3) := dk_181 0 40 (dk_at dksX3_init_2_6 8 rfl rfl)
theorem dX3_init_2_149 : decode cX3_init_2 149 = .ok (.aload_n 0, 1) := dk_42 (dk_at dksX3_init_2_6 11 rfl rfl)
theorem dX3_init_2_150 : decode cX3_init_2 150 = .ok (.aload_n 1, 1) := dk_43 (dk_at dksX3_init_2_6 12 rfl rfl)
theorem dX3_init_2_151 : decode cX3_init_2 151 = .ok (.getfield 63, 3) := dk_180 0 63 (dk_at dksX3_init_2_6 13 rfl rfl)
theorem dX3_init_2_154 : decode cX3_init_2 154 = .ok (.putfield 63, 3) := dk_181 0 63 (dk_at dksX3_init_2_6 16 rfl rfl)
theorem dX3_init_2_157 : decode cX3_init_2 157 = .ok (.return_, 1) := dk_177 (dk_at dksX3_init_2_6 19 rfl rfl)
theorem q147 : (Jvm.Cond.initialized "HallPlan$State") ∈ lw_all := lw_g (lw_at lw_m1 6 rfl) rfl
theorem q241 : (Jvm.Cond.fieldLinkNest "HallPlan$State" (27 : Nat) "HallPlan$Setup" "closures" "[LHallPlan$Closure;" "HallPlan") ∈ lw_tbl := lw_at lw_m1 100 rfl
theorem q249 : (Jvm.Cond.fieldLinkNest "HallPlan$State" (36 : Nat) "HallPlan$Setup" "closed" "I" "HallPlan") ∈ lw_tbl := lw_at lw_m1 108 rfl
theorem q288 : (Jvm.Cond.instantiable "HallPlan$State" (5 : Nat)) ∈ lw_all := lw_g (lw_at lw_m1 147 rfl) rfl
theorem q290 : (Jvm.Cond.instanceMethod ({ cls := "HallPlan$State", name := "<init>", desc := "(LHallPlan$Setup;)V" } : Jvm.MethodName)) ∈ lw_all := lw_g (lw_at lw_m1 149 rfl) rfl
theorem q291 : (Jvm.Cond.code ({ cls := "HallPlan$State", name := "<init>", desc := "(LHallPlan$Setup;)V" } : Jvm.MethodName) prog_14_method_1_code (2 : Nat) (Option.none : Option Jvm.ClassFile.FieldType)) ∈ lw_all := lw_g (lw_at lw_m1 150 rfl) rfl
theorem q292 : (Jvm.Cond.methodLink "HallPlan$State" (3 : Nat) ({ cls := "java/lang/Object", name := "<init>", desc := "()V" } : Jvm.MethodName)) ∈ lw_all := lw_g (lw_at lw_m1 151 rfl) rfl
theorem q293 : (Jvm.Cond.classLink "HallPlan$State" (9 : Nat) "java/util/ArrayList") ∈ lw_all := lw_g (lw_at lw_m1 152 rfl) rfl
theorem q294 : (Jvm.Cond.methodLink "HallPlan$State" (11 : Nat) ({ cls := "java/util/ArrayList", name := "<init>", desc := "()V" } : Jvm.MethodName)) ∈ lw_all := lw_g (lw_at lw_m1 153 rfl) rfl
theorem q295 : (Jvm.Cond.classLink "HallPlan$State" (21 : Nat) "HallPlan$Closure") ∈ lw_all := lw_g (lw_at lw_m1 154 rfl) rfl
theorem q296 : (Jvm.Cond.methodLink "HallPlan$State" (30 : Nat) ({ cls := "java/lang/System", name := "arraycopy", desc := "(Ljava/lang/Object;ILjava/lang/Object;II)V" } : Jvm.MethodName)) ∈ lw_all := lw_g (lw_at lw_m1 155 rfl) rfl
theorem q299 : (Jvm.Cond.fieldLink "HallPlan$State" (12 : Nat) "HallPlan$State" "bookings" "Ljava/util/List;") ∈ lw_all := lw_g (lw_at lw_m1 158 rfl) rfl
theorem q301 : (Jvm.Cond.fieldLink "HallPlan$State" (18 : Nat) "HallPlan$State" "requests" "Ljava/util/List;") ∈ lw_all := lw_g (lw_at lw_m1 160 rfl) rfl
theorem q303 : (Jvm.Cond.fieldLink "HallPlan$State" (23 : Nat) "HallPlan$State" "closures" "[LHallPlan$Closure;") ∈ lw_all := lw_g (lw_at lw_m1 162 rfl) rfl
theorem q305 : (Jvm.Cond.fieldLink "HallPlan$State" (40 : Nat) "HallPlan$State" "closed" "I") ∈ lw_all := lw_g (lw_at lw_m1 164 rfl) rfl
theorem q307 : (Jvm.Cond.fieldLink "HallPlan$State" (63 : Nat) "HallPlan$State" "now" "I") ∈ lw_all := lw_g (lw_at lw_m1 166 rfl) rfl
theorem q309 : (Jvm.Cond.laysFinal "HallPlan$State" "HallPlan$State" "bookings" "Ljava/util/List;") ∈ lw_all := lw_g (lw_at lw_m1 168 rfl) rfl
theorem q310 : (Jvm.Cond.soleField "HallPlan$State" "bookings") ∈ lw_all := lw_g (lw_at lw_m1 169 rfl) rfl
theorem q311 : (Jvm.Cond.laysFinal "HallPlan$State" "HallPlan$State" "requests" "Ljava/util/List;") ∈ lw_all := lw_g (lw_at lw_m1 170 rfl) rfl
theorem q312 : (Jvm.Cond.soleField "HallPlan$State" "requests") ∈ lw_all := lw_g (lw_at lw_m1 171 rfl) rfl
theorem q313 : (Jvm.Cond.laysFinal "HallPlan$State" "HallPlan$State" "closures" "[LHallPlan$Closure;") ∈ lw_all := lw_g (lw_at lw_m1 172 rfl) rfl
theorem q314 : (Jvm.Cond.soleField "HallPlan$State" "closures") ∈ lw_all := lw_g (lw_at lw_m1 173 rfl) rfl
theorem q315 : (Jvm.Cond.lays "HallPlan$State" "HallPlan$State" "closed" "I") ∈ lw_all := lw_g (lw_at lw_m1 174 rfl) rfl
theorem q316 : (Jvm.Cond.soleField "HallPlan$State" "closed") ∈ lw_all := lw_g (lw_at lw_m1 175 rfl) rfl
theorem q317 : (Jvm.Cond.lays "HallPlan$State" "HallPlan$State" "now" "I") ∈ lw_all := lw_g (lw_at lw_m1 176 rfl) rfl
theorem q318 : (Jvm.Cond.soleField "HallPlan$State" "now") ∈ lw_all := lw_g (lw_at lw_m1 177 rfl) rfl
theorem q319 : (Jvm.Cond.superclass "HallPlan$State" "java/lang/Object") ∈ lw_all := lw_g (lw_at lw_m1 178 rfl) rfl
theorem q1063 : (Jvm.Cond.selects "HallPlan$State" ({ cls := "java/lang/Object", name := "equals", desc := "(Ljava/lang/Object;)Z" } : Jvm.MethodName) ({ cls := "java/lang/Object", name := "equals", desc := "(Ljava/lang/Object;)Z" } : Jvm.MethodName)) ∈ lw_all := lw_g (lw_at lw_m4 202 rfl) rfl
theorem q1112 : (Jvm.Cond.selects "HallPlan$State" ({ cls := "java/lang/Object", name := "getClass", desc := "()Ljava/lang/Class;" } : Jvm.MethodName) ({ cls := "java/lang/Object", name := "getClass", desc := "()Ljava/lang/Class;" } : Jvm.MethodName)) ∈ lw_all := lw_g (lw_at lw_m5 11 rfl) rfl
theorem q1283 : (Jvm.Cond.instanceMethod ({ cls := "HallPlan$State", name := "<init>", desc := "(LHallPlan$State;)V" } : Jvm.MethodName)) ∈ lw_all := lw_g (lw_at lw_m5 182 rfl) rfl
theorem q1284 : (Jvm.Cond.code ({ cls := "HallPlan$State", name := "<init>", desc := "(LHallPlan$State;)V" } : Jvm.MethodName) prog_14_method_2_code (3 : Nat) (Option.none : Option Jvm.ClassFile.FieldType)) ∈ lw_all := lw_g (lw_at lw_m5 183 rfl) rfl
theorem q1285 : (Jvm.Cond.interfaceEntry "HallPlan$State" (41 : Nat)) ∈ lw_tbl := lw_at lw_m5 184 rfl
theorem q1286 : (Jvm.Cond.methodLink "HallPlan$State" (41 : Nat) ({ cls := "java/util/List", name := "size", desc := "()I" } : Jvm.MethodName)) ∈ lw_all := lw_g (lw_at lw_m5 185 rfl) rfl
theorem q1287 : (Jvm.Cond.interfaceEntry "HallPlan$State" (47 : Nat)) ∈ lw_tbl := lw_at lw_m5 186 rfl
theorem q1288 : (Jvm.Cond.methodLink "HallPlan$State" (47 : Nat) ({ cls := "java/util/List", name := "get", desc := "(I)Ljava/lang/Object;" } : Jvm.MethodName)) ∈ lw_all := lw_g (lw_at lw_m5 187 rfl) rfl
theorem q1289 : (Jvm.Cond.classLink "HallPlan$State" (51 : Nat) "HallPlan$Booking") ∈ lw_all := lw_g (lw_at lw_m5 188 rfl) rfl
theorem q1290 : (Jvm.Cond.methodLink "HallPlan$State" (53 : Nat) ({ cls := "HallPlan$Booking", name := "copy", desc := "()LHallPlan$Booking;" } : Jvm.MethodName)) ∈ lw_all := lw_g (lw_at lw_m5 189 rfl) rfl
theorem q1329 : (Jvm.Cond.interfaceEntry "HallPlan$State" (57 : Nat)) ∈ lw_tbl := lw_at lw_m5 228 rfl
theorem q1330 : (Jvm.Cond.methodLink "HallPlan$State" (57 : Nat) ({ cls := "java/util/List", name := "add", desc := "(Ljava/lang/Object;)Z" } : Jvm.MethodName)) ∈ lw_all := lw_g (lw_at lw_m5 229 rfl) rfl
theorem q1331 : (Jvm.Cond.classLink "HallPlan$State" (61 : Nat) "HallPlan$Request") ∈ lw_all := lw_g (lw_at lw_m5 230 rfl) rfl
theorem q2766 : (Jvm.Cond.castable "HallPlan$State" "java/lang/Object") ∈ lw_tbl := lw_at lw_m11 225 rfl
theorem in_X3 : ∀ w ∈ wsX30, w ∈ lw_all := lw_in wsX30 [309, 311, 313, 315, 317] (by decide +kernel) (by decide +kernel)
/-! HallPlan$Event -/
set_option maxRecDepth 100000
def RX4 : String := "HallPlan$Event"
def TX4 : u_T := fun k => match k with
  | 0 => ("HallPlan$Event", "type", "I", true)
  | 1 => ("HallPlan$Event", "guests", "I", true)
  | 2 => ("HallPlan$Event", "duration", "I", true)
  | _ => ("HallPlan$Event", "needs", "[I", true)
def tyX4 : Nat → FieldType := fun k => match k with
  | 0 => .int
  | 1 => .int
  | 2 => .int
  | _ => .array .int
abbrev wsX40 : List Cond := u_ws RX4 TX4 4
theorem nmX4 : ∀ a, a < 4 → ∀ b, b < 4 → a ≠ b → (TX4 a).2.1 ≠ (TX4 b).2.1 := by decide +kernel
theorem tyX4_ok : ∀ k, k < 4 → parseFieldDescriptor (TX4 k).2.2.1 = some (tyX4 k) := by decide +kernel
abbrev cX4_init : ByteArray := prog_5_method_1_code
def yX4_init : MethodName := ⟨RX4, "<init>", "()V"⟩
def dkwX4_init_0 : List UInt8 := [42, 3, 4, 16, 60, 3, 188, 10, 183, 0, 3, 177]
abbrev dktX4_init_0 : List UInt8 := dkwX4_init_0 ++ []
theorem dksX4_init_0 : cX4_init.data.toList.drop 0 = dktX4_init_0 := by decide +kernel
theorem dX4_init_0 : decode cX4_init 0 = .ok (.aload_n 0, 1) := dk_42 (dk_at dksX4_init_0 0 rfl rfl)
theorem dX4_init_1 : decode cX4_init 1 = .ok (.iconst 0, 1) := dk_3 (dk_at dksX4_init_0 1 rfl rfl)
theorem dX4_init_2 : decode cX4_init 2 = .ok (.iconst 1, 1) := dk_4 (dk_at dksX4_init_0 2 rfl rfl)
theorem dX4_init_3 : decode cX4_init 3 = .ok (.bipush 60, 2) := dk_16 60 (dk_at dksX4_init_0 3 rfl rfl)
theorem dX4_init_5 : decode cX4_init 5 = .ok (.iconst 0, 1) := dk_3 (dk_at dksX4_init_0 5 rfl rfl)
theorem dX4_init_6 : decode cX4_init 6 = .ok (.newarray .int, 2) := dk_188_10 (dk_at dksX4_init_0 6 rfl rfl)
theorem dX4_init_8 : decode cX4_init 8 = .ok (.invokespecial 3, 3) := dk_183 0 3 (dk_at dksX4_init_0 8 rfl rfl)
theorem dX4_init_11 : decode cX4_init 11 = .ok (.return_, 1) := dk_177 (dk_at dksX4_init_0 11 rfl rfl)
abbrev cX4_init_2 : ByteArray := prog_5_method_2_code
def yX4_init_2 : MethodName := ⟨RX4, "<init>", "(III[I)V"⟩
def dkwX4_init_2_1 : List UInt8 := [181, 0, 25, 25, 4, 3, 42, 180, 0, 14, 3, 25, 4, 190, 184, 0, 28, 177]
abbrev dktX4_init_2_1 : List UInt8 := dkwX4_init_2_1 ++ []
def dkwX4_init_2_0 : List UInt8 := [42, 183, 0, 9, 42, 16, 6, 188, 10, 181, 0, 14, 42, 27, 181, 0, 18, 42, 28, 181, 0, 22, 42, 29]
abbrev dktX4_init_2_0 : List UInt8 := dkwX4_init_2_0 ++ dktX4_init_2_1
theorem dksX4_init_2_0 : cX4_init_2.data.toList.drop 0 = dktX4_init_2_0 := by decide +kernel
theorem dksX4_init_2_1 : cX4_init_2.data.toList.drop 24 = dktX4_init_2_1 := dk_seg dksX4_init_2_0 24 rfl rfl
theorem dX4_init_2_0 : decode cX4_init_2 0 = .ok (.aload_n 0, 1) := dk_42 (dk_at dksX4_init_2_0 0 rfl rfl)
theorem dX4_init_2_1 : decode cX4_init_2 1 = .ok (.invokespecial 9, 3) := dk_183 0 9 (dk_at dksX4_init_2_0 1 rfl rfl)
theorem dX4_init_2_4 : decode cX4_init_2 4 = .ok (.aload_n 0, 1) := dk_42 (dk_at dksX4_init_2_0 4 rfl rfl)
theorem dX4_init_2_5 : decode cX4_init_2 5 = .ok (.bipush 6, 2) := dk_16 6 (dk_at dksX4_init_2_0 5 rfl rfl)
theorem dX4_init_2_7 : decode cX4_init_2 7 = .ok (.newarray .int, 2) := dk_188_10 (dk_at dksX4_init_2_0 7 rfl rfl)
theorem dX4_init_2_9 : decode cX4_init_2 9 = .ok (.putfield 14, 3) := dk_181 0 14 (dk_at dksX4_init_2_0 9 rfl rfl)
theorem dX4_init_2_12 : decode cX4_init_2 12 = .ok (.aload_n 0, 1) := dk_42 (dk_at dksX4_init_2_0 12 rfl rfl)
theorem dX4_init_2_13 : decode cX4_init_2 13 = .ok (.iload_n 1, 1) := dk_27 (dk_at dksX4_init_2_0 13 rfl rfl)
theorem dX4_init_2_14 : decode cX4_init_2 14 = .ok (.putfield 18, 3) := dk_181 0 18 (dk_at dksX4_init_2_0 14 rfl rfl)
theorem dX4_init_2_17 : decode cX4_init_2 17 = .ok (.aload_n 0, 1) := dk_42 (dk_at dksX4_init_2_0 17 rfl rfl)
theorem dX4_init_2_18 : decode cX4_init_2 18 = .ok (.iload_n 2, 1) := dk_28 (dk_at dksX4_init_2_0 18 rfl rfl)
theorem dX4_init_2_19 : decode cX4_init_2 19 = .ok (.putfield 22, 3) := dk_181 0 22 (dk_at dksX4_init_2_0 19 rfl rfl)
theorem dX4_init_2_22 : decode cX4_init_2 22 = .ok (.aload_n 0, 1) := dk_42 (dk_at dksX4_init_2_0 22 rfl rfl)
theorem dX4_init_2_23 : decode cX4_init_2 23 = .ok (.iload_n 3, 1) := dk_29 (dk_at dksX4_init_2_0 23 rfl rfl)
theorem dX4_init_2_24 : decode cX4_init_2 24 = .ok (.putfield 25, 3) := dk_181 0 25 (dk_at dksX4_init_2_1 0 rfl rfl)
theorem dX4_init_2_27 : decode cX4_init_2 27 = .ok (.aload 4, 2) := dk_25 4 (dk_at dksX4_init_2_1 3 rfl rfl)
theorem dX4_init_2_29 : decode cX4_init_2 29 = .ok (.iconst 0, 1) := dk_3 (dk_at dksX4_init_2_1 5 rfl rfl)
theorem dX4_init_2_30 : decode cX4_init_2 30 = .ok (.aload_n 0, 1) := dk_42 (dk_at dksX4_init_2_1 6 rfl rfl)
theorem dX4_init_2_31 : decode cX4_init_2 31 = .ok (.getfield 14, 3) := dk_180 0 14 (dk_at dksX4_init_2_1 7 rfl rfl)
theorem dX4_init_2_34 : decode cX4_init_2 34 = .ok (.iconst 0, 1) := dk_3 (dk_at dksX4_init_2_1 10 rfl rfl)
theorem dX4_init_2_35 : decode cX4_init_2 35 = .ok (.aload 4, 2) := dk_25 4 (dk_at dksX4_init_2_1 11 rfl rfl)
theorem dX4_init_2_37 : decode cX4_init_2 37 = .ok (.arraylength, 1) := dk_190 (dk_at dksX4_init_2_1 13 rfl rfl)
theorem dX4_init_2_38 : decode cX4_init_2 38 = .ok (.invokestatic 28, 3) := dk_184 0 28 (dk_at dksX4_init_2_1 14 rfl rfl)
theorem dX4_init_2_41 : decode cX4_init_2 41 = .ok (.return_, 1) := dk_177 (dk_at dksX4_init_2_1 17 rfl rfl)
abbrev cX4_with : ByteArray := prog_5_method_3_code
def yX4_with : MethodName := ⟨RX4, "with", "(II)LHallPlan$Event;"⟩
def dkwX4_with_1 : List UInt8 := [45, 180, 0, 14, 27, 28, 79, 45, 176]
abbrev dktX4_with_1 : List UInt8 := dkwX4_with_1 ++ []
def dkwX4_with_0 : List UInt8 := [187, 0, 4, 89, 42, 180, 0, 18, 42, 180, 0, 22, 42, 180, 0, 25, 42, 180, 0, 14, 183, 0, 3, 78]
abbrev dktX4_with_0 : List UInt8 := dkwX4_with_0 ++ dktX4_with_1
theorem dksX4_with_0 : cX4_with.data.toList.drop 0 = dktX4_with_0 := by decide +kernel
theorem dksX4_with_1 : cX4_with.data.toList.drop 24 = dktX4_with_1 := dk_seg dksX4_with_0 24 rfl rfl
theorem dX4_with_0 : decode cX4_with 0 = .ok (.new 4, 3) := dk_187 0 4 (dk_at dksX4_with_0 0 rfl rfl)
theorem dX4_with_3 : decode cX4_with 3 = .ok (.dup, 1) := dk_89 (dk_at dksX4_with_0 3 rfl rfl)
theorem dX4_with_4 : decode cX4_with 4 = .ok (.aload_n 0, 1) := dk_42 (dk_at dksX4_with_0 4 rfl rfl)
theorem dX4_with_5 : decode cX4_with 5 = .ok (.getfield 18, 3) := dk_180 0 18 (dk_at dksX4_with_0 5 rfl rfl)
theorem dX4_with_8 : decode cX4_with 8 = .ok (.aload_n 0, 1) := dk_42 (dk_at dksX4_with_0 8 rfl rfl)
theorem dX4_with_9 : decode cX4_with 9 = .ok (.getfield 22, 3) := dk_180 0 22 (dk_at dksX4_with_0 9 rfl rfl)
theorem dX4_with_12 : decode cX4_with 12 = .ok (.aload_n 0, 1) := dk_42 (dk_at dksX4_with_0 12 rfl rfl)
theorem dX4_with_13 : decode cX4_with 13 = .ok (.getfield 25, 3) := dk_180 0 25 (dk_at dksX4_with_0 13 rfl rfl)
theorem dX4_with_16 : decode cX4_with 16 = .ok (.aload_n 0, 1) := dk_42 (dk_at dksX4_with_0 16 rfl rfl)
theorem dX4_with_17 : decode cX4_with 17 = .ok (.getfield 14, 3) := dk_180 0 14 (dk_at dksX4_with_0 17 rfl rfl)
theorem dX4_with_20 : decode cX4_with 20 = .ok (.invokespecial 3, 3) := dk_183 0 3 (dk_at dksX4_with_0 20 rfl rfl)
theorem dX4_with_23 : decode cX4_with 23 = .ok (.astore_n 3, 1) := dk_78 (dk_at dksX4_with_0 23 rfl rfl)
theorem dX4_with_24 : decode cX4_with 24 = .ok (.aload_n 3, 1) := dk_45 (dk_at dksX4_with_1 0 rfl rfl)
theorem dX4_with_25 : decode cX4_with 25 = .ok (.getfield 14, 3) := dk_180 0 14 (dk_at dksX4_with_1 1 rfl rfl)
theorem dX4_with_28 : decode cX4_with 28 = .ok (.iload_n 1, 1) := dk_27 (dk_at dksX4_with_1 4 rfl rfl)
theorem dX4_with_29 : decode cX4_with 29 = .ok (.iload_n 2, 1) := dk_28 (dk_at dksX4_with_1 5 rfl rfl)
theorem dX4_with_30 : decode cX4_with 30 = .ok (.iastore, 1) := dk_79 (dk_at dksX4_with_1 6 rfl rfl)
theorem dX4_with_31 : decode cX4_with 31 = .ok (.aload_n 3, 1) := dk_45 (dk_at dksX4_with_1 7 rfl rfl)
theorem dX4_with_32 : decode cX4_with 32 = .ok (.areturn, 1) := dk_176 (dk_at dksX4_with_1 8 rfl rfl)
theorem q149 : (Jvm.Cond.initialized "HallPlan$Event") ∈ lw_all := lw_g (lw_at lw_m1 8 rfl) rfl
theorem q321 : (Jvm.Cond.instantiable "HallPlan$Event" (4 : Nat)) ∈ lw_all := lw_g (lw_at lw_m1 180 rfl) rfl
theorem q323 : (Jvm.Cond.instanceMethod ({ cls := "HallPlan$Event", name := "<init>", desc := "()V" } : Jvm.MethodName)) ∈ lw_all := lw_g (lw_at lw_m1 182 rfl) rfl
theorem q324 : (Jvm.Cond.code ({ cls := "HallPlan$Event", name := "<init>", desc := "()V" } : Jvm.MethodName) prog_5_method_1_code (1 : Nat) (Option.none : Option Jvm.ClassFile.FieldType)) ∈ lw_all := lw_g (lw_at lw_m1 183 rfl) rfl
theorem q325 : (Jvm.Cond.methodLink "HallPlan$Event" (3 : Nat) ({ cls := "HallPlan$Event", name := "<init>", desc := "(III[I)V" } : Jvm.MethodName)) ∈ lw_all := lw_g (lw_at lw_m1 184 rfl) rfl
theorem q326 : (Jvm.Cond.instanceMethod ({ cls := "HallPlan$Event", name := "<init>", desc := "(III[I)V" } : Jvm.MethodName)) ∈ lw_all := lw_g (lw_at lw_m1 185 rfl) rfl
theorem q327 : (Jvm.Cond.code ({ cls := "HallPlan$Event", name := "<init>", desc := "(III[I)V" } : Jvm.MethodName) prog_5_method_2_code (5 : Nat) (Option.none : Option Jvm.ClassFile.FieldType)) ∈ lw_all := lw_g (lw_at lw_m1 186 rfl) rfl
theorem q328 : (Jvm.Cond.methodLink "HallPlan$Event" (9 : Nat) ({ cls := "java/lang/Object", name := "<init>", desc := "()V" } : Jvm.MethodName)) ∈ lw_all := lw_g (lw_at lw_m1 187 rfl) rfl
theorem q329 : (Jvm.Cond.methodLink "HallPlan$Event" (28 : Nat) ({ cls := "java/lang/System", name := "arraycopy", desc := "(Ljava/lang/Object;ILjava/lang/Object;II)V" } : Jvm.MethodName)) ∈ lw_all := lw_g (lw_at lw_m1 188 rfl) rfl
theorem q330 : (Jvm.Cond.fieldLink "HallPlan$Event" (18 : Nat) "HallPlan$Event" "type" "I") ∈ lw_all := lw_g (lw_at lw_m1 189 rfl) rfl
theorem q333 : (Jvm.Cond.fieldLink "HallPlan$Event" (22 : Nat) "HallPlan$Event" "guests" "I") ∈ lw_all := lw_g (lw_at lw_m1 192 rfl) rfl
theorem q336 : (Jvm.Cond.fieldLink "HallPlan$Event" (25 : Nat) "HallPlan$Event" "duration" "I") ∈ lw_all := lw_g (lw_at lw_m1 195 rfl) rfl
theorem q340 : (Jvm.Cond.fieldLink "HallPlan$Event" (14 : Nat) "HallPlan$Event" "needs" "[I") ∈ lw_all := lw_g (lw_at lw_m1 199 rfl) rfl
theorem q343 : (Jvm.Cond.laysFinal "HallPlan$Event" "HallPlan$Event" "type" "I") ∈ lw_all := lw_g (lw_at lw_m1 202 rfl) rfl
theorem q344 : (Jvm.Cond.soleField "HallPlan$Event" "type") ∈ lw_all := lw_g (lw_at lw_m1 203 rfl) rfl
theorem q345 : (Jvm.Cond.laysFinal "HallPlan$Event" "HallPlan$Event" "guests" "I") ∈ lw_all := lw_g (lw_at lw_m1 204 rfl) rfl
theorem q346 : (Jvm.Cond.soleField "HallPlan$Event" "guests") ∈ lw_all := lw_g (lw_at lw_m1 205 rfl) rfl
theorem q347 : (Jvm.Cond.laysFinal "HallPlan$Event" "HallPlan$Event" "duration" "I") ∈ lw_all := lw_g (lw_at lw_m1 206 rfl) rfl
theorem q348 : (Jvm.Cond.soleField "HallPlan$Event" "duration") ∈ lw_all := lw_g (lw_at lw_m1 207 rfl) rfl
theorem q349 : (Jvm.Cond.laysFinal "HallPlan$Event" "HallPlan$Event" "needs" "[I") ∈ lw_all := lw_g (lw_at lw_m1 208 rfl) rfl
theorem q350 : (Jvm.Cond.soleField "HallPlan$Event" "needs") ∈ lw_all := lw_g (lw_at lw_m1 209 rfl) rfl
theorem q351 : (Jvm.Cond.superclass "HallPlan$Event" "java/lang/Object") ∈ lw_all := lw_g (lw_at lw_m1 210 rfl) rfl
theorem q1055 : (Jvm.Cond.selects "HallPlan$Event" ({ cls := "java/lang/Object", name := "equals", desc := "(Ljava/lang/Object;)Z" } : Jvm.MethodName) ({ cls := "java/lang/Object", name := "equals", desc := "(Ljava/lang/Object;)Z" } : Jvm.MethodName)) ∈ lw_all := lw_g (lw_at lw_m4 194 rfl) rfl
theorem q1104 : (Jvm.Cond.selects "HallPlan$Event" ({ cls := "java/lang/Object", name := "getClass", desc := "()Ljava/lang/Class;" } : Jvm.MethodName) ({ cls := "java/lang/Object", name := "getClass", desc := "()Ljava/lang/Class;" } : Jvm.MethodName)) ∈ lw_all := lw_g (lw_at lw_m5 3 rfl) rfl
theorem q1471 : (Jvm.Cond.instanceMethod ({ cls := "HallPlan$Event", name := "with", desc := "(II)LHallPlan$Event;" } : Jvm.MethodName)) ∈ lw_all := lw_g (lw_at lw_m6 130 rfl) rfl
theorem q1472 : (Jvm.Cond.selects "HallPlan$Event" ({ cls := "HallPlan$Event", name := "with", desc := "(II)LHallPlan$Event;" } : Jvm.MethodName) ({ cls := "HallPlan$Event", name := "with", desc := "(II)LHallPlan$Event;" } : Jvm.MethodName)) ∈ lw_all := lw_g (lw_at lw_m6 131 rfl) rfl
theorem q1473 : (Jvm.Cond.code ({ cls := "HallPlan$Event", name := "with", desc := "(II)LHallPlan$Event;" } : Jvm.MethodName) prog_5_method_3_code (4 : Nat) (Option.some (Jvm.ClassFile.FieldType.object "HallPlan$Event"))) ∈ lw_all := lw_g (lw_at lw_m6 132 rfl) rfl
theorem q1474 : (Jvm.Cond.classLink "HallPlan$Event" (4 : Nat) "HallPlan$Event") ∈ lw_all := lw_g (lw_at lw_m6 133 rfl) rfl
theorem q2767 : (Jvm.Cond.castable "HallPlan$Event" "java/lang/Object") ∈ lw_tbl := lw_at lw_m11 226 rfl
theorem in_X4 : ∀ w ∈ wsX40, w ∈ lw_all := lw_in wsX40 [343, 345, 347, 349] (by decide +kernel) (by decide +kernel)
/-! HallPlan$Parser -/
set_option maxRecDepth 100000
def RX6 : String := "HallPlan$Parser"
def TX6 : u_T := fun k => match k with
  | 0 => ("HallPlan$Parser", "made", "LHallPlan$Setup;", true)
  | 1 => ("HallPlan$Parser", "halls", "Ljava/util/List;", true)
  | 2 => ("HallPlan$Parser", "types", "Ljava/util/List;", true)
  | 3 => ("HallPlan$Parser", "kinds", "Ljava/util/List;", true)
  | 4 => ("HallPlan$Parser", "at", "I", false)
  | 5 => ("HallPlan$Parser", "begin", "I", false)
  | 6 => ("HallPlan$Parser", "number", "I", false)
  | 7 => ("HallPlan$Parser", "hasWeekend", "Z", false)
  | 8 => ("HallPlan$Parser", "kind", "C", false)
  | 9 => ("HallPlan$Parser", "word", "Ljava/lang/String;", false)
  | _ => ("HallPlan$Parser", "this$0", "LHallPlan;", true)
def tyX6 : Nat → FieldType := fun k => match k with
  | 0 => .object "HallPlan$Setup"
  | 1 => .object "java/util/List"
  | 2 => .object "java/util/List"
  | 3 => .object "java/util/List"
  | 4 => .int
  | 5 => .int
  | 6 => .int
  | 7 => .boolean
  | 8 => .char
  | 9 => .object "java/lang/String"
  | _ => .object "HallPlan"
abbrev wsX60 : List Cond := u_ws RX6 TX6 11
theorem nmX6 : ∀ a, a < 11 → ∀ b, b < 11 → a ≠ b → (TX6 a).2.1 ≠ (TX6 b).2.1 := by decide +kernel
theorem tyX6_ok : ∀ k, k < 11 → parseFieldDescriptor (TX6 k).2.2.1 = some (tyX6 k) := by decide +kernel
abbrev cX6_init : ByteArray := prog_10_method_1_code
def yX6_init : MethodName := ⟨RX6, "<init>", "(LHallPlan;)V"⟩
def dkwX6_init_2 : List UInt8 := [183, 0, 24, 181, 0, 32, 42, 18, 35, 181, 0, 37, 177]
abbrev dktX6_init_2 : List UInt8 := dkwX6_init_2 ++ []
def dkwX6_init_1 : List UInt8 := [89, 183, 0, 24, 181, 0, 25, 42, 187, 0, 22, 89, 183, 0, 24, 181, 0, 29, 42, 187, 0, 22, 89]
abbrev dktX6_init_1 : List UInt8 := dkwX6_init_1 ++ dktX6_init_2
def dkwX6_init_0 : List UInt8 := [42, 43, 181, 0, 3, 42, 183, 0, 9, 42, 187, 0, 15, 89, 183, 0, 17, 181, 0, 18, 42, 187, 0, 22]
abbrev dktX6_init_0 : List UInt8 := dkwX6_init_0 ++ dktX6_init_1
theorem dksX6_init_0 : cX6_init.data.toList.drop 0 = dktX6_init_0 := by decide +kernel
theorem dksX6_init_1 : cX6_init.data.toList.drop 24 = dktX6_init_1 := dk_seg dksX6_init_0 24 rfl rfl
theorem dksX6_init_2 : cX6_init.data.toList.drop 47 = dktX6_init_2 := dk_seg dksX6_init_1 23 rfl rfl
theorem dX6_init_0 : decode cX6_init 0 = .ok (.aload_n 0, 1) := dk_42 (dk_at dksX6_init_0 0 rfl rfl)
theorem dX6_init_1 : decode cX6_init 1 = .ok (.aload_n 1, 1) := dk_43 (dk_at dksX6_init_0 1 rfl rfl)
theorem dX6_init_2 : decode cX6_init 2 = .ok (.putfield 3, 3) := dk_181 0 3 (dk_at dksX6_init_0 2 rfl rfl)
theorem dX6_init_5 : decode cX6_init 5 = .ok (.aload_n 0, 1) := dk_42 (dk_at dksX6_init_0 5 rfl rfl)
theorem dX6_init_6 : decode cX6_init 6 = .ok (.invokespecial 9, 3) := dk_183 0 9 (dk_at dksX6_init_0 6 rfl rfl)
theorem dX6_init_9 : decode cX6_init 9 = .ok (.aload_n 0, 1) := dk_42 (dk_at dksX6_init_0 9 rfl rfl)
theorem dX6_init_10 : decode cX6_init 10 = .ok (.new 15, 3) := dk_187 0 15 (dk_at dksX6_init_0 10 rfl rfl)
theorem dX6_init_13 : decode cX6_init 13 = .ok (.dup, 1) := dk_89 (dk_at dksX6_init_0 13 rfl rfl)
theorem dX6_init_14 : decode cX6_init 14 = .ok (.invokespecial 17, 3) := dk_183 0 17 (dk_at dksX6_init_0 14 rfl rfl)
theorem dX6_init_17 : decode cX6_init 17 = .ok (.putfield 18, 3) := dk_181 0 18 (dk_at dksX6_init_0 17 rfl rfl)
theorem dX6_init_20 : decode cX6_init 20 = .ok (.aload_n 0, 1) := dk_42 (dk_at dksX6_init_0 20 rfl rfl)
theorem dX6_init_21 : decode cX6_init 21 = .ok (.new 22, 3) := dk_187 0 22 (dk_at dksX6_init_0 21 rfl rfl)
theorem dX6_init_24 : decode cX6_init 24 = .ok (.dup, 1) := dk_89 (dk_at dksX6_init_1 0 rfl rfl)
theorem dX6_init_25 : decode cX6_init 25 = .ok (.invokespecial 24, 3) := dk_183 0 24 (dk_at dksX6_init_1 1 rfl rfl)
theorem dX6_init_28 : decode cX6_init 28 = .ok (.putfield 25, 3) := dk_181 0 25 (dk_at dksX6_init_1 4 rfl rfl)
theorem dX6_init_31 : decode cX6_init 31 = .ok (.aload_n 0, 1) := dk_42 (dk_at dksX6_init_1 7 rfl rfl)
theorem dX6_init_32 : decode cX6_init 32 = .ok (.new 22, 3) := dk_187 0 22 (dk_at dksX6_init_1 8 rfl rfl)
theorem dX6_init_35 : decode cX6_init 35 = .ok (.dup, 1) := dk_89 (dk_at dksX6_init_1 11 rfl rfl)
theorem dX6_init_36 : decode cX6_init 36 = .ok (.invokespecial 24, 3) := dk_183 0 24 (dk_at dksX6_init_1 12 rfl rfl)
theorem dX6_init_39 : decode cX6_init 39 = .ok (.putfield 29, 3) := dk_181 0 29 (dk_at dksX6_init_1 15 rfl rfl)
theorem dX6_init_42 : decode cX6_init 42 = .ok (.aload_n 0, 1) := dk_42 (dk_at dksX6_init_1 18 rfl rfl)
theorem dX6_init_43 : decode cX6_init 43 = .ok (.new 22, 3) := dk_187 0 22 (dk_at dksX6_init_1 19 rfl rfl)
theorem dX6_init_46 : decode cX6_init 46 = .ok (.dup, 1) := dk_89 (dk_at dksX6_init_1 22 rfl rfl)
theorem dX6_init_47 : decode cX6_init 47 = .ok (.invokespecial 24, 3) := dk_183 0 24 (dk_at dksX6_init_2 0 rfl rfl)
theorem dX6_init_50 : decode cX6_init 50 = .ok (.putfield 32, 3) := dk_181 0 32 (dk_at dksX6_init_2 3 rfl rfl)
theorem dX6_init_53 : decode cX6_init 53 = .ok (.aload_n 0, 1) := dk_42 (dk_at dksX6_init_2 6 rfl rfl)
theorem dX6_init_54 : decode cX6_init 54 = .ok (.ldc 35, 2) := dk_18 35 (dk_at dksX6_init_2 7 rfl rfl)
theorem dX6_init_56 : decode cX6_init 56 = .ok (.putfield 37, 3) := dk_181 0 37 (dk_at dksX6_init_2 9 rfl rfl)
theorem dX6_init_59 : decode cX6_init 59 = .ok (.return_, 1) := dk_177 (dk_at dksX6_init_2 12 rfl rfl)
abbrev cX6_parse : ByteArray := prog_10_method_20_code
def yX6_parse : MethodName := ⟨RX6, "parse", "()LHallPlan$Setup;"⟩
def dkwX6_parse_2 : List UInt8 := [180, 0, 18, 176]
abbrev dktX6_parse_2 : List UInt8 := dkwX6_parse_2 ++ []
def dkwX6_parse_1 : List UInt8 := [182, 0, 223, 167, 255, 239, 42, 42, 180, 0, 65, 154, 0, 7, 4, 167, 0, 4, 3, 182, 0, 92, 42]
abbrev dktX6_parse_1 : List UInt8 := dkwX6_parse_1 ++ dktX6_parse_2
def dkwX6_parse_0 : List UInt8 := [42, 182, 0, 96, 42, 182, 0, 223, 42, 180, 0, 65, 16, 59, 160, 0, 14, 42, 182, 0, 96, 42]
abbrev dktX6_parse_0 : List UInt8 := dkwX6_parse_0 ++ dktX6_parse_1
theorem dksX6_parse_0 : cX6_parse.data.toList.drop 0 = dktX6_parse_0 := by decide +kernel
theorem dksX6_parse_1 : cX6_parse.data.toList.drop 22 = dktX6_parse_1 := dk_seg dksX6_parse_0 22 rfl rfl
theorem dksX6_parse_2 : cX6_parse.data.toList.drop 45 = dktX6_parse_2 := dk_seg dksX6_parse_1 23 rfl rfl
theorem dX6_parse_0 : decode cX6_parse 0 = .ok (.aload_n 0, 1) := dk_42 (dk_at dksX6_parse_0 0 rfl rfl)
theorem dX6_parse_1 : decode cX6_parse 1 = .ok (.invokevirtual 96, 3) := dk_182 0 96 (dk_at dksX6_parse_0 1 rfl rfl)
theorem dX6_parse_4 : decode cX6_parse 4 = .ok (.aload_n 0, 1) := dk_42 (dk_at dksX6_parse_0 4 rfl rfl)
theorem dX6_parse_5 : decode cX6_parse 5 = .ok (.invokevirtual 223, 3) := dk_182 0 223 (dk_at dksX6_parse_0 5 rfl rfl)
theorem dX6_parse_8 : decode cX6_parse 8 = .ok (.aload_n 0, 1) := dk_42 (dk_at dksX6_parse_0 8 rfl rfl)
theorem dX6_parse_9 : decode cX6_parse 9 = .ok (.getfield 65, 3) := dk_180 0 65 (dk_at dksX6_parse_0 9 rfl rfl)
theorem dX6_parse_12 : decode cX6_parse 12 = .ok (.bipush 59, 2) := dk_16 59 (dk_at dksX6_parse_0 12 rfl rfl)
theorem dX6_parse_14 : decode cX6_parse 14 = .ok (.if_icmp .ne 14, 3) := dk_160 0 14 (dk_at dksX6_parse_0 14 rfl rfl)
theorem dX6_parse_17 : decode cX6_parse 17 = .ok (.aload_n 0, 1) := dk_42 (dk_at dksX6_parse_0 17 rfl rfl)
theorem dX6_parse_18 : decode cX6_parse 18 = .ok (.invokevirtual 96, 3) := dk_182 0 96 (dk_at dksX6_parse_0 18 rfl rfl)
theorem dX6_parse_21 : decode cX6_parse 21 = .ok (.aload_n 0, 1) := dk_42 (dk_at dksX6_parse_0 21 rfl rfl)
theorem dX6_parse_22 : decode cX6_parse 22 = .ok (.invokevirtual 223, 3) := dk_182 0 223 (dk_at dksX6_parse_1 0 rfl rfl)
theorem dX6_parse_25 : decode cX6_parse 25 = .ok (.goto (-17), 3) := dk_167 255 239 (dk_at dksX6_parse_1 3 rfl rfl)
theorem dX6_parse_28 : decode cX6_parse 28 = .ok (.aload_n 0, 1) := dk_42 (dk_at dksX6_parse_1 6 rfl rfl)
theorem dX6_parse_29 : decode cX6_parse 29 = .ok (.aload_n 0, 1) := dk_42 (dk_at dksX6_parse_1 7 rfl rfl)
theorem dX6_parse_30 : decode cX6_parse 30 = .ok (.getfield 65, 3) := dk_180 0 65 (dk_at dksX6_parse_1 8 rfl rfl)
theorem dX6_parse_33 : decode cX6_parse 33 = .ok (.ifCond .ne 7, 3) := dk_154 0 7 (dk_at dksX6_parse_1 11 rfl rfl)
theorem dX6_parse_36 : decode cX6_parse 36 = .ok (.iconst 1, 1) := dk_4 (dk_at dksX6_parse_1 14 rfl rfl)
theorem dX6_parse_37 : decode cX6_parse 37 = .ok (.goto 4, 3) := dk_167 0 4 (dk_at dksX6_parse_1 15 rfl rfl)
theorem dX6_parse_40 : decode cX6_parse 40 = .ok (.iconst 0, 1) := dk_3 (dk_at dksX6_parse_1 18 rfl rfl)
theorem dX6_parse_41 : decode cX6_parse 41 = .ok (.invokevirtual 92, 3) := dk_182 0 92 (dk_at dksX6_parse_1 19 rfl rfl)
theorem dX6_parse_44 : decode cX6_parse 44 = .ok (.aload_n 0, 1) := dk_42 (dk_at dksX6_parse_1 22 rfl rfl)
theorem dX6_parse_45 : decode cX6_parse 45 = .ok (.getfield 18, 3) := dk_180 0 18 (dk_at dksX6_parse_2 0 rfl rfl)
theorem dX6_parse_48 : decode cX6_parse 48 = .ok (.areturn, 1) := dk_176 (dk_at dksX6_parse_2 3 rfl rfl)
abbrev cX6_next : ByteArray := prog_10_method_3_code
def yX6_next : MethodName := ⟨RX6, "next", "()V"⟩
def dkwX6_next_11 : List UInt8 := [182, 0, 83, 181, 0, 37, 177]
abbrev dktX6_next_11 : List UInt8 := dkwX6_next_11 ++ []
def dkwX6_next_10 : List UInt8 := [182, 0, 52, 184, 0, 77, 146, 181, 0, 65, 42, 89, 180, 0, 41, 4, 96, 181, 0, 41, 42, 43]
abbrev dktX6_next_10 : List UInt8 := dkwX6_next_10 ++ dktX6_next_11
def dkwX6_next_9 : List UInt8 := [180, 0, 56, 100, 8, 164, 0, 7, 6, 167, 0, 4, 5, 181, 0, 65, 167, 0, 26, 42, 6, 42]
abbrev dktX6_next_9 : List UInt8 := dkwX6_next_9 ++ dktX6_next_10
def dkwX6_next_8 : List UInt8 := [181, 0, 59, 42, 89, 180, 0, 41, 4, 96, 181, 0, 41, 167, 255, 193, 42, 42, 180, 0, 41, 42]
abbrev dktX6_next_8 : List UInt8 := dkwX6_next_8 ++ dktX6_next_9
def dkwX6_next_7 : List UInt8 := [16, 10, 42, 180, 0, 59, 104, 42, 182, 0, 52, 96, 16, 48, 100, 167, 0, 7, 42, 180, 0, 59]
abbrev dktX6_next_7 : List UInt8 := dkwX6_next_7 ++ dktX6_next_8
def dkwX6_next_6 : List UInt8 := [16, 48, 16, 57, 184, 0, 69, 153, 0, 55, 42, 42, 180, 0, 41, 42, 180, 0, 56, 100, 8, 162, 0, 21]
abbrev dktX6_next_6 : List UInt8 := dkwX6_next_6 ++ dktX6_next_7
def dkwX6_next_5 : List UInt8 := [181, 0, 65, 167, 0, 131, 42, 182, 0, 52, 16, 48, 16, 57, 184, 0, 69, 153, 0, 94, 42, 182, 0, 52]
abbrev dktX6_next_5 : List UInt8 := dkwX6_next_5 ++ dktX6_next_6
def dkwX6_next_4 : List UInt8 := [182, 0, 52, 146, 182, 0, 73, 87, 42, 89, 180, 0, 41, 4, 96, 181, 0, 41, 167, 255, 222, 42, 4]
abbrev dktX6_next_4 : List UInt8 := dkwX6_next_4 ++ dktX6_next_5
def dkwX6_next_3 : List UInt8 := [16, 122, 184, 0, 69, 153, 0, 48, 42, 182, 0, 52, 16, 97, 16, 122, 184, 0, 69, 153, 0, 26, 43, 42]
abbrev dktX6_next_3 : List UInt8 := dkwX6_next_3 ++ dktX6_next_4
def dkwX6_next_2 : List UInt8 := [180, 0, 3, 180, 0, 45, 160, 0, 11, 42, 3, 181, 0, 65, 167, 0, 190, 42, 182, 0, 52, 16, 97]
abbrev dktX6_next_2 : List UInt8 := dkwX6_next_2 ++ dktX6_next_3
def dkwX6_next_1 : List UInt8 := [180, 0, 41, 181, 0, 56, 42, 3, 181, 0, 59, 187, 0, 62, 89, 183, 0, 64, 76, 42, 180, 0, 41, 42]
abbrev dktX6_next_1 : List UInt8 := dkwX6_next_1 ++ dktX6_next_2
def dkwX6_next_0 : List UInt8 := [42, 182, 0, 52, 16, 32, 160, 0, 16, 42, 89, 180, 0, 41, 4, 96, 181, 0, 41, 167, 255, 237, 42, 42]
abbrev dktX6_next_0 : List UInt8 := dkwX6_next_0 ++ dktX6_next_1
theorem dksX6_next_0 : cX6_next.data.toList.drop 0 = dktX6_next_0 := by decide +kernel
theorem dksX6_next_1 : cX6_next.data.toList.drop 24 = dktX6_next_1 := dk_seg dksX6_next_0 24 rfl rfl
theorem dksX6_next_2 : cX6_next.data.toList.drop 48 = dktX6_next_2 := dk_seg dksX6_next_1 24 rfl rfl
theorem dksX6_next_3 : cX6_next.data.toList.drop 71 = dktX6_next_3 := dk_seg dksX6_next_2 23 rfl rfl
theorem dksX6_next_4 : cX6_next.data.toList.drop 95 = dktX6_next_4 := dk_seg dksX6_next_3 24 rfl rfl
theorem dksX6_next_5 : cX6_next.data.toList.drop 118 = dktX6_next_5 := dk_seg dksX6_next_4 23 rfl rfl
theorem dksX6_next_6 : cX6_next.data.toList.drop 142 = dktX6_next_6 := dk_seg dksX6_next_5 24 rfl rfl
theorem dksX6_next_7 : cX6_next.data.toList.drop 166 = dktX6_next_7 := dk_seg dksX6_next_6 24 rfl rfl
theorem dksX6_next_8 : cX6_next.data.toList.drop 188 = dktX6_next_8 := dk_seg dksX6_next_7 22 rfl rfl
theorem dksX6_next_9 : cX6_next.data.toList.drop 210 = dktX6_next_9 := dk_seg dksX6_next_8 22 rfl rfl
theorem dksX6_next_10 : cX6_next.data.toList.drop 232 = dktX6_next_10 := dk_seg dksX6_next_9 22 rfl rfl
theorem dksX6_next_11 : cX6_next.data.toList.drop 254 = dktX6_next_11 := dk_seg dksX6_next_10 22 rfl rfl
theorem dX6_next_0 : decode cX6_next 0 = .ok (.aload_n 0, 1) := dk_42 (dk_at dksX6_next_0 0 rfl rfl)
theorem dX6_next_1 : decode cX6_next 1 = .ok (.invokevirtual 52, 3) := dk_182 0 52 (dk_at dksX6_next_0 1 rfl rfl)
theorem dX6_next_4 : decode cX6_next 4 = .ok (.bipush 32, 2) := dk_16 32 (dk_at dksX6_next_0 4 rfl rfl)
theorem dX6_next_6 : decode cX6_next 6 = .ok (.if_icmp .ne 16, 3) := dk_160 0 16 (dk_at dksX6_next_0 6 rfl rfl)
theorem dX6_next_9 : decode cX6_next 9 = .ok (.aload_n 0, 1) := dk_42 (dk_at dksX6_next_0 9 rfl rfl)
theorem dX6_next_10 : decode cX6_next 10 = .ok (.dup, 1) := dk_89 (dk_at dksX6_next_0 10 rfl rfl)
theorem dX6_next_11 : decode cX6_next 11 = .ok (.getfield 41, 3) := dk_180 0 41 (dk_at dksX6_next_0 11 rfl rfl)
theorem dX6_next_14 : decode cX6_next 14 = .ok (.iconst 1, 1) := dk_4 (dk_at dksX6_next_0 14 rfl rfl)
theorem dX6_next_15 : decode cX6_next 15 = .ok (.iadd, 1) := dk_96 (dk_at dksX6_next_0 15 rfl rfl)
theorem dX6_next_16 : decode cX6_next 16 = .ok (.putfield 41, 3) := dk_181 0 41 (dk_at dksX6_next_0 16 rfl rfl)
theorem dX6_next_19 : decode cX6_next 19 = .ok (.goto (-19), 3) := dk_167 255 237 (dk_at dksX6_next_0 19 rfl rfl)
theorem dX6_next_22 : decode cX6_next 22 = .ok (.aload_n 0, 1) := dk_42 (dk_at dksX6_next_0 22 rfl rfl)
theorem dX6_next_23 : decode cX6_next 23 = .ok (.aload_n 0, 1) := dk_42 (dk_at dksX6_next_0 23 rfl rfl)
theorem dX6_next_24 : decode cX6_next 24 = .ok (.getfield 41, 3) := dk_180 0 41 (dk_at dksX6_next_1 0 rfl rfl)
theorem dX6_next_27 : decode cX6_next 27 = .ok (.putfield 56, 3) := dk_181 0 56 (dk_at dksX6_next_1 3 rfl rfl)
theorem dX6_next_30 : decode cX6_next 30 = .ok (.aload_n 0, 1) := dk_42 (dk_at dksX6_next_1 6 rfl rfl)
theorem dX6_next_31 : decode cX6_next 31 = .ok (.iconst 0, 1) := dk_3 (dk_at dksX6_next_1 7 rfl rfl)
theorem dX6_next_32 : decode cX6_next 32 = .ok (.putfield 59, 3) := dk_181 0 59 (dk_at dksX6_next_1 8 rfl rfl)
theorem dX6_next_35 : decode cX6_next 35 = .ok (.new 62, 3) := dk_187 0 62 (dk_at dksX6_next_1 11 rfl rfl)
theorem dX6_next_38 : decode cX6_next 38 = .ok (.dup, 1) := dk_89 (dk_at dksX6_next_1 14 rfl rfl)
theorem dX6_next_39 : decode cX6_next 39 = .ok (.invokespecial 64, 3) := dk_183 0 64 (dk_at dksX6_next_1 15 rfl rfl)
theorem dX6_next_42 : decode cX6_next 42 = .ok (.astore_n 1, 1) := dk_76 (dk_at dksX6_next_1 18 rfl rfl)
theorem dX6_next_43 : decode cX6_next 43 = .ok (.aload_n 0, 1) := dk_42 (dk_at dksX6_next_1 19 rfl rfl)
theorem dX6_next_44 : decode cX6_next 44 = .ok (.getfield 41, 3) := dk_180 0 41 (dk_at dksX6_next_1 20 rfl rfl)
theorem dX6_next_47 : decode cX6_next 47 = .ok (.aload_n 0, 1) := dk_42 (dk_at dksX6_next_1 23 rfl rfl)
theorem dX6_next_48 : decode cX6_next 48 = .ok (.getfield 3, 3) := dk_180 0 3 (dk_at dksX6_next_2 0 rfl rfl)
theorem dX6_next_51 : decode cX6_next 51 = .ok (.getfield 45, 3) := dk_180 0 45 (dk_at dksX6_next_2 3 rfl rfl)
theorem dX6_next_54 : decode cX6_next 54 = .ok (.if_icmp .ne 11, 3) := dk_160 0 11 (dk_at dksX6_next_2 6 rfl rfl)
theorem dX6_next_57 : decode cX6_next 57 = .ok (.aload_n 0, 1) := dk_42 (dk_at dksX6_next_2 9 rfl rfl)
theorem dX6_next_58 : decode cX6_next 58 = .ok (.iconst 0, 1) := dk_3 (dk_at dksX6_next_2 10 rfl rfl)
theorem dX6_next_59 : decode cX6_next 59 = .ok (.putfield 65, 3) := dk_181 0 65 (dk_at dksX6_next_2 11 rfl rfl)
theorem dX6_next_62 : decode cX6_next 62 = .ok (.goto 190, 3) := dk_167 0 190 (dk_at dksX6_next_2 14 rfl rfl)
theorem dX6_next_65 : decode cX6_next 65 = .ok (.aload_n 0, 1) := dk_42 (dk_at dksX6_next_2 17 rfl rfl)
theorem dX6_next_66 : decode cX6_next 66 = .ok (.invokevirtual 52, 3) := dk_182 0 52 (dk_at dksX6_next_2 18 rfl rfl)
theorem dX6_next_69 : decode cX6_next 69 = .ok (.bipush 97, 2) := dk_16 97 (dk_at dksX6_next_2 21 rfl rfl)
theorem dX6_next_71 : decode cX6_next 71 = .ok (.bipush 122, 2) := dk_16 122 (dk_at dksX6_next_3 0 rfl rfl)
theorem dX6_next_73 : decode cX6_next 73 = .ok (.invokestatic 69, 3) := dk_184 0 69 (dk_at dksX6_next_3 2 rfl rfl)
theorem dX6_next_76 : decode cX6_next 76 = .ok (.ifCond .eq 48, 3) := dk_153 0 48 (dk_at dksX6_next_3 5 rfl rfl)
theorem dX6_next_79 : decode cX6_next 79 = .ok (.aload_n 0, 1) := dk_42 (dk_at dksX6_next_3 8 rfl rfl)
theorem dX6_next_80 : decode cX6_next 80 = .ok (.invokevirtual 52, 3) := dk_182 0 52 (dk_at dksX6_next_3 9 rfl rfl)
theorem dX6_next_83 : decode cX6_next 83 = .ok (.bipush 97, 2) := dk_16 97 (dk_at dksX6_next_3 12 rfl rfl)
theorem dX6_next_85 : decode cX6_next 85 = .ok (.bipush 122, 2) := dk_16 122 (dk_at dksX6_next_3 14 rfl rfl)
theorem dX6_next_87 : decode cX6_next 87 = .ok (.invokestatic 69, 3) := dk_184 0 69 (dk_at dksX6_next_3 16 rfl rfl)
theorem dX6_next_90 : decode cX6_next 90 = .ok (.ifCond .eq 26, 3) := dk_153 0 26 (dk_at dksX6_next_3 19 rfl rfl)
theorem dX6_next_93 : decode cX6_next 93 = .ok (.aload_n 1, 1) := dk_43 (dk_at dksX6_next_3 22 rfl rfl)
theorem dX6_next_94 : decode cX6_next 94 = .ok (.aload_n 0, 1) := dk_42 (dk_at dksX6_next_3 23 rfl rfl)
theorem dX6_next_95 : decode cX6_next 95 = .ok (.invokevirtual 52, 3) := dk_182 0 52 (dk_at dksX6_next_4 0 rfl rfl)
theorem dX6_next_98 : decode cX6_next 98 = .ok (.i2c, 1) := dk_146 (dk_at dksX6_next_4 3 rfl rfl)
theorem dX6_next_99 : decode cX6_next 99 = .ok (.invokevirtual 73, 3) := dk_182 0 73 (dk_at dksX6_next_4 4 rfl rfl)
theorem dX6_next_102 : decode cX6_next 102 = .ok (.pop, 1) := dk_87 (dk_at dksX6_next_4 7 rfl rfl)
theorem dX6_next_103 : decode cX6_next 103 = .ok (.aload_n 0, 1) := dk_42 (dk_at dksX6_next_4 8 rfl rfl)
theorem dX6_next_104 : decode cX6_next 104 = .ok (.dup, 1) := dk_89 (dk_at dksX6_next_4 9 rfl rfl)
theorem dX6_next_105 : decode cX6_next 105 = .ok (.getfield 41, 3) := dk_180 0 41 (dk_at dksX6_next_4 10 rfl rfl)
theorem dX6_next_108 : decode cX6_next 108 = .ok (.iconst 1, 1) := dk_4 (dk_at dksX6_next_4 13 rfl rfl)
theorem dX6_next_109 : decode cX6_next 109 = .ok (.iadd, 1) := dk_96 (dk_at dksX6_next_4 14 rfl rfl)
theorem dX6_next_110 : decode cX6_next 110 = .ok (.putfield 41, 3) := dk_181 0 41 (dk_at dksX6_next_4 15 rfl rfl)
theorem dX6_next_113 : decode cX6_next 113 = .ok (.goto (-34), 3) := dk_167 255 222 (dk_at dksX6_next_4 18 rfl rfl)
theorem dX6_next_116 : decode cX6_next 116 = .ok (.aload_n 0, 1) := dk_42 (dk_at dksX6_next_4 21 rfl rfl)
theorem dX6_next_117 : decode cX6_next 117 = .ok (.iconst 1, 1) := dk_4 (dk_at dksX6_next_4 22 rfl rfl)
theorem dX6_next_118 : decode cX6_next 118 = .ok (.putfield 65, 3) := dk_181 0 65 (dk_at dksX6_next_5 0 rfl rfl)
theorem dX6_next_121 : decode cX6_next 121 = .ok (.goto 131, 3) := dk_167 0 131 (dk_at dksX6_next_5 3 rfl rfl)
theorem dX6_next_124 : decode cX6_next 124 = .ok (.aload_n 0, 1) := dk_42 (dk_at dksX6_next_5 6 rfl rfl)
theorem dX6_next_125 : decode cX6_next 125 = .ok (.invokevirtual 52, 3) := dk_182 0 52 (dk_at dksX6_next_5 7 rfl rfl)
theorem dX6_next_128 : decode cX6_next 128 = .ok (.bipush 48, 2) := dk_16 48 (dk_at dksX6_next_5 10 rfl rfl)
theorem dX6_next_130 : decode cX6_next 130 = .ok (.bipush 57, 2) := dk_16 57 (dk_at dksX6_next_5 12 rfl rfl)
theorem dX6_next_132 : decode cX6_next 132 = .ok (.invokestatic 69, 3) := dk_184 0 69 (dk_at dksX6_next_5 14 rfl rfl)
theorem dX6_next_135 : decode cX6_next 135 = .ok (.ifCond .eq 94, 3) := dk_153 0 94 (dk_at dksX6_next_5 17 rfl rfl)
theorem dX6_next_138 : decode cX6_next 138 = .ok (.aload_n 0, 1) := dk_42 (dk_at dksX6_next_5 20 rfl rfl)
theorem dX6_next_139 : decode cX6_next 139 = .ok (.invokevirtual 52, 3) := dk_182 0 52 (dk_at dksX6_next_5 21 rfl rfl)
theorem dX6_next_142 : decode cX6_next 142 = .ok (.bipush 48, 2) := dk_16 48 (dk_at dksX6_next_6 0 rfl rfl)
theorem dX6_next_144 : decode cX6_next 144 = .ok (.bipush 57, 2) := dk_16 57 (dk_at dksX6_next_6 2 rfl rfl)
theorem dX6_next_146 : decode cX6_next 146 = .ok (.invokestatic 69, 3) := dk_184 0 69 (dk_at dksX6_next_6 4 rfl rfl)
theorem dX6_next_149 : decode cX6_next 149 = .ok (.ifCond .eq 55, 3) := dk_153 0 55 (dk_at dksX6_next_6 7 rfl rfl)
theorem dX6_next_152 : decode cX6_next 152 = .ok (.aload_n 0, 1) := dk_42 (dk_at dksX6_next_6 10 rfl rfl)
theorem dX6_next_153 : decode cX6_next 153 = .ok (.aload_n 0, 1) := dk_42 (dk_at dksX6_next_6 11 rfl rfl)
theorem dX6_next_154 : decode cX6_next 154 = .ok (.getfield 41, 3) := dk_180 0 41 (dk_at dksX6_next_6 12 rfl rfl)
theorem dX6_next_157 : decode cX6_next 157 = .ok (.aload_n 0, 1) := dk_42 (dk_at dksX6_next_6 15 rfl rfl)
theorem dX6_next_158 : decode cX6_next 158 = .ok (.getfield 56, 3) := dk_180 0 56 (dk_at dksX6_next_6 16 rfl rfl)
theorem dX6_next_161 : decode cX6_next 161 = .ok (.isub, 1) := dk_100 (dk_at dksX6_next_6 19 rfl rfl)
theorem dX6_next_162 : decode cX6_next 162 = .ok (.iconst 5, 1) := dk_8 (dk_at dksX6_next_6 20 rfl rfl)
theorem dX6_next_163 : decode cX6_next 163 = .ok (.if_icmp .ge 21, 3) := dk_162 0 21 (dk_at dksX6_next_6 21 rfl rfl)
theorem dX6_next_166 : decode cX6_next 166 = .ok (.bipush 10, 2) := dk_16 10 (dk_at dksX6_next_7 0 rfl rfl)
theorem dX6_next_168 : decode cX6_next 168 = .ok (.aload_n 0, 1) := dk_42 (dk_at dksX6_next_7 2 rfl rfl)
theorem dX6_next_169 : decode cX6_next 169 = .ok (.getfield 59, 3) := dk_180 0 59 (dk_at dksX6_next_7 3 rfl rfl)
theorem dX6_next_172 : decode cX6_next 172 = .ok (.imul, 1) := dk_104 (dk_at dksX6_next_7 6 rfl rfl)
theorem dX6_next_173 : decode cX6_next 173 = .ok (.aload_n 0, 1) := dk_42 (dk_at dksX6_next_7 7 rfl rfl)
theorem dX6_next_174 : decode cX6_next 174 = .ok (.invokevirtual 52, 3) := dk_182 0 52 (dk_at dksX6_next_7 8 rfl rfl)
theorem dX6_next_177 : decode cX6_next 177 = .ok (.iadd, 1) := dk_96 (dk_at dksX6_next_7 11 rfl rfl)
theorem dX6_next_178 : decode cX6_next 178 = .ok (.bipush 48, 2) := dk_16 48 (dk_at dksX6_next_7 12 rfl rfl)
theorem dX6_next_180 : decode cX6_next 180 = .ok (.isub, 1) := dk_100 (dk_at dksX6_next_7 14 rfl rfl)
theorem dX6_next_181 : decode cX6_next 181 = .ok (.goto 7, 3) := dk_167 0 7 (dk_at dksX6_next_7 15 rfl rfl)
theorem dX6_next_184 : decode cX6_next 184 = .ok (.aload_n 0, 1) := dk_42 (dk_at dksX6_next_7 18 rfl rfl)
theorem dX6_next_185 : decode cX6_next 185 = .ok (.getfield 59, 3) := dk_180 0 59 (dk_at dksX6_next_7 19 rfl rfl)
theorem dX6_next_188 : decode cX6_next 188 = .ok (.putfield 59, 3) := dk_181 0 59 (dk_at dksX6_next_8 0 rfl rfl)
theorem dX6_next_191 : decode cX6_next 191 = .ok (.aload_n 0, 1) := dk_42 (dk_at dksX6_next_8 3 rfl rfl)
theorem dX6_next_192 : decode cX6_next 192 = .ok (.dup, 1) := dk_89 (dk_at dksX6_next_8 4 rfl rfl)
theorem dX6_next_193 : decode cX6_next 193 = .ok (.getfield 41, 3) := dk_180 0 41 (dk_at dksX6_next_8 5 rfl rfl)
theorem dX6_next_196 : decode cX6_next 196 = .ok (.iconst 1, 1) := dk_4 (dk_at dksX6_next_8 8 rfl rfl)
theorem dX6_next_197 : decode cX6_next 197 = .ok (.iadd, 1) := dk_96 (dk_at dksX6_next_8 9 rfl rfl)
theorem dX6_next_198 : decode cX6_next 198 = .ok (.putfield 41, 3) := dk_181 0 41 (dk_at dksX6_next_8 10 rfl rfl)
theorem dX6_next_201 : decode cX6_next 201 = .ok (.goto (-63), 3) := dk_167 255 193 (dk_at dksX6_next_8 13 rfl rfl)
theorem dX6_next_204 : decode cX6_next 204 = .ok (.aload_n 0, 1) := dk_42 (dk_at dksX6_next_8 16 rfl rfl)
theorem dX6_next_205 : decode cX6_next 205 = .ok (.aload_n 0, 1) := dk_42 (dk_at dksX6_next_8 17 rfl rfl)
theorem dX6_next_206 : decode cX6_next 206 = .ok (.getfield 41, 3) := dk_180 0 41 (dk_at dksX6_next_8 18 rfl rfl)
theorem dX6_next_209 : decode cX6_next 209 = .ok (.aload_n 0, 1) := dk_42 (dk_at dksX6_next_8 21 rfl rfl)
theorem dX6_next_210 : decode cX6_next 210 = .ok (.getfield 56, 3) := dk_180 0 56 (dk_at dksX6_next_9 0 rfl rfl)
theorem dX6_next_213 : decode cX6_next 213 = .ok (.isub, 1) := dk_100 (dk_at dksX6_next_9 3 rfl rfl)
theorem dX6_next_214 : decode cX6_next 214 = .ok (.iconst 5, 1) := dk_8 (dk_at dksX6_next_9 4 rfl rfl)
theorem dX6_next_215 : decode cX6_next 215 = .ok (.if_icmp .le 7, 3) := dk_164 0 7 (dk_at dksX6_next_9 5 rfl rfl)
theorem dX6_next_218 : decode cX6_next 218 = .ok (.iconst 3, 1) := dk_6 (dk_at dksX6_next_9 8 rfl rfl)
theorem dX6_next_219 : decode cX6_next 219 = .ok (.goto 4, 3) := dk_167 0 4 (dk_at dksX6_next_9 9 rfl rfl)
theorem dX6_next_222 : decode cX6_next 222 = .ok (.iconst 2, 1) := dk_5 (dk_at dksX6_next_9 12 rfl rfl)
theorem dX6_next_223 : decode cX6_next 223 = .ok (.putfield 65, 3) := dk_181 0 65 (dk_at dksX6_next_9 13 rfl rfl)
theorem dX6_next_226 : decode cX6_next 226 = .ok (.goto 26, 3) := dk_167 0 26 (dk_at dksX6_next_9 16 rfl rfl)
theorem dX6_next_229 : decode cX6_next 229 = .ok (.aload_n 0, 1) := dk_42 (dk_at dksX6_next_9 19 rfl rfl)
theorem dX6_next_230 : decode cX6_next 230 = .ok (.iconst 3, 1) := dk_6 (dk_at dksX6_next_9 20 rfl rfl)
theorem dX6_next_231 : decode cX6_next 231 = .ok (.aload_n 0, 1) := dk_42 (dk_at dksX6_next_9 21 rfl rfl)
theorem dX6_next_232 : decode cX6_next 232 = .ok (.invokevirtual 52, 3) := dk_182 0 52 (dk_at dksX6_next_10 0 rfl rfl)
theorem dX6_next_235 : decode cX6_next 235 = .ok (.invokestatic 77, 3) := dk_184 0 77 (dk_at dksX6_next_10 3 rfl rfl)
theorem dX6_next_238 : decode cX6_next 238 = .ok (.i2c, 1) := dk_146 (dk_at dksX6_next_10 6 rfl rfl)
theorem dX6_next_239 : decode cX6_next 239 = .ok (.putfield 65, 3) := dk_181 0 65 (dk_at dksX6_next_10 7 rfl rfl)
theorem dX6_next_242 : decode cX6_next 242 = .ok (.aload_n 0, 1) := dk_42 (dk_at dksX6_next_10 10 rfl rfl)
theorem dX6_next_243 : decode cX6_next 243 = .ok (.dup, 1) := dk_89 (dk_at dksX6_next_10 11 rfl rfl)
theorem dX6_next_244 : decode cX6_next 244 = .ok (.getfield 41, 3) := dk_180 0 41 (dk_at dksX6_next_10 12 rfl rfl)
theorem dX6_next_247 : decode cX6_next 247 = .ok (.iconst 1, 1) := dk_4 (dk_at dksX6_next_10 15 rfl rfl)
theorem dX6_next_248 : decode cX6_next 248 = .ok (.iadd, 1) := dk_96 (dk_at dksX6_next_10 16 rfl rfl)
theorem dX6_next_249 : decode cX6_next 249 = .ok (.putfield 41, 3) := dk_181 0 41 (dk_at dksX6_next_10 17 rfl rfl)
theorem dX6_next_252 : decode cX6_next 252 = .ok (.aload_n 0, 1) := dk_42 (dk_at dksX6_next_10 20 rfl rfl)
theorem dX6_next_253 : decode cX6_next 253 = .ok (.aload_n 1, 1) := dk_43 (dk_at dksX6_next_10 21 rfl rfl)
theorem dX6_next_254 : decode cX6_next 254 = .ok (.invokevirtual 83, 3) := dk_182 0 83 (dk_at dksX6_next_11 0 rfl rfl)
theorem dX6_next_257 : decode cX6_next 257 = .ok (.putfield 37, 3) := dk_181 0 37 (dk_at dksX6_next_11 3 rfl rfl)
theorem dX6_next_260 : decode cX6_next 260 = .ok (.return_, 1) := dk_177 (dk_at dksX6_next_11 6 rfl rfl)
abbrev cX6_peek : ByteArray := prog_10_method_2_code
def yX6_peek : MethodName := ⟨RX6, "peek", "()I"⟩
def dkwX6_peek_1 : List UInt8 := [180, 0, 41, 51, 17, 0, 255, 126, 167, 0, 4, 2, 172]
abbrev dktX6_peek_1 : List UInt8 := dkwX6_peek_1 ++ []
def dkwX6_peek_0 : List UInt8 := [42, 180, 0, 41, 42, 180, 0, 3, 180, 0, 45, 162, 0, 22, 42, 180, 0, 3, 180, 0, 48, 42]
abbrev dktX6_peek_0 : List UInt8 := dkwX6_peek_0 ++ dktX6_peek_1
theorem dksX6_peek_0 : cX6_peek.data.toList.drop 0 = dktX6_peek_0 := by decide +kernel
theorem dksX6_peek_1 : cX6_peek.data.toList.drop 22 = dktX6_peek_1 := dk_seg dksX6_peek_0 22 rfl rfl
theorem dX6_peek_0 : decode cX6_peek 0 = .ok (.aload_n 0, 1) := dk_42 (dk_at dksX6_peek_0 0 rfl rfl)
theorem dX6_peek_1 : decode cX6_peek 1 = .ok (.getfield 41, 3) := dk_180 0 41 (dk_at dksX6_peek_0 1 rfl rfl)
theorem dX6_peek_4 : decode cX6_peek 4 = .ok (.aload_n 0, 1) := dk_42 (dk_at dksX6_peek_0 4 rfl rfl)
theorem dX6_peek_5 : decode cX6_peek 5 = .ok (.getfield 3, 3) := dk_180 0 3 (dk_at dksX6_peek_0 5 rfl rfl)
theorem dX6_peek_8 : decode cX6_peek 8 = .ok (.getfield 45, 3) := dk_180 0 45 (dk_at dksX6_peek_0 8 rfl rfl)
theorem dX6_peek_11 : decode cX6_peek 11 = .ok (.if_icmp .ge 22, 3) := dk_162 0 22 (dk_at dksX6_peek_0 11 rfl rfl)
theorem dX6_peek_14 : decode cX6_peek 14 = .ok (.aload_n 0, 1) := dk_42 (dk_at dksX6_peek_0 14 rfl rfl)
theorem dX6_peek_15 : decode cX6_peek 15 = .ok (.getfield 3, 3) := dk_180 0 3 (dk_at dksX6_peek_0 15 rfl rfl)
theorem dX6_peek_18 : decode cX6_peek 18 = .ok (.getfield 48, 3) := dk_180 0 48 (dk_at dksX6_peek_0 18 rfl rfl)
theorem dX6_peek_21 : decode cX6_peek 21 = .ok (.aload_n 0, 1) := dk_42 (dk_at dksX6_peek_0 21 rfl rfl)
theorem dX6_peek_22 : decode cX6_peek 22 = .ok (.getfield 41, 3) := dk_180 0 41 (dk_at dksX6_peek_1 0 rfl rfl)
theorem dX6_peek_25 : decode cX6_peek 25 = .ok (.baload, 1) := dk_51 (dk_at dksX6_peek_1 3 rfl rfl)
theorem dX6_peek_26 : decode cX6_peek 26 = .ok (.sipush 255, 3) := dk_17 0 255 (dk_at dksX6_peek_1 4 rfl rfl)
theorem dX6_peek_29 : decode cX6_peek 29 = .ok (.iand, 1) := dk_126 (dk_at dksX6_peek_1 7 rfl rfl)
theorem dX6_peek_30 : decode cX6_peek 30 = .ok (.goto 4, 3) := dk_167 0 4 (dk_at dksX6_peek_1 8 rfl rfl)
theorem dX6_peek_33 : decode cX6_peek 33 = .ok (.iconst (-1), 1) := dk_2 (dk_at dksX6_peek_1 11 rfl rfl)
theorem dX6_peek_34 : decode cX6_peek 34 = .ok (.ireturn, 1) := dk_172 (dk_at dksX6_peek_1 12 rfl rfl)
abbrev cX6_statement : ByteArray := prog_10_method_19_code
def yX6_statement : MethodName := ⟨RX6, "statement", "()V"⟩
def dkwX6_statement_11 : List UInt8 := [167, 0, 22, 42, 182, 0, 221, 167, 0, 15, 187, 0, 87, 89, 42, 180, 0, 56, 183, 0, 89, 191, 177]
abbrev dktX6_statement_11 : List UInt8 := dkwX6_statement_11 ++ []
def dkwX6_statement_10 : List UInt8 := [182, 0, 213, 167, 0, 43, 42, 182, 0, 215, 167, 0, 36, 42, 182, 0, 217, 167, 0, 29, 42, 182, 0, 219]
abbrev dktX6_statement_10 : List UInt8 := dkwX6_statement_10 ++ dktX6_statement_11
def dkwX6_statement_9 : List UInt8 := [42, 182, 0, 206, 167, 0, 64, 42, 182, 0, 208, 167, 0, 57, 42, 182, 0, 210, 167, 0, 50, 42]
abbrev dktX6_statement_9 : List UInt8 := dkwX6_statement_9 ++ dktX6_statement_10
def dkwX6_statement_8 : List UInt8 := [170, 0, 0, 0, 0, 0, 0, 104, 0, 0, 0, 0, 0, 0, 0, 7, 0, 0, 0, 48, 0, 0, 0, 55, 0, 0, 0, 62, 0, 0, 0, 69, 0, 0, 0, 76, 0, 0, 0, 83, 0, 0, 0, 90, 0, 0, 0, 97]
abbrev dktX6_statement_8 : List UInt8 := dkwX6_statement_8 ++ dktX6_statement_9
def dkwX6_statement_7 : List UInt8 := [61, 167, 0, 15, 43, 18, 122, 182, 0, 101, 153, 0, 6, 16, 7, 61, 28]
abbrev dktX6_statement_7 : List UInt8 := dkwX6_statement_7 ++ dktX6_statement_8
def dkwX6_statement_6 : List UInt8 := [18, 118, 182, 0, 101, 153, 0, 35, 8, 61, 167, 0, 30, 43, 18, 120, 182, 0, 101, 153, 0, 21, 16, 6]
abbrev dktX6_statement_6 : List UInt8 := dkwX6_statement_6 ++ dktX6_statement_7
def dkwX6_statement_5 : List UInt8 := [153, 0, 63, 6, 61, 167, 0, 58, 43, 18, 116, 182, 0, 101, 153, 0, 49, 7, 61, 167, 0, 44, 43]
abbrev dktX6_statement_5 : List UInt8 := dkwX6_statement_5 ++ dktX6_statement_6
def dkwX6_statement_4 : List UInt8 := [61, 167, 0, 86, 43, 18, 113, 182, 0, 101, 153, 0, 77, 5, 61, 167, 0, 72, 43, 18, 114, 182, 0, 101]
abbrev dktX6_statement_4 : List UInt8 := dkwX6_statement_4 ++ dktX6_statement_5
def dkwX6_statement_3 : List UInt8 := [43, 18, 109, 182, 0, 101, 153, 0, 105, 3, 61, 167, 0, 100, 43, 18, 111, 182, 0, 101, 153, 0, 91, 4]
abbrev dktX6_statement_3 : List UInt8 := dkwX6_statement_3 ++ dktX6_statement_4
def dkwX6_statement_2 : List UInt8 := [171, 0, 0, 0, 0, 0, 0, 187, 0, 0, 0, 8, 175, 21, 225, 108, 0, 0, 0, 132, 208, 207, 128, 129, 0, 0, 0, 146, 0, 1, 139, 134, 0, 0, 0, 160, 0, 48, 192, 57, 0, 0, 0, 76, 0, 50, 59, 148, 0, 0, 0, 104, 0, 54, 143, 58, 0, 0, 0, 90, 6, 132, 58, 125, 0, 0, 0, 118, 73, 32, 116, 103, 0, 0, 0, 175]
abbrev dktX6_statement_2 : List UInt8 := dkwX6_statement_2 ++ dktX6_statement_3
def dkwX6_statement_1 : List UInt8 := [43, 182, 0, 203]
abbrev dktX6_statement_1 : List UInt8 := dkwX6_statement_1 ++ dktX6_statement_2
def dkwX6_statement_0 : List UInt8 := [42, 42, 180, 0, 65, 4, 160, 0, 7, 4, 167, 0, 4, 3, 182, 0, 92, 42, 180, 0, 37, 76, 2, 61]
abbrev dktX6_statement_0 : List UInt8 := dkwX6_statement_0 ++ dktX6_statement_1
theorem dksX6_statement_0 : cX6_statement.data.toList.drop 0 = dktX6_statement_0 := by decide +kernel
theorem dksX6_statement_1 : cX6_statement.data.toList.drop 24 = dktX6_statement_1 := dk_seg dksX6_statement_0 24 rfl rfl
theorem dksX6_statement_2 : cX6_statement.data.toList.drop 28 = dktX6_statement_2 := dk_seg dksX6_statement_1 4 rfl rfl
theorem dksX6_statement_3 : cX6_statement.data.toList.drop 104 = dktX6_statement_3 := dk_seg dksX6_statement_2 76 rfl rfl
theorem dksX6_statement_4 : cX6_statement.data.toList.drop 128 = dktX6_statement_4 := dk_seg dksX6_statement_3 24 rfl rfl
theorem dksX6_statement_5 : cX6_statement.data.toList.drop 152 = dktX6_statement_5 := dk_seg dksX6_statement_4 24 rfl rfl
theorem dksX6_statement_6 : cX6_statement.data.toList.drop 175 = dktX6_statement_6 := dk_seg dksX6_statement_5 23 rfl rfl
theorem dksX6_statement_7 : cX6_statement.data.toList.drop 199 = dktX6_statement_7 := dk_seg dksX6_statement_6 24 rfl rfl
theorem dksX6_statement_8 : cX6_statement.data.toList.drop 216 = dktX6_statement_8 := dk_seg dksX6_statement_7 17 rfl rfl
theorem dksX6_statement_9 : cX6_statement.data.toList.drop 264 = dktX6_statement_9 := dk_seg dksX6_statement_8 48 rfl rfl
theorem dksX6_statement_10 : cX6_statement.data.toList.drop 286 = dktX6_statement_10 := dk_seg dksX6_statement_9 22 rfl rfl
theorem dksX6_statement_11 : cX6_statement.data.toList.drop 310 = dktX6_statement_11 := dk_seg dksX6_statement_10 24 rfl rfl
theorem dX6_statement_0 : decode cX6_statement 0 = .ok (.aload_n 0, 1) := dk_42 (dk_at dksX6_statement_0 0 rfl rfl)
theorem dX6_statement_1 : decode cX6_statement 1 = .ok (.aload_n 0, 1) := dk_42 (dk_at dksX6_statement_0 1 rfl rfl)
theorem dX6_statement_2 : decode cX6_statement 2 = .ok (.getfield 65, 3) := dk_180 0 65 (dk_at dksX6_statement_0 2 rfl rfl)
theorem dX6_statement_5 : decode cX6_statement 5 = .ok (.iconst 1, 1) := dk_4 (dk_at dksX6_statement_0 5 rfl rfl)
theorem dX6_statement_6 : decode cX6_statement 6 = .ok (.if_icmp .ne 7, 3) := dk_160 0 7 (dk_at dksX6_statement_0 6 rfl rfl)
theorem dX6_statement_9 : decode cX6_statement 9 = .ok (.iconst 1, 1) := dk_4 (dk_at dksX6_statement_0 9 rfl rfl)
theorem dX6_statement_10 : decode cX6_statement 10 = .ok (.goto 4, 3) := dk_167 0 4 (dk_at dksX6_statement_0 10 rfl rfl)
theorem dX6_statement_13 : decode cX6_statement 13 = .ok (.iconst 0, 1) := dk_3 (dk_at dksX6_statement_0 13 rfl rfl)
theorem dX6_statement_14 : decode cX6_statement 14 = .ok (.invokevirtual 92, 3) := dk_182 0 92 (dk_at dksX6_statement_0 14 rfl rfl)
theorem dX6_statement_17 : decode cX6_statement 17 = .ok (.aload_n 0, 1) := dk_42 (dk_at dksX6_statement_0 17 rfl rfl)
theorem dX6_statement_18 : decode cX6_statement 18 = .ok (.getfield 37, 3) := dk_180 0 37 (dk_at dksX6_statement_0 18 rfl rfl)
theorem dX6_statement_21 : decode cX6_statement 21 = .ok (.astore_n 1, 1) := dk_76 (dk_at dksX6_statement_0 21 rfl rfl)
theorem dX6_statement_22 : decode cX6_statement 22 = .ok (.iconst (-1), 1) := dk_2 (dk_at dksX6_statement_0 22 rfl rfl)
theorem dX6_statement_23 : decode cX6_statement 23 = .ok (.istore_n 2, 1) := dk_61 (dk_at dksX6_statement_0 23 rfl rfl)
theorem dX6_statement_24 : decode cX6_statement 24 = .ok (.aload_n 1, 1) := dk_43 (dk_at dksX6_statement_1 0 rfl rfl)
theorem dX6_statement_25 : decode cX6_statement 25 = .ok (.invokevirtual 203, 3) := dk_182 0 203 (dk_at dksX6_statement_1 1 rfl rfl)
theorem dX6_statement_28 : decode cX6_statement 28 = .ok (.lookupswitch 187 #[(-1357520532, 132), (-791707519, 146), (101254, 160), (3194937, 76), (3292052, 104), (3575610, 90), (109329021, 118), (1226863719, 175)], 76) := by decide +kernel
theorem dX6_statement_104 : decode cX6_statement 104 = .ok (.aload_n 1, 1) := dk_43 (dk_at dksX6_statement_3 0 rfl rfl)
theorem dX6_statement_105 : decode cX6_statement 105 = .ok (.ldc 109, 2) := dk_18 109 (dk_at dksX6_statement_3 1 rfl rfl)
theorem dX6_statement_107 : decode cX6_statement 107 = .ok (.invokevirtual 101, 3) := dk_182 0 101 (dk_at dksX6_statement_3 3 rfl rfl)
theorem dX6_statement_110 : decode cX6_statement 110 = .ok (.ifCond .eq 105, 3) := dk_153 0 105 (dk_at dksX6_statement_3 6 rfl rfl)
theorem dX6_statement_113 : decode cX6_statement 113 = .ok (.iconst 0, 1) := dk_3 (dk_at dksX6_statement_3 9 rfl rfl)
theorem dX6_statement_114 : decode cX6_statement 114 = .ok (.istore_n 2, 1) := dk_61 (dk_at dksX6_statement_3 10 rfl rfl)
theorem dX6_statement_115 : decode cX6_statement 115 = .ok (.goto 100, 3) := dk_167 0 100 (dk_at dksX6_statement_3 11 rfl rfl)
theorem dX6_statement_118 : decode cX6_statement 118 = .ok (.aload_n 1, 1) := dk_43 (dk_at dksX6_statement_3 14 rfl rfl)
theorem dX6_statement_119 : decode cX6_statement 119 = .ok (.ldc 111, 2) := dk_18 111 (dk_at dksX6_statement_3 15 rfl rfl)
theorem dX6_statement_121 : decode cX6_statement 121 = .ok (.invokevirtual 101, 3) := dk_182 0 101 (dk_at dksX6_statement_3 17 rfl rfl)
theorem dX6_statement_124 : decode cX6_statement 124 = .ok (.ifCond .eq 91, 3) := dk_153 0 91 (dk_at dksX6_statement_3 20 rfl rfl)
theorem dX6_statement_127 : decode cX6_statement 127 = .ok (.iconst 1, 1) := dk_4 (dk_at dksX6_statement_3 23 rfl rfl)
theorem dX6_statement_128 : decode cX6_statement 128 = .ok (.istore_n 2, 1) := dk_61 (dk_at dksX6_statement_4 0 rfl rfl)
theorem dX6_statement_129 : decode cX6_statement 129 = .ok (.goto 86, 3) := dk_167 0 86 (dk_at dksX6_statement_4 1 rfl rfl)
theorem dX6_statement_132 : decode cX6_statement 132 = .ok (.aload_n 1, 1) := dk_43 (dk_at dksX6_statement_4 4 rfl rfl)
theorem dX6_statement_133 : decode cX6_statement 133 = .ok (.ldc 113, 2) := dk_18 113 (dk_at dksX6_statement_4 5 rfl rfl)
theorem dX6_statement_135 : decode cX6_statement 135 = .ok (.invokevirtual 101, 3) := dk_182 0 101 (dk_at dksX6_statement_4 7 rfl rfl)
theorem dX6_statement_138 : decode cX6_statement 138 = .ok (.ifCond .eq 77, 3) := dk_153 0 77 (dk_at dksX6_statement_4 10 rfl rfl)
theorem dX6_statement_141 : decode cX6_statement 141 = .ok (.iconst 2, 1) := dk_5 (dk_at dksX6_statement_4 13 rfl rfl)
theorem dX6_statement_142 : decode cX6_statement 142 = .ok (.istore_n 2, 1) := dk_61 (dk_at dksX6_statement_4 14 rfl rfl)
theorem dX6_statement_143 : decode cX6_statement 143 = .ok (.goto 72, 3) := dk_167 0 72 (dk_at dksX6_statement_4 15 rfl rfl)
theorem dX6_statement_146 : decode cX6_statement 146 = .ok (.aload_n 1, 1) := dk_43 (dk_at dksX6_statement_4 18 rfl rfl)
theorem dX6_statement_147 : decode cX6_statement 147 = .ok (.ldc 114, 2) := dk_18 114 (dk_at dksX6_statement_4 19 rfl rfl)
theorem dX6_statement_149 : decode cX6_statement 149 = .ok (.invokevirtual 101, 3) := dk_182 0 101 (dk_at dksX6_statement_4 21 rfl rfl)
theorem dX6_statement_152 : decode cX6_statement 152 = .ok (.ifCond .eq 63, 3) := dk_153 0 63 (dk_at dksX6_statement_5 0 rfl rfl)
theorem dX6_statement_155 : decode cX6_statement 155 = .ok (.iconst 3, 1) := dk_6 (dk_at dksX6_statement_5 3 rfl rfl)
theorem dX6_statement_156 : decode cX6_statement 156 = .ok (.istore_n 2, 1) := dk_61 (dk_at dksX6_statement_5 4 rfl rfl)
theorem dX6_statement_157 : decode cX6_statement 157 = .ok (.goto 58, 3) := dk_167 0 58 (dk_at dksX6_statement_5 5 rfl rfl)
theorem dX6_statement_160 : decode cX6_statement 160 = .ok (.aload_n 1, 1) := dk_43 (dk_at dksX6_statement_5 8 rfl rfl)
theorem dX6_statement_161 : decode cX6_statement 161 = .ok (.ldc 116, 2) := dk_18 116 (dk_at dksX6_statement_5 9 rfl rfl)
theorem dX6_statement_163 : decode cX6_statement 163 = .ok (.invokevirtual 101, 3) := dk_182 0 101 (dk_at dksX6_statement_5 11 rfl rfl)
theorem dX6_statement_166 : decode cX6_statement 166 = .ok (.ifCond .eq 49, 3) := dk_153 0 49 (dk_at dksX6_statement_5 14 rfl rfl)
theorem dX6_statement_169 : decode cX6_statement 169 = .ok (.iconst 4, 1) := dk_7 (dk_at dksX6_statement_5 17 rfl rfl)
theorem dX6_statement_170 : decode cX6_statement 170 = .ok (.istore_n 2, 1) := dk_61 (dk_at dksX6_statement_5 18 rfl rfl)
theorem dX6_statement_171 : decode cX6_statement 171 = .ok (.goto 44, 3) := dk_167 0 44 (dk_at dksX6_statement_5 19 rfl rfl)
theorem dX6_statement_174 : decode cX6_statement 174 = .ok (.aload_n 1, 1) := dk_43 (dk_at dksX6_statement_5 22 rfl rfl)
theorem dX6_statement_175 : decode cX6_statement 175 = .ok (.ldc 118, 2) := dk_18 118 (dk_at dksX6_statement_6 0 rfl rfl)
theorem dX6_statement_177 : decode cX6_statement 177 = .ok (.invokevirtual 101, 3) := dk_182 0 101 (dk_at dksX6_statement_6 2 rfl rfl)
theorem dX6_statement_180 : decode cX6_statement 180 = .ok (.ifCond .eq 35, 3) := dk_153 0 35 (dk_at dksX6_statement_6 5 rfl rfl)
theorem dX6_statement_183 : decode cX6_statement 183 = .ok (.iconst 5, 1) := dk_8 (dk_at dksX6_statement_6 8 rfl rfl)
theorem dX6_statement_184 : decode cX6_statement 184 = .ok (.istore_n 2, 1) := dk_61 (dk_at dksX6_statement_6 9 rfl rfl)
theorem dX6_statement_185 : decode cX6_statement 185 = .ok (.goto 30, 3) := dk_167 0 30 (dk_at dksX6_statement_6 10 rfl rfl)
theorem dX6_statement_188 : decode cX6_statement 188 = .ok (.aload_n 1, 1) := dk_43 (dk_at dksX6_statement_6 13 rfl rfl)
theorem dX6_statement_189 : decode cX6_statement 189 = .ok (.ldc 120, 2) := dk_18 120 (dk_at dksX6_statement_6 14 rfl rfl)
theorem dX6_statement_191 : decode cX6_statement 191 = .ok (.invokevirtual 101, 3) := dk_182 0 101 (dk_at dksX6_statement_6 16 rfl rfl)
theorem dX6_statement_194 : decode cX6_statement 194 = .ok (.ifCond .eq 21, 3) := dk_153 0 21 (dk_at dksX6_statement_6 19 rfl rfl)
theorem dX6_statement_197 : decode cX6_statement 197 = .ok (.bipush 6, 2) := dk_16 6 (dk_at dksX6_statement_6 22 rfl rfl)
theorem dX6_statement_199 : decode cX6_statement 199 = .ok (.istore_n 2, 1) := dk_61 (dk_at dksX6_statement_7 0 rfl rfl)
theorem dX6_statement_200 : decode cX6_statement 200 = .ok (.goto 15, 3) := dk_167 0 15 (dk_at dksX6_statement_7 1 rfl rfl)
theorem dX6_statement_203 : decode cX6_statement 203 = .ok (.aload_n 1, 1) := dk_43 (dk_at dksX6_statement_7 4 rfl rfl)
theorem dX6_statement_204 : decode cX6_statement 204 = .ok (.ldc 122, 2) := dk_18 122 (dk_at dksX6_statement_7 5 rfl rfl)
theorem dX6_statement_206 : decode cX6_statement 206 = .ok (.invokevirtual 101, 3) := dk_182 0 101 (dk_at dksX6_statement_7 7 rfl rfl)
theorem dX6_statement_209 : decode cX6_statement 209 = .ok (.ifCond .eq 6, 3) := dk_153 0 6 (dk_at dksX6_statement_7 10 rfl rfl)
theorem dX6_statement_212 : decode cX6_statement 212 = .ok (.bipush 7, 2) := dk_16 7 (dk_at dksX6_statement_7 13 rfl rfl)
theorem dX6_statement_214 : decode cX6_statement 214 = .ok (.istore_n 2, 1) := dk_61 (dk_at dksX6_statement_7 15 rfl rfl)
theorem dX6_statement_215 : decode cX6_statement 215 = .ok (.iload_n 2, 1) := dk_28 (dk_at dksX6_statement_7 16 rfl rfl)
theorem dX6_statement_216 : decode cX6_statement 216 = .ok (.tableswitch 104 0 7 #[48, 55, 62, 69, 76, 83, 90, 97], 48) := by decide +kernel
theorem dX6_statement_264 : decode cX6_statement 264 = .ok (.aload_n 0, 1) := dk_42 (dk_at dksX6_statement_9 0 rfl rfl)
theorem dX6_statement_265 : decode cX6_statement 265 = .ok (.invokevirtual 206, 3) := dk_182 0 206 (dk_at dksX6_statement_9 1 rfl rfl)
theorem dX6_statement_268 : decode cX6_statement 268 = .ok (.goto 64, 3) := dk_167 0 64 (dk_at dksX6_statement_9 4 rfl rfl)
theorem dX6_statement_271 : decode cX6_statement 271 = .ok (.aload_n 0, 1) := dk_42 (dk_at dksX6_statement_9 7 rfl rfl)
theorem dX6_statement_272 : decode cX6_statement 272 = .ok (.invokevirtual 208, 3) := dk_182 0 208 (dk_at dksX6_statement_9 8 rfl rfl)
theorem dX6_statement_275 : decode cX6_statement 275 = .ok (.goto 57, 3) := dk_167 0 57 (dk_at dksX6_statement_9 11 rfl rfl)
theorem dX6_statement_278 : decode cX6_statement 278 = .ok (.aload_n 0, 1) := dk_42 (dk_at dksX6_statement_9 14 rfl rfl)
theorem dX6_statement_279 : decode cX6_statement 279 = .ok (.invokevirtual 210, 3) := dk_182 0 210 (dk_at dksX6_statement_9 15 rfl rfl)
theorem dX6_statement_282 : decode cX6_statement 282 = .ok (.goto 50, 3) := dk_167 0 50 (dk_at dksX6_statement_9 18 rfl rfl)
theorem dX6_statement_285 : decode cX6_statement 285 = .ok (.aload_n 0, 1) := dk_42 (dk_at dksX6_statement_9 21 rfl rfl)
theorem dX6_statement_286 : decode cX6_statement 286 = .ok (.invokevirtual 213, 3) := dk_182 0 213 (dk_at dksX6_statement_10 0 rfl rfl)
theorem dX6_statement_289 : decode cX6_statement 289 = .ok (.goto 43, 3) := dk_167 0 43 (dk_at dksX6_statement_10 3 rfl rfl)
theorem dX6_statement_292 : decode cX6_statement 292 = .ok (.aload_n 0, 1) := dk_42 (dk_at dksX6_statement_10 6 rfl rfl)
theorem dX6_statement_293 : decode cX6_statement 293 = .ok (.invokevirtual 215, 3) := dk_182 0 215 (dk_at dksX6_statement_10 7 rfl rfl)
theorem dX6_statement_296 : decode cX6_statement 296 = .ok (.goto 36, 3) := dk_167 0 36 (dk_at dksX6_statement_10 10 rfl rfl)
theorem dX6_statement_299 : decode cX6_statement 299 = .ok (.aload_n 0, 1) := dk_42 (dk_at dksX6_statement_10 13 rfl rfl)
theorem dX6_statement_300 : decode cX6_statement 300 = .ok (.invokevirtual 217, 3) := dk_182 0 217 (dk_at dksX6_statement_10 14 rfl rfl)
theorem dX6_statement_303 : decode cX6_statement 303 = .ok (.goto 29, 3) := dk_167 0 29 (dk_at dksX6_statement_10 17 rfl rfl)
theorem dX6_statement_306 : decode cX6_statement 306 = .ok (.aload_n 0, 1) := dk_42 (dk_at dksX6_statement_10 20 rfl rfl)
theorem dX6_statement_307 : decode cX6_statement 307 = .ok (.invokevirtual 219, 3) := dk_182 0 219 (dk_at dksX6_statement_10 21 rfl rfl)
theorem dX6_statement_310 : decode cX6_statement 310 = .ok (.goto 22, 3) := dk_167 0 22 (dk_at dksX6_statement_11 0 rfl rfl)
theorem dX6_statement_313 : decode cX6_statement 313 = .ok (.aload_n 0, 1) := dk_42 (dk_at dksX6_statement_11 3 rfl rfl)
theorem dX6_statement_314 : decode cX6_statement 314 = .ok (.invokevirtual 221, 3) := dk_182 0 221 (dk_at dksX6_statement_11 4 rfl rfl)
theorem dX6_statement_317 : decode cX6_statement 317 = .ok (.goto 15, 3) := dk_167 0 15 (dk_at dksX6_statement_11 7 rfl rfl)
theorem dX6_statement_320 : decode cX6_statement 320 = .ok (.new 87, 3) := dk_187 0 87 (dk_at dksX6_statement_11 10 rfl rfl)
theorem dX6_statement_323 : decode cX6_statement 323 = .ok (.dup, 1) := dk_89 (dk_at dksX6_statement_11 13 rfl rfl)
theorem dX6_statement_324 : decode cX6_statement 324 = .ok (.aload_n 0, 1) := dk_42 (dk_at dksX6_statement_11 14 rfl rfl)
theorem dX6_statement_325 : decode cX6_statement 325 = .ok (.getfield 56, 3) := dk_180 0 56 (dk_at dksX6_statement_11 15 rfl rfl)
theorem dX6_statement_328 : decode cX6_statement 328 = .ok (.invokespecial 89, 3) := dk_183 0 89 (dk_at dksX6_statement_11 18 rfl rfl)
theorem dX6_statement_331 : decode cX6_statement 331 = .ok (.athrow, 1) := dk_191 (dk_at dksX6_statement_11 21 rfl rfl)
theorem dX6_statement_332 : decode cX6_statement 332 = .ok (.return_, 1) := dk_177 (dk_at dksX6_statement_11 22 rfl rfl)
abbrev cX6_expect : ByteArray := prog_10_method_4_code
def yX6_expect : MethodName := ⟨RX6, "expect", "(Z)V"⟩
def dkwX6_expect_0 : List UInt8 := [27, 154, 0, 15, 187, 0, 87, 89, 42, 180, 0, 56, 183, 0, 89, 191, 177]
abbrev dktX6_expect_0 : List UInt8 := dkwX6_expect_0 ++ []
theorem dksX6_expect_0 : cX6_expect.data.toList.drop 0 = dktX6_expect_0 := by decide +kernel
theorem dX6_expect_0 : decode cX6_expect 0 = .ok (.iload_n 1, 1) := dk_27 (dk_at dksX6_expect_0 0 rfl rfl)
theorem dX6_expect_1 : decode cX6_expect 1 = .ok (.ifCond .ne 15, 3) := dk_154 0 15 (dk_at dksX6_expect_0 1 rfl rfl)
theorem dX6_expect_4 : decode cX6_expect 4 = .ok (.new 87, 3) := dk_187 0 87 (dk_at dksX6_expect_0 4 rfl rfl)
theorem dX6_expect_7 : decode cX6_expect 7 = .ok (.dup, 1) := dk_89 (dk_at dksX6_expect_0 7 rfl rfl)
theorem dX6_expect_8 : decode cX6_expect 8 = .ok (.aload_n 0, 1) := dk_42 (dk_at dksX6_expect_0 8 rfl rfl)
theorem dX6_expect_9 : decode cX6_expect 9 = .ok (.getfield 56, 3) := dk_180 0 56 (dk_at dksX6_expect_0 9 rfl rfl)
theorem dX6_expect_12 : decode cX6_expect 12 = .ok (.invokespecial 89, 3) := dk_183 0 89 (dk_at dksX6_expect_0 12 rfl rfl)
theorem dX6_expect_15 : decode cX6_expect 15 = .ok (.athrow, 1) := dk_191 (dk_at dksX6_expect_0 15 rfl rfl)
theorem dX6_expect_16 : decode cX6_expect 16 = .ok (.return_, 1) := dk_177 (dk_at dksX6_expect_0 16 rfl rfl)
abbrev cX6_hall : ByteArray := prog_10_method_10_code
def yX6_hall : MethodName := ⟨RX6, "hall", "()V"⟩
def dkwX6_hall_3 : List UInt8 := [29, 42, 3, 17, 3, 232, 182, 0, 99, 183, 0, 156, 185, 0, 147, 2, 0, 87, 177]
abbrev dktX6_hall_3 : List UInt8 := dkwX6_hall_3 ++ []
def dkwX6_hall_2 : List UInt8 := [42, 28, 4, 96, 17, 5, 160, 182, 0, 150, 62, 42, 180, 0, 18, 180, 0, 153, 187, 0, 154, 89, 27, 28]
abbrev dktX6_hall_2 : List UInt8 := dkwX6_hall_2 ++ dktX6_hall_3
def dkwX6_hall_1 : List UInt8 := [185, 0, 147, 2, 0, 87, 42, 4, 17, 7, 208, 182, 0, 99, 60, 42, 3, 17, 5, 145, 182, 0, 150, 61]
abbrev dktX6_hall_1 : List UInt8 := dkwX6_hall_1 ++ dktX6_hall_2
def dkwX6_hall_0 : List UInt8 := [42, 42, 180, 0, 25, 185, 0, 137, 1, 0, 16, 6, 182, 0, 140, 42, 180, 0, 25, 42, 182, 0, 144]
abbrev dktX6_hall_0 : List UInt8 := dkwX6_hall_0 ++ dktX6_hall_1
theorem dksX6_hall_0 : cX6_hall.data.toList.drop 0 = dktX6_hall_0 := by decide +kernel
theorem dksX6_hall_1 : cX6_hall.data.toList.drop 23 = dktX6_hall_1 := dk_seg dksX6_hall_0 23 rfl rfl
theorem dksX6_hall_2 : cX6_hall.data.toList.drop 47 = dktX6_hall_2 := dk_seg dksX6_hall_1 24 rfl rfl
theorem dksX6_hall_3 : cX6_hall.data.toList.drop 71 = dktX6_hall_3 := dk_seg dksX6_hall_2 24 rfl rfl
theorem dX6_hall_0 : decode cX6_hall 0 = .ok (.aload_n 0, 1) := dk_42 (dk_at dksX6_hall_0 0 rfl rfl)
theorem dX6_hall_1 : decode cX6_hall 1 = .ok (.aload_n 0, 1) := dk_42 (dk_at dksX6_hall_0 1 rfl rfl)
theorem dX6_hall_2 : decode cX6_hall 2 = .ok (.getfield 25, 3) := dk_180 0 25 (dk_at dksX6_hall_0 2 rfl rfl)
theorem dX6_hall_5 : decode cX6_hall 5 = .ok (.invokeinterface 137 1, 5) := by decide +kernel
theorem dX6_hall_10 : decode cX6_hall 10 = .ok (.bipush 6, 2) := dk_16 6 (dk_at dksX6_hall_0 10 rfl rfl)
theorem dX6_hall_12 : decode cX6_hall 12 = .ok (.invokevirtual 140, 3) := dk_182 0 140 (dk_at dksX6_hall_0 12 rfl rfl)
theorem dX6_hall_15 : decode cX6_hall 15 = .ok (.aload_n 0, 1) := dk_42 (dk_at dksX6_hall_0 15 rfl rfl)
theorem dX6_hall_16 : decode cX6_hall 16 = .ok (.getfield 25, 3) := dk_180 0 25 (dk_at dksX6_hall_0 16 rfl rfl)
theorem dX6_hall_19 : decode cX6_hall 19 = .ok (.aload_n 0, 1) := dk_42 (dk_at dksX6_hall_0 19 rfl rfl)
theorem dX6_hall_20 : decode cX6_hall 20 = .ok (.invokevirtual 144, 3) := dk_182 0 144 (dk_at dksX6_hall_0 20 rfl rfl)
theorem dX6_hall_23 : decode cX6_hall 23 = .ok (.invokeinterface 147 2, 5) := by decide +kernel
theorem dX6_hall_28 : decode cX6_hall 28 = .ok (.pop, 1) := dk_87 (dk_at dksX6_hall_1 5 rfl rfl)
theorem dX6_hall_29 : decode cX6_hall 29 = .ok (.aload_n 0, 1) := dk_42 (dk_at dksX6_hall_1 6 rfl rfl)
theorem dX6_hall_30 : decode cX6_hall 30 = .ok (.iconst 1, 1) := dk_4 (dk_at dksX6_hall_1 7 rfl rfl)
theorem dX6_hall_31 : decode cX6_hall 31 = .ok (.sipush 2000, 3) := dk_17 7 208 (dk_at dksX6_hall_1 8 rfl rfl)
theorem dX6_hall_34 : decode cX6_hall 34 = .ok (.invokevirtual 99, 3) := dk_182 0 99 (dk_at dksX6_hall_1 11 rfl rfl)
theorem dX6_hall_37 : decode cX6_hall 37 = .ok (.istore_n 1, 1) := dk_60 (dk_at dksX6_hall_1 14 rfl rfl)
theorem dX6_hall_38 : decode cX6_hall 38 = .ok (.aload_n 0, 1) := dk_42 (dk_at dksX6_hall_1 15 rfl rfl)
theorem dX6_hall_39 : decode cX6_hall 39 = .ok (.iconst 0, 1) := dk_3 (dk_at dksX6_hall_1 16 rfl rfl)
theorem dX6_hall_40 : decode cX6_hall 40 = .ok (.sipush 1425, 3) := dk_17 5 145 (dk_at dksX6_hall_1 17 rfl rfl)
theorem dX6_hall_43 : decode cX6_hall 43 = .ok (.invokevirtual 150, 3) := dk_182 0 150 (dk_at dksX6_hall_1 20 rfl rfl)
theorem dX6_hall_46 : decode cX6_hall 46 = .ok (.istore_n 2, 1) := dk_61 (dk_at dksX6_hall_1 23 rfl rfl)
theorem dX6_hall_47 : decode cX6_hall 47 = .ok (.aload_n 0, 1) := dk_42 (dk_at dksX6_hall_2 0 rfl rfl)
theorem dX6_hall_48 : decode cX6_hall 48 = .ok (.iload_n 2, 1) := dk_28 (dk_at dksX6_hall_2 1 rfl rfl)
theorem dX6_hall_49 : decode cX6_hall 49 = .ok (.iconst 1, 1) := dk_4 (dk_at dksX6_hall_2 2 rfl rfl)
theorem dX6_hall_50 : decode cX6_hall 50 = .ok (.iadd, 1) := dk_96 (dk_at dksX6_hall_2 3 rfl rfl)
theorem dX6_hall_51 : decode cX6_hall 51 = .ok (.sipush 1440, 3) := dk_17 5 160 (dk_at dksX6_hall_2 4 rfl rfl)
theorem dX6_hall_54 : decode cX6_hall 54 = .ok (.invokevirtual 150, 3) := dk_182 0 150 (dk_at dksX6_hall_2 7 rfl rfl)
theorem dX6_hall_57 : decode cX6_hall 57 = .ok (.istore_n 3, 1) := dk_62 (dk_at dksX6_hall_2 10 rfl rfl)
theorem dX6_hall_58 : decode cX6_hall 58 = .ok (.aload_n 0, 1) := dk_42 (dk_at dksX6_hall_2 11 rfl rfl)
theorem dX6_hall_59 : decode cX6_hall 59 = .ok (.getfield 18, 3) := dk_180 0 18 (dk_at dksX6_hall_2 12 rfl rfl)
theorem dX6_hall_62 : decode cX6_hall 62 = .ok (.getfield 153, 3) := dk_180 0 153 (dk_at dksX6_hall_2 15 rfl rfl)
theorem dX6_hall_65 : decode cX6_hall 65 = .ok (.new 154, 3) := dk_187 0 154 (dk_at dksX6_hall_2 18 rfl rfl)
theorem dX6_hall_68 : decode cX6_hall 68 = .ok (.dup, 1) := dk_89 (dk_at dksX6_hall_2 21 rfl rfl)
theorem dX6_hall_69 : decode cX6_hall 69 = .ok (.iload_n 1, 1) := dk_27 (dk_at dksX6_hall_2 22 rfl rfl)
theorem dX6_hall_70 : decode cX6_hall 70 = .ok (.iload_n 2, 1) := dk_28 (dk_at dksX6_hall_2 23 rfl rfl)
theorem dX6_hall_71 : decode cX6_hall 71 = .ok (.iload_n 3, 1) := dk_29 (dk_at dksX6_hall_3 0 rfl rfl)
theorem dX6_hall_72 : decode cX6_hall 72 = .ok (.aload_n 0, 1) := dk_42 (dk_at dksX6_hall_3 1 rfl rfl)
theorem dX6_hall_73 : decode cX6_hall 73 = .ok (.iconst 0, 1) := dk_3 (dk_at dksX6_hall_3 2 rfl rfl)
theorem dX6_hall_74 : decode cX6_hall 74 = .ok (.sipush 1000, 3) := dk_17 3 232 (dk_at dksX6_hall_3 3 rfl rfl)
theorem dX6_hall_77 : decode cX6_hall 77 = .ok (.invokevirtual 99, 3) := dk_182 0 99 (dk_at dksX6_hall_3 6 rfl rfl)
theorem dX6_hall_80 : decode cX6_hall 80 = .ok (.invokespecial 156, 3) := dk_183 0 156 (dk_at dksX6_hall_3 9 rfl rfl)
theorem dX6_hall_83 : decode cX6_hall 83 = .ok (.invokeinterface 147 2, 5) := by decide +kernel
theorem dX6_hall_88 : decode cX6_hall 88 = .ok (.pop, 1) := dk_87 (dk_at dksX6_hall_3 17 rfl rfl)
theorem dX6_hall_89 : decode cX6_hall 89 = .ok (.return_, 1) := dk_177 (dk_at dksX6_hall_3 18 rfl rfl)
abbrev cX6_begins : ByteArray := prog_10_method_18_code
def yX6_begins : MethodName := ⟨RX6, "begins", "(II)V"⟩
def dkwX6_begins_0 : List UInt8 := [42, 27, 28, 162, 0, 7, 4, 167, 0, 4, 3, 182, 0, 92, 42, 182, 0, 96, 177]
abbrev dktX6_begins_0 : List UInt8 := dkwX6_begins_0 ++ []
theorem dksX6_begins_0 : cX6_begins.data.toList.drop 0 = dktX6_begins_0 := by decide +kernel
theorem dX6_begins_0 : decode cX6_begins 0 = .ok (.aload_n 0, 1) := dk_42 (dk_at dksX6_begins_0 0 rfl rfl)
theorem dX6_begins_1 : decode cX6_begins 1 = .ok (.iload_n 1, 1) := dk_27 (dk_at dksX6_begins_0 1 rfl rfl)
theorem dX6_begins_2 : decode cX6_begins 2 = .ok (.iload_n 2, 1) := dk_28 (dk_at dksX6_begins_0 2 rfl rfl)
theorem dX6_begins_3 : decode cX6_begins 3 = .ok (.if_icmp .ge 7, 3) := dk_162 0 7 (dk_at dksX6_begins_0 3 rfl rfl)
theorem dX6_begins_6 : decode cX6_begins 6 = .ok (.iconst 1, 1) := dk_4 (dk_at dksX6_begins_0 6 rfl rfl)
theorem dX6_begins_7 : decode cX6_begins 7 = .ok (.goto 4, 3) := dk_167 0 4 (dk_at dksX6_begins_0 7 rfl rfl)
theorem dX6_begins_10 : decode cX6_begins 10 = .ok (.iconst 0, 1) := dk_3 (dk_at dksX6_begins_0 10 rfl rfl)
theorem dX6_begins_11 : decode cX6_begins 11 = .ok (.invokevirtual 92, 3) := dk_182 0 92 (dk_at dksX6_begins_0 11 rfl rfl)
theorem dX6_begins_14 : decode cX6_begins 14 = .ok (.aload_n 0, 1) := dk_42 (dk_at dksX6_begins_0 14 rfl rfl)
theorem dX6_begins_15 : decode cX6_begins 15 = .ok (.invokevirtual 96, 3) := dk_182 0 96 (dk_at dksX6_begins_0 15 rfl rfl)
theorem dX6_begins_18 : decode cX6_begins 18 = .ok (.return_, 1) := dk_177 (dk_at dksX6_begins_0 18 rfl rfl)
abbrev cX6_name : ByteArray := prog_10_method_8_code
def yX6_name : MethodName := ⟨RX6, "name", "()Ljava/lang/String;"⟩
def dkwX6_name_6 : List UInt8 := [42, 180, 0, 37, 76, 42, 182, 0, 96, 43, 176]
abbrev dktX6_name_6 : List UInt8 := dkwX6_name_6 ++ []
def dkwX6_name_5 : List UInt8 := [42, 180, 0, 32, 42, 180, 0, 37, 185, 0, 128, 2, 0, 154, 0, 7, 4, 167, 0, 4, 3, 182, 0, 92]
abbrev dktX6_name_5 : List UInt8 := dkwX6_name_5 ++ dktX6_name_6
def dkwX6_name_4 : List UInt8 := [185, 0, 128, 2, 0, 154, 0, 39, 42, 180, 0, 29, 42, 180, 0, 37, 185, 0, 128, 2, 0, 154, 0, 23]
abbrev dktX6_name_4 : List UInt8 := dkwX6_name_4 ++ dktX6_name_5
def dkwX6_name_3 : List UInt8 := [154, 0, 7, 4, 167, 0, 4, 3, 182, 0, 92, 42, 42, 180, 0, 25, 42, 180, 0, 37]
abbrev dktX6_name_3 : List UInt8 := dkwX6_name_3 ++ dktX6_name_4
def dkwX6_name_2 : List UInt8 := [7, 18, 116, 83, 89, 8, 18, 118, 83, 89, 16, 6, 18, 120, 83, 89, 16, 7, 18, 122, 83, 182, 0, 124]
abbrev dktX6_name_2 : List UInt8 := dkwX6_name_2 ++ dktX6_name_3
def dkwX6_name_1 : List UInt8 := [189, 0, 102, 89, 3, 18, 109, 83, 89, 4, 18, 111, 83, 89, 5, 18, 113, 83, 89, 6, 18, 114, 83, 89]
abbrev dktX6_name_1 : List UInt8 := dkwX6_name_1 ++ dktX6_name_2
def dkwX6_name_0 : List UInt8 := [42, 42, 180, 0, 65, 4, 160, 0, 73, 42, 180, 0, 37, 182, 0, 107, 16, 6, 163, 0, 61, 42, 16, 8]
abbrev dktX6_name_0 : List UInt8 := dkwX6_name_0 ++ dktX6_name_1
theorem dksX6_name_0 : cX6_name.data.toList.drop 0 = dktX6_name_0 := by decide +kernel
theorem dksX6_name_1 : cX6_name.data.toList.drop 24 = dktX6_name_1 := dk_seg dksX6_name_0 24 rfl rfl
theorem dksX6_name_2 : cX6_name.data.toList.drop 48 = dktX6_name_2 := dk_seg dksX6_name_1 24 rfl rfl
theorem dksX6_name_3 : cX6_name.data.toList.drop 72 = dktX6_name_3 := dk_seg dksX6_name_2 24 rfl rfl
theorem dksX6_name_4 : cX6_name.data.toList.drop 92 = dktX6_name_4 := dk_seg dksX6_name_3 20 rfl rfl
theorem dksX6_name_5 : cX6_name.data.toList.drop 116 = dktX6_name_5 := dk_seg dksX6_name_4 24 rfl rfl
theorem dksX6_name_6 : cX6_name.data.toList.drop 140 = dktX6_name_6 := dk_seg dksX6_name_5 24 rfl rfl
theorem dX6_name_0 : decode cX6_name 0 = .ok (.aload_n 0, 1) := dk_42 (dk_at dksX6_name_0 0 rfl rfl)
theorem dX6_name_1 : decode cX6_name 1 = .ok (.aload_n 0, 1) := dk_42 (dk_at dksX6_name_0 1 rfl rfl)
theorem dX6_name_2 : decode cX6_name 2 = .ok (.getfield 65, 3) := dk_180 0 65 (dk_at dksX6_name_0 2 rfl rfl)
theorem dX6_name_5 : decode cX6_name 5 = .ok (.iconst 1, 1) := dk_4 (dk_at dksX6_name_0 5 rfl rfl)
theorem dX6_name_6 : decode cX6_name 6 = .ok (.if_icmp .ne 73, 3) := dk_160 0 73 (dk_at dksX6_name_0 6 rfl rfl)
theorem dX6_name_9 : decode cX6_name 9 = .ok (.aload_n 0, 1) := dk_42 (dk_at dksX6_name_0 9 rfl rfl)
theorem dX6_name_10 : decode cX6_name 10 = .ok (.getfield 37, 3) := dk_180 0 37 (dk_at dksX6_name_0 10 rfl rfl)
theorem dX6_name_13 : decode cX6_name 13 = .ok (.invokevirtual 107, 3) := dk_182 0 107 (dk_at dksX6_name_0 13 rfl rfl)
theorem dX6_name_16 : decode cX6_name 16 = .ok (.bipush 6, 2) := dk_16 6 (dk_at dksX6_name_0 16 rfl rfl)
theorem dX6_name_18 : decode cX6_name 18 = .ok (.if_icmp .gt 61, 3) := dk_163 0 61 (dk_at dksX6_name_0 18 rfl rfl)
theorem dX6_name_21 : decode cX6_name 21 = .ok (.aload_n 0, 1) := dk_42 (dk_at dksX6_name_0 21 rfl rfl)
theorem dX6_name_22 : decode cX6_name 22 = .ok (.bipush 8, 2) := dk_16 8 (dk_at dksX6_name_0 22 rfl rfl)
theorem dX6_name_24 : decode cX6_name 24 = .ok (.anewarray 102, 3) := dk_189 0 102 (dk_at dksX6_name_1 0 rfl rfl)
theorem dX6_name_27 : decode cX6_name 27 = .ok (.dup, 1) := dk_89 (dk_at dksX6_name_1 3 rfl rfl)
theorem dX6_name_28 : decode cX6_name 28 = .ok (.iconst 0, 1) := dk_3 (dk_at dksX6_name_1 4 rfl rfl)
theorem dX6_name_29 : decode cX6_name 29 = .ok (.ldc 109, 2) := dk_18 109 (dk_at dksX6_name_1 5 rfl rfl)
theorem dX6_name_31 : decode cX6_name 31 = .ok (.aastore, 1) := dk_83 (dk_at dksX6_name_1 7 rfl rfl)
theorem dX6_name_32 : decode cX6_name 32 = .ok (.dup, 1) := dk_89 (dk_at dksX6_name_1 8 rfl rfl)
theorem dX6_name_33 : decode cX6_name 33 = .ok (.iconst 1, 1) := dk_4 (dk_at dksX6_name_1 9 rfl rfl)
theorem dX6_name_34 : decode cX6_name 34 = .ok (.ldc 111, 2) := dk_18 111 (dk_at dksX6_name_1 10 rfl rfl)
theorem dX6_name_36 : decode cX6_name 36 = .ok (.aastore, 1) := dk_83 (dk_at dksX6_name_1 12 rfl rfl)
theorem dX6_name_37 : decode cX6_name 37 = .ok (.dup, 1) := dk_89 (dk_at dksX6_name_1 13 rfl rfl)
theorem dX6_name_38 : decode cX6_name 38 = .ok (.iconst 2, 1) := dk_5 (dk_at dksX6_name_1 14 rfl rfl)
theorem dX6_name_39 : decode cX6_name 39 = .ok (.ldc 113, 2) := dk_18 113 (dk_at dksX6_name_1 15 rfl rfl)
theorem dX6_name_41 : decode cX6_name 41 = .ok (.aastore, 1) := dk_83 (dk_at dksX6_name_1 17 rfl rfl)
theorem dX6_name_42 : decode cX6_name 42 = .ok (.dup, 1) := dk_89 (dk_at dksX6_name_1 18 rfl rfl)
theorem dX6_name_43 : decode cX6_name 43 = .ok (.iconst 3, 1) := dk_6 (dk_at dksX6_name_1 19 rfl rfl)
theorem dX6_name_44 : decode cX6_name 44 = .ok (.ldc 114, 2) := dk_18 114 (dk_at dksX6_name_1 20 rfl rfl)
theorem dX6_name_46 : decode cX6_name 46 = .ok (.aastore, 1) := dk_83 (dk_at dksX6_name_1 22 rfl rfl)
theorem dX6_name_47 : decode cX6_name 47 = .ok (.dup, 1) := dk_89 (dk_at dksX6_name_1 23 rfl rfl)
theorem dX6_name_48 : decode cX6_name 48 = .ok (.iconst 4, 1) := dk_7 (dk_at dksX6_name_2 0 rfl rfl)
theorem dX6_name_49 : decode cX6_name 49 = .ok (.ldc 116, 2) := dk_18 116 (dk_at dksX6_name_2 1 rfl rfl)
theorem dX6_name_51 : decode cX6_name 51 = .ok (.aastore, 1) := dk_83 (dk_at dksX6_name_2 3 rfl rfl)
theorem dX6_name_52 : decode cX6_name 52 = .ok (.dup, 1) := dk_89 (dk_at dksX6_name_2 4 rfl rfl)
theorem dX6_name_53 : decode cX6_name 53 = .ok (.iconst 5, 1) := dk_8 (dk_at dksX6_name_2 5 rfl rfl)
theorem dX6_name_54 : decode cX6_name 54 = .ok (.ldc 118, 2) := dk_18 118 (dk_at dksX6_name_2 6 rfl rfl)
theorem dX6_name_56 : decode cX6_name 56 = .ok (.aastore, 1) := dk_83 (dk_at dksX6_name_2 8 rfl rfl)
theorem dX6_name_57 : decode cX6_name 57 = .ok (.dup, 1) := dk_89 (dk_at dksX6_name_2 9 rfl rfl)
theorem dX6_name_58 : decode cX6_name 58 = .ok (.bipush 6, 2) := dk_16 6 (dk_at dksX6_name_2 10 rfl rfl)
theorem dX6_name_60 : decode cX6_name 60 = .ok (.ldc 120, 2) := dk_18 120 (dk_at dksX6_name_2 12 rfl rfl)
theorem dX6_name_62 : decode cX6_name 62 = .ok (.aastore, 1) := dk_83 (dk_at dksX6_name_2 14 rfl rfl)
theorem dX6_name_63 : decode cX6_name 63 = .ok (.dup, 1) := dk_89 (dk_at dksX6_name_2 15 rfl rfl)
theorem dX6_name_64 : decode cX6_name 64 = .ok (.bipush 7, 2) := dk_16 7 (dk_at dksX6_name_2 16 rfl rfl)
theorem dX6_name_66 : decode cX6_name 66 = .ok (.ldc 122, 2) := dk_18 122 (dk_at dksX6_name_2 18 rfl rfl)
theorem dX6_name_68 : decode cX6_name 68 = .ok (.aastore, 1) := dk_83 (dk_at dksX6_name_2 20 rfl rfl)
theorem dX6_name_69 : decode cX6_name 69 = .ok (.invokevirtual 124, 3) := dk_182 0 124 (dk_at dksX6_name_2 21 rfl rfl)
theorem dX6_name_72 : decode cX6_name 72 = .ok (.ifCond .ne 7, 3) := dk_154 0 7 (dk_at dksX6_name_3 0 rfl rfl)
theorem dX6_name_75 : decode cX6_name 75 = .ok (.iconst 1, 1) := dk_4 (dk_at dksX6_name_3 3 rfl rfl)
theorem dX6_name_76 : decode cX6_name 76 = .ok (.goto 4, 3) := dk_167 0 4 (dk_at dksX6_name_3 4 rfl rfl)
theorem dX6_name_79 : decode cX6_name 79 = .ok (.iconst 0, 1) := dk_3 (dk_at dksX6_name_3 7 rfl rfl)
theorem dX6_name_80 : decode cX6_name 80 = .ok (.invokevirtual 92, 3) := dk_182 0 92 (dk_at dksX6_name_3 8 rfl rfl)
theorem dX6_name_83 : decode cX6_name 83 = .ok (.aload_n 0, 1) := dk_42 (dk_at dksX6_name_3 11 rfl rfl)
theorem dX6_name_84 : decode cX6_name 84 = .ok (.aload_n 0, 1) := dk_42 (dk_at dksX6_name_3 12 rfl rfl)
theorem dX6_name_85 : decode cX6_name 85 = .ok (.getfield 25, 3) := dk_180 0 25 (dk_at dksX6_name_3 13 rfl rfl)
theorem dX6_name_88 : decode cX6_name 88 = .ok (.aload_n 0, 1) := dk_42 (dk_at dksX6_name_3 16 rfl rfl)
theorem dX6_name_89 : decode cX6_name 89 = .ok (.getfield 37, 3) := dk_180 0 37 (dk_at dksX6_name_3 17 rfl rfl)
theorem dX6_name_92 : decode cX6_name 92 = .ok (.invokeinterface 128 2, 5) := by decide +kernel
theorem dX6_name_97 : decode cX6_name 97 = .ok (.ifCond .ne 39, 3) := dk_154 0 39 (dk_at dksX6_name_4 5 rfl rfl)
theorem dX6_name_100 : decode cX6_name 100 = .ok (.aload_n 0, 1) := dk_42 (dk_at dksX6_name_4 8 rfl rfl)
theorem dX6_name_101 : decode cX6_name 101 = .ok (.getfield 29, 3) := dk_180 0 29 (dk_at dksX6_name_4 9 rfl rfl)
theorem dX6_name_104 : decode cX6_name 104 = .ok (.aload_n 0, 1) := dk_42 (dk_at dksX6_name_4 12 rfl rfl)
theorem dX6_name_105 : decode cX6_name 105 = .ok (.getfield 37, 3) := dk_180 0 37 (dk_at dksX6_name_4 13 rfl rfl)
theorem dX6_name_108 : decode cX6_name 108 = .ok (.invokeinterface 128 2, 5) := by decide +kernel
theorem dX6_name_113 : decode cX6_name 113 = .ok (.ifCond .ne 23, 3) := dk_154 0 23 (dk_at dksX6_name_4 21 rfl rfl)
theorem dX6_name_116 : decode cX6_name 116 = .ok (.aload_n 0, 1) := dk_42 (dk_at dksX6_name_5 0 rfl rfl)
theorem dX6_name_117 : decode cX6_name 117 = .ok (.getfield 32, 3) := dk_180 0 32 (dk_at dksX6_name_5 1 rfl rfl)
theorem dX6_name_120 : decode cX6_name 120 = .ok (.aload_n 0, 1) := dk_42 (dk_at dksX6_name_5 4 rfl rfl)
theorem dX6_name_121 : decode cX6_name 121 = .ok (.getfield 37, 3) := dk_180 0 37 (dk_at dksX6_name_5 5 rfl rfl)
theorem dX6_name_124 : decode cX6_name 124 = .ok (.invokeinterface 128 2, 5) := by decide +kernel
theorem dX6_name_129 : decode cX6_name 129 = .ok (.ifCond .ne 7, 3) := dk_154 0 7 (dk_at dksX6_name_5 13 rfl rfl)
theorem dX6_name_132 : decode cX6_name 132 = .ok (.iconst 1, 1) := dk_4 (dk_at dksX6_name_5 16 rfl rfl)
theorem dX6_name_133 : decode cX6_name 133 = .ok (.goto 4, 3) := dk_167 0 4 (dk_at dksX6_name_5 17 rfl rfl)
theorem dX6_name_136 : decode cX6_name 136 = .ok (.iconst 0, 1) := dk_3 (dk_at dksX6_name_5 20 rfl rfl)
theorem dX6_name_137 : decode cX6_name 137 = .ok (.invokevirtual 92, 3) := dk_182 0 92 (dk_at dksX6_name_5 21 rfl rfl)
theorem dX6_name_140 : decode cX6_name 140 = .ok (.aload_n 0, 1) := dk_42 (dk_at dksX6_name_6 0 rfl rfl)
theorem dX6_name_141 : decode cX6_name 141 = .ok (.getfield 37, 3) := dk_180 0 37 (dk_at dksX6_name_6 1 rfl rfl)
theorem dX6_name_144 : decode cX6_name 144 = .ok (.astore_n 1, 1) := dk_76 (dk_at dksX6_name_6 4 rfl rfl)
theorem dX6_name_145 : decode cX6_name 145 = .ok (.aload_n 0, 1) := dk_42 (dk_at dksX6_name_6 5 rfl rfl)
theorem dX6_name_146 : decode cX6_name 146 = .ok (.invokevirtual 96, 3) := dk_182 0 96 (dk_at dksX6_name_6 6 rfl rfl)
theorem dX6_name_149 : decode cX6_name 149 = .ok (.aload_n 1, 1) := dk_43 (dk_at dksX6_name_6 9 rfl rfl)
theorem dX6_name_150 : decode cX6_name 150 = .ok (.areturn, 1) := dk_176 (dk_at dksX6_name_6 10 rfl rfl)
abbrev cX6_isOneOf : ByteArray := prog_10_method_7_code
def yX6_isOneOf : MethodName := ⟨RX6, "isOneOf", "([Ljava/lang/String;)Z"⟩
def dkwX6_isOneOf_1 : List UInt8 := [132, 3, 1, 167, 255, 234, 28, 172]
abbrev dktX6_isOneOf_1 : List UInt8 := dkwX6_isOneOf_1 ++ []
def dkwX6_isOneOf_0 : List UInt8 := [3, 61, 3, 62, 29, 43, 190, 162, 0, 22, 28, 43, 29, 50, 42, 180, 0, 37, 182, 0, 101, 128, 61]
abbrev dktX6_isOneOf_0 : List UInt8 := dkwX6_isOneOf_0 ++ dktX6_isOneOf_1
theorem dksX6_isOneOf_0 : cX6_isOneOf.data.toList.drop 0 = dktX6_isOneOf_0 := by decide +kernel
theorem dksX6_isOneOf_1 : cX6_isOneOf.data.toList.drop 23 = dktX6_isOneOf_1 := dk_seg dksX6_isOneOf_0 23 rfl rfl
theorem dX6_isOneOf_0 : decode cX6_isOneOf 0 = .ok (.iconst 0, 1) := dk_3 (dk_at dksX6_isOneOf_0 0 rfl rfl)
theorem dX6_isOneOf_1 : decode cX6_isOneOf 1 = .ok (.istore_n 2, 1) := dk_61 (dk_at dksX6_isOneOf_0 1 rfl rfl)
theorem dX6_isOneOf_2 : decode cX6_isOneOf 2 = .ok (.iconst 0, 1) := dk_3 (dk_at dksX6_isOneOf_0 2 rfl rfl)
theorem dX6_isOneOf_3 : decode cX6_isOneOf 3 = .ok (.istore_n 3, 1) := dk_62 (dk_at dksX6_isOneOf_0 3 rfl rfl)
theorem dX6_isOneOf_4 : decode cX6_isOneOf 4 = .ok (.iload_n 3, 1) := dk_29 (dk_at dksX6_isOneOf_0 4 rfl rfl)
theorem dX6_isOneOf_5 : decode cX6_isOneOf 5 = .ok (.aload_n 1, 1) := dk_43 (dk_at dksX6_isOneOf_0 5 rfl rfl)
theorem dX6_isOneOf_6 : decode cX6_isOneOf 6 = .ok (.arraylength, 1) := dk_190 (dk_at dksX6_isOneOf_0 6 rfl rfl)
theorem dX6_isOneOf_7 : decode cX6_isOneOf 7 = .ok (.if_icmp .ge 22, 3) := dk_162 0 22 (dk_at dksX6_isOneOf_0 7 rfl rfl)
theorem dX6_isOneOf_10 : decode cX6_isOneOf 10 = .ok (.iload_n 2, 1) := dk_28 (dk_at dksX6_isOneOf_0 10 rfl rfl)
theorem dX6_isOneOf_11 : decode cX6_isOneOf 11 = .ok (.aload_n 1, 1) := dk_43 (dk_at dksX6_isOneOf_0 11 rfl rfl)
theorem dX6_isOneOf_12 : decode cX6_isOneOf 12 = .ok (.iload_n 3, 1) := dk_29 (dk_at dksX6_isOneOf_0 12 rfl rfl)
theorem dX6_isOneOf_13 : decode cX6_isOneOf 13 = .ok (.aaload, 1) := dk_50 (dk_at dksX6_isOneOf_0 13 rfl rfl)
theorem dX6_isOneOf_14 : decode cX6_isOneOf 14 = .ok (.aload_n 0, 1) := dk_42 (dk_at dksX6_isOneOf_0 14 rfl rfl)
theorem dX6_isOneOf_15 : decode cX6_isOneOf 15 = .ok (.getfield 37, 3) := dk_180 0 37 (dk_at dksX6_isOneOf_0 15 rfl rfl)
theorem dX6_isOneOf_18 : decode cX6_isOneOf 18 = .ok (.invokevirtual 101, 3) := dk_182 0 101 (dk_at dksX6_isOneOf_0 18 rfl rfl)
theorem dX6_isOneOf_21 : decode cX6_isOneOf 21 = .ok (.ior, 1) := dk_128 (dk_at dksX6_isOneOf_0 21 rfl rfl)
theorem dX6_isOneOf_22 : decode cX6_isOneOf 22 = .ok (.istore_n 2, 1) := dk_61 (dk_at dksX6_isOneOf_0 22 rfl rfl)
theorem dX6_isOneOf_23 : decode cX6_isOneOf 23 = .ok (.iinc 3 1, 3) := dk_132 3 1 (dk_at dksX6_isOneOf_1 0 rfl rfl)
theorem dX6_isOneOf_26 : decode cX6_isOneOf 26 = .ok (.goto (-22), 3) := dk_167 255 234 (dk_at dksX6_isOneOf_1 3 rfl rfl)
theorem dX6_isOneOf_29 : decode cX6_isOneOf 29 = .ok (.iload_n 2, 1) := dk_28 (dk_at dksX6_isOneOf_1 6 rfl rfl)
theorem dX6_isOneOf_30 : decode cX6_isOneOf 30 = .ok (.ireturn, 1) := dk_172 (dk_at dksX6_isOneOf_1 7 rfl rfl)
abbrev cX6_number : ByteArray := prog_10_method_5_code
def yX6_number : MethodName := ⟨RX6, "number", "(II)I"⟩
def dkwX6_number_1 : List UInt8 := [167, 0, 4, 3, 182, 0, 92, 42, 180, 0, 59, 62, 42, 182, 0, 96, 29, 172]
abbrev dktX6_number_1 : List UInt8 := dkwX6_number_1 ++ []
def dkwX6_number_0 : List UInt8 := [42, 42, 180, 0, 65, 5, 160, 0, 19, 42, 180, 0, 59, 27, 28, 184, 0, 69, 153, 0, 7, 4]
abbrev dktX6_number_0 : List UInt8 := dkwX6_number_0 ++ dktX6_number_1
theorem dksX6_number_0 : cX6_number.data.toList.drop 0 = dktX6_number_0 := by decide +kernel
theorem dksX6_number_1 : cX6_number.data.toList.drop 22 = dktX6_number_1 := dk_seg dksX6_number_0 22 rfl rfl
theorem dX6_number_0 : decode cX6_number 0 = .ok (.aload_n 0, 1) := dk_42 (dk_at dksX6_number_0 0 rfl rfl)
theorem dX6_number_1 : decode cX6_number 1 = .ok (.aload_n 0, 1) := dk_42 (dk_at dksX6_number_0 1 rfl rfl)
theorem dX6_number_2 : decode cX6_number 2 = .ok (.getfield 65, 3) := dk_180 0 65 (dk_at dksX6_number_0 2 rfl rfl)
theorem dX6_number_5 : decode cX6_number 5 = .ok (.iconst 2, 1) := dk_5 (dk_at dksX6_number_0 5 rfl rfl)
theorem dX6_number_6 : decode cX6_number 6 = .ok (.if_icmp .ne 19, 3) := dk_160 0 19 (dk_at dksX6_number_0 6 rfl rfl)
theorem dX6_number_9 : decode cX6_number 9 = .ok (.aload_n 0, 1) := dk_42 (dk_at dksX6_number_0 9 rfl rfl)
theorem dX6_number_10 : decode cX6_number 10 = .ok (.getfield 59, 3) := dk_180 0 59 (dk_at dksX6_number_0 10 rfl rfl)
theorem dX6_number_13 : decode cX6_number 13 = .ok (.iload_n 1, 1) := dk_27 (dk_at dksX6_number_0 13 rfl rfl)
theorem dX6_number_14 : decode cX6_number 14 = .ok (.iload_n 2, 1) := dk_28 (dk_at dksX6_number_0 14 rfl rfl)
theorem dX6_number_15 : decode cX6_number 15 = .ok (.invokestatic 69, 3) := dk_184 0 69 (dk_at dksX6_number_0 15 rfl rfl)
theorem dX6_number_18 : decode cX6_number 18 = .ok (.ifCond .eq 7, 3) := dk_153 0 7 (dk_at dksX6_number_0 18 rfl rfl)
theorem dX6_number_21 : decode cX6_number 21 = .ok (.iconst 1, 1) := dk_4 (dk_at dksX6_number_0 21 rfl rfl)
theorem dX6_number_22 : decode cX6_number 22 = .ok (.goto 4, 3) := dk_167 0 4 (dk_at dksX6_number_1 0 rfl rfl)
theorem dX6_number_25 : decode cX6_number 25 = .ok (.iconst 0, 1) := dk_3 (dk_at dksX6_number_1 3 rfl rfl)
theorem dX6_number_26 : decode cX6_number 26 = .ok (.invokevirtual 92, 3) := dk_182 0 92 (dk_at dksX6_number_1 4 rfl rfl)
theorem dX6_number_29 : decode cX6_number 29 = .ok (.aload_n 0, 1) := dk_42 (dk_at dksX6_number_1 7 rfl rfl)
theorem dX6_number_30 : decode cX6_number 30 = .ok (.getfield 59, 3) := dk_180 0 59 (dk_at dksX6_number_1 8 rfl rfl)
theorem dX6_number_33 : decode cX6_number 33 = .ok (.istore_n 3, 1) := dk_62 (dk_at dksX6_number_1 11 rfl rfl)
theorem dX6_number_34 : decode cX6_number 34 = .ok (.aload_n 0, 1) := dk_42 (dk_at dksX6_number_1 12 rfl rfl)
theorem dX6_number_35 : decode cX6_number 35 = .ok (.invokevirtual 96, 3) := dk_182 0 96 (dk_at dksX6_number_1 13 rfl rfl)
theorem dX6_number_38 : decode cX6_number 38 = .ok (.iload_n 3, 1) := dk_29 (dk_at dksX6_number_1 16 rfl rfl)
theorem dX6_number_39 : decode cX6_number 39 = .ok (.ireturn, 1) := dk_172 (dk_at dksX6_number_1 17 rfl rfl)
abbrev cX6_minutes : ByteArray := prog_10_method_6_code
def yX6_minutes : MethodName := ⟨RX6, "minutes", "(II)I"⟩
def dkwX6_minutes_1 : List UInt8 := [182, 0, 99, 172]
abbrev dktX6_minutes_1 : List UInt8 := dkwX6_minutes_1 ++ []
def dkwX6_minutes_0 : List UInt8 := [42, 42, 180, 0, 59, 16, 15, 112, 154, 0, 7, 4, 167, 0, 4, 3, 182, 0, 92, 42, 27, 28]
abbrev dktX6_minutes_0 : List UInt8 := dkwX6_minutes_0 ++ dktX6_minutes_1
theorem dksX6_minutes_0 : cX6_minutes.data.toList.drop 0 = dktX6_minutes_0 := by decide +kernel
theorem dksX6_minutes_1 : cX6_minutes.data.toList.drop 22 = dktX6_minutes_1 := dk_seg dksX6_minutes_0 22 rfl rfl
theorem dX6_minutes_0 : decode cX6_minutes 0 = .ok (.aload_n 0, 1) := dk_42 (dk_at dksX6_minutes_0 0 rfl rfl)
theorem dX6_minutes_1 : decode cX6_minutes 1 = .ok (.aload_n 0, 1) := dk_42 (dk_at dksX6_minutes_0 1 rfl rfl)
theorem dX6_minutes_2 : decode cX6_minutes 2 = .ok (.getfield 59, 3) := dk_180 0 59 (dk_at dksX6_minutes_0 2 rfl rfl)
theorem dX6_minutes_5 : decode cX6_minutes 5 = .ok (.bipush 15, 2) := dk_16 15 (dk_at dksX6_minutes_0 5 rfl rfl)
theorem dX6_minutes_7 : decode cX6_minutes 7 = .ok (.irem, 1) := dk_112 (dk_at dksX6_minutes_0 7 rfl rfl)
theorem dX6_minutes_8 : decode cX6_minutes 8 = .ok (.ifCond .ne 7, 3) := dk_154 0 7 (dk_at dksX6_minutes_0 8 rfl rfl)
theorem dX6_minutes_11 : decode cX6_minutes 11 = .ok (.iconst 1, 1) := dk_4 (dk_at dksX6_minutes_0 11 rfl rfl)
theorem dX6_minutes_12 : decode cX6_minutes 12 = .ok (.goto 4, 3) := dk_167 0 4 (dk_at dksX6_minutes_0 12 rfl rfl)
theorem dX6_minutes_15 : decode cX6_minutes 15 = .ok (.iconst 0, 1) := dk_3 (dk_at dksX6_minutes_0 15 rfl rfl)
theorem dX6_minutes_16 : decode cX6_minutes 16 = .ok (.invokevirtual 92, 3) := dk_182 0 92 (dk_at dksX6_minutes_0 16 rfl rfl)
theorem dX6_minutes_19 : decode cX6_minutes 19 = .ok (.aload_n 0, 1) := dk_42 (dk_at dksX6_minutes_0 19 rfl rfl)
theorem dX6_minutes_20 : decode cX6_minutes 20 = .ok (.iload_n 1, 1) := dk_27 (dk_at dksX6_minutes_0 20 rfl rfl)
theorem dX6_minutes_21 : decode cX6_minutes 21 = .ok (.iload_n 2, 1) := dk_28 (dk_at dksX6_minutes_0 21 rfl rfl)
theorem dX6_minutes_22 : decode cX6_minutes 22 = .ok (.invokevirtual 99, 3) := dk_182 0 99 (dk_at dksX6_minutes_1 0 rfl rfl)
theorem dX6_minutes_25 : decode cX6_minutes 25 = .ok (.ireturn, 1) := dk_172 (dk_at dksX6_minutes_1 3 rfl rfl)
abbrev cX6_type : ByteArray := prog_10_method_11_code
def yX6_type : MethodName := ⟨RX6, "type", "()V"⟩
def dkwX6_type_1 : List UInt8 := [185, 0, 147, 2, 0, 87, 42, 180, 0, 18, 89, 180, 0, 159, 4, 96, 181, 0, 159, 177]
abbrev dktX6_type_1 : List UInt8 := dkwX6_type_1 ++ []
def dkwX6_type_0 : List UInt8 := [42, 42, 180, 0, 29, 185, 0, 137, 1, 0, 16, 6, 182, 0, 140, 42, 180, 0, 29, 42, 182, 0, 144]
abbrev dktX6_type_0 : List UInt8 := dkwX6_type_0 ++ dktX6_type_1
theorem dksX6_type_0 : cX6_type.data.toList.drop 0 = dktX6_type_0 := by decide +kernel
theorem dksX6_type_1 : cX6_type.data.toList.drop 23 = dktX6_type_1 := dk_seg dksX6_type_0 23 rfl rfl
theorem dX6_type_0 : decode cX6_type 0 = .ok (.aload_n 0, 1) := dk_42 (dk_at dksX6_type_0 0 rfl rfl)
theorem dX6_type_1 : decode cX6_type 1 = .ok (.aload_n 0, 1) := dk_42 (dk_at dksX6_type_0 1 rfl rfl)
theorem dX6_type_2 : decode cX6_type 2 = .ok (.getfield 29, 3) := dk_180 0 29 (dk_at dksX6_type_0 2 rfl rfl)
theorem dX6_type_5 : decode cX6_type 5 = .ok (.invokeinterface 137 1, 5) := by decide +kernel
theorem dX6_type_10 : decode cX6_type 10 = .ok (.bipush 6, 2) := dk_16 6 (dk_at dksX6_type_0 10 rfl rfl)
theorem dX6_type_12 : decode cX6_type 12 = .ok (.invokevirtual 140, 3) := dk_182 0 140 (dk_at dksX6_type_0 12 rfl rfl)
theorem dX6_type_15 : decode cX6_type 15 = .ok (.aload_n 0, 1) := dk_42 (dk_at dksX6_type_0 15 rfl rfl)
theorem dX6_type_16 : decode cX6_type 16 = .ok (.getfield 29, 3) := dk_180 0 29 (dk_at dksX6_type_0 16 rfl rfl)
theorem dX6_type_19 : decode cX6_type 19 = .ok (.aload_n 0, 1) := dk_42 (dk_at dksX6_type_0 19 rfl rfl)
theorem dX6_type_20 : decode cX6_type 20 = .ok (.invokevirtual 144, 3) := dk_182 0 144 (dk_at dksX6_type_0 20 rfl rfl)
theorem dX6_type_23 : decode cX6_type 23 = .ok (.invokeinterface 147 2, 5) := by decide +kernel
theorem dX6_type_28 : decode cX6_type 28 = .ok (.pop, 1) := dk_87 (dk_at dksX6_type_1 5 rfl rfl)
theorem dX6_type_29 : decode cX6_type 29 = .ok (.aload_n 0, 1) := dk_42 (dk_at dksX6_type_1 6 rfl rfl)
theorem dX6_type_30 : decode cX6_type 30 = .ok (.getfield 18, 3) := dk_180 0 18 (dk_at dksX6_type_1 7 rfl rfl)
theorem dX6_type_33 : decode cX6_type 33 = .ok (.dup, 1) := dk_89 (dk_at dksX6_type_1 10 rfl rfl)
theorem dX6_type_34 : decode cX6_type 34 = .ok (.getfield 159, 3) := dk_180 0 159 (dk_at dksX6_type_1 11 rfl rfl)
theorem dX6_type_37 : decode cX6_type 37 = .ok (.iconst 1, 1) := dk_4 (dk_at dksX6_type_1 14 rfl rfl)
theorem dX6_type_38 : decode cX6_type 38 = .ok (.iadd, 1) := dk_96 (dk_at dksX6_type_1 15 rfl rfl)
theorem dX6_type_39 : decode cX6_type 39 = .ok (.putfield 159, 3) := dk_181 0 159 (dk_at dksX6_type_1 16 rfl rfl)
theorem dX6_type_42 : decode cX6_type 42 = .ok (.return_, 1) := dk_177 (dk_at dksX6_type_1 19 rfl rfl)
abbrev cX6_kindOf : ByteArray := prog_10_method_12_code
def yX6_kindOf : MethodName := ⟨RX6, "kindOf", "()V"⟩
def dkwX6_kindOf_3 : List UInt8 := [185, 0, 147, 2, 0, 87, 177]
abbrev dktX6_kindOf_3 : List UInt8 := dkwX6_kindOf_3 ++ []
def dkwX6_kindOf_2 : List UInt8 := [180, 0, 18, 180, 0, 161, 187, 0, 162, 89, 27, 28, 42, 3, 17, 0, 240, 182, 0, 150, 183, 0, 164]
abbrev dktX6_kindOf_2 : List UInt8 := dkwX6_kindOf_2 ++ dktX6_kindOf_3
def dkwX6_kindOf_1 : List UInt8 := [185, 0, 147, 2, 0, 87, 42, 4, 16, 50, 182, 0, 99, 60, 42, 3, 17, 1, 244, 182, 0, 99, 61, 42]
abbrev dktX6_kindOf_1 : List UInt8 := dkwX6_kindOf_1 ++ dktX6_kindOf_2
def dkwX6_kindOf_0 : List UInt8 := [42, 42, 180, 0, 32, 185, 0, 137, 1, 0, 16, 6, 182, 0, 140, 42, 180, 0, 32, 42, 182, 0, 144]
abbrev dktX6_kindOf_0 : List UInt8 := dkwX6_kindOf_0 ++ dktX6_kindOf_1
theorem dksX6_kindOf_0 : cX6_kindOf.data.toList.drop 0 = dktX6_kindOf_0 := by decide +kernel
theorem dksX6_kindOf_1 : cX6_kindOf.data.toList.drop 23 = dktX6_kindOf_1 := dk_seg dksX6_kindOf_0 23 rfl rfl
theorem dksX6_kindOf_2 : cX6_kindOf.data.toList.drop 47 = dktX6_kindOf_2 := dk_seg dksX6_kindOf_1 24 rfl rfl
theorem dksX6_kindOf_3 : cX6_kindOf.data.toList.drop 70 = dktX6_kindOf_3 := dk_seg dksX6_kindOf_2 23 rfl rfl
theorem dX6_kindOf_0 : decode cX6_kindOf 0 = .ok (.aload_n 0, 1) := dk_42 (dk_at dksX6_kindOf_0 0 rfl rfl)
theorem dX6_kindOf_1 : decode cX6_kindOf 1 = .ok (.aload_n 0, 1) := dk_42 (dk_at dksX6_kindOf_0 1 rfl rfl)
theorem dX6_kindOf_2 : decode cX6_kindOf 2 = .ok (.getfield 32, 3) := dk_180 0 32 (dk_at dksX6_kindOf_0 2 rfl rfl)
theorem dX6_kindOf_5 : decode cX6_kindOf 5 = .ok (.invokeinterface 137 1, 5) := by decide +kernel
theorem dX6_kindOf_10 : decode cX6_kindOf 10 = .ok (.bipush 6, 2) := dk_16 6 (dk_at dksX6_kindOf_0 10 rfl rfl)
theorem dX6_kindOf_12 : decode cX6_kindOf 12 = .ok (.invokevirtual 140, 3) := dk_182 0 140 (dk_at dksX6_kindOf_0 12 rfl rfl)
theorem dX6_kindOf_15 : decode cX6_kindOf 15 = .ok (.aload_n 0, 1) := dk_42 (dk_at dksX6_kindOf_0 15 rfl rfl)
theorem dX6_kindOf_16 : decode cX6_kindOf 16 = .ok (.getfield 32, 3) := dk_180 0 32 (dk_at dksX6_kindOf_0 16 rfl rfl)
theorem dX6_kindOf_19 : decode cX6_kindOf 19 = .ok (.aload_n 0, 1) := dk_42 (dk_at dksX6_kindOf_0 19 rfl rfl)
theorem dX6_kindOf_20 : decode cX6_kindOf 20 = .ok (.invokevirtual 144, 3) := dk_182 0 144 (dk_at dksX6_kindOf_0 20 rfl rfl)
theorem dX6_kindOf_23 : decode cX6_kindOf 23 = .ok (.invokeinterface 147 2, 5) := by decide +kernel
theorem dX6_kindOf_28 : decode cX6_kindOf 28 = .ok (.pop, 1) := dk_87 (dk_at dksX6_kindOf_1 5 rfl rfl)
theorem dX6_kindOf_29 : decode cX6_kindOf 29 = .ok (.aload_n 0, 1) := dk_42 (dk_at dksX6_kindOf_1 6 rfl rfl)
theorem dX6_kindOf_30 : decode cX6_kindOf 30 = .ok (.iconst 1, 1) := dk_4 (dk_at dksX6_kindOf_1 7 rfl rfl)
theorem dX6_kindOf_31 : decode cX6_kindOf 31 = .ok (.bipush 50, 2) := dk_16 50 (dk_at dksX6_kindOf_1 8 rfl rfl)
theorem dX6_kindOf_33 : decode cX6_kindOf 33 = .ok (.invokevirtual 99, 3) := dk_182 0 99 (dk_at dksX6_kindOf_1 10 rfl rfl)
theorem dX6_kindOf_36 : decode cX6_kindOf 36 = .ok (.istore_n 1, 1) := dk_60 (dk_at dksX6_kindOf_1 13 rfl rfl)
theorem dX6_kindOf_37 : decode cX6_kindOf 37 = .ok (.aload_n 0, 1) := dk_42 (dk_at dksX6_kindOf_1 14 rfl rfl)
theorem dX6_kindOf_38 : decode cX6_kindOf 38 = .ok (.iconst 0, 1) := dk_3 (dk_at dksX6_kindOf_1 15 rfl rfl)
theorem dX6_kindOf_39 : decode cX6_kindOf 39 = .ok (.sipush 500, 3) := dk_17 1 244 (dk_at dksX6_kindOf_1 16 rfl rfl)
theorem dX6_kindOf_42 : decode cX6_kindOf 42 = .ok (.invokevirtual 99, 3) := dk_182 0 99 (dk_at dksX6_kindOf_1 19 rfl rfl)
theorem dX6_kindOf_45 : decode cX6_kindOf 45 = .ok (.istore_n 2, 1) := dk_61 (dk_at dksX6_kindOf_1 22 rfl rfl)
theorem dX6_kindOf_46 : decode cX6_kindOf 46 = .ok (.aload_n 0, 1) := dk_42 (dk_at dksX6_kindOf_1 23 rfl rfl)
theorem dX6_kindOf_47 : decode cX6_kindOf 47 = .ok (.getfield 18, 3) := dk_180 0 18 (dk_at dksX6_kindOf_2 0 rfl rfl)
theorem dX6_kindOf_50 : decode cX6_kindOf 50 = .ok (.getfield 161, 3) := dk_180 0 161 (dk_at dksX6_kindOf_2 3 rfl rfl)
theorem dX6_kindOf_53 : decode cX6_kindOf 53 = .ok (.new 162, 3) := dk_187 0 162 (dk_at dksX6_kindOf_2 6 rfl rfl)
theorem dX6_kindOf_56 : decode cX6_kindOf 56 = .ok (.dup, 1) := dk_89 (dk_at dksX6_kindOf_2 9 rfl rfl)
theorem dX6_kindOf_57 : decode cX6_kindOf 57 = .ok (.iload_n 1, 1) := dk_27 (dk_at dksX6_kindOf_2 10 rfl rfl)
theorem dX6_kindOf_58 : decode cX6_kindOf 58 = .ok (.iload_n 2, 1) := dk_28 (dk_at dksX6_kindOf_2 11 rfl rfl)
theorem dX6_kindOf_59 : decode cX6_kindOf 59 = .ok (.aload_n 0, 1) := dk_42 (dk_at dksX6_kindOf_2 12 rfl rfl)
theorem dX6_kindOf_60 : decode cX6_kindOf 60 = .ok (.iconst 0, 1) := dk_3 (dk_at dksX6_kindOf_2 13 rfl rfl)
theorem dX6_kindOf_61 : decode cX6_kindOf 61 = .ok (.sipush 240, 3) := dk_17 0 240 (dk_at dksX6_kindOf_2 14 rfl rfl)
theorem dX6_kindOf_64 : decode cX6_kindOf 64 = .ok (.invokevirtual 150, 3) := dk_182 0 150 (dk_at dksX6_kindOf_2 17 rfl rfl)
theorem dX6_kindOf_67 : decode cX6_kindOf 67 = .ok (.invokespecial 164, 3) := dk_183 0 164 (dk_at dksX6_kindOf_2 20 rfl rfl)
theorem dX6_kindOf_70 : decode cX6_kindOf 70 = .ok (.invokeinterface 147 2, 5) := by decide +kernel
theorem dX6_kindOf_75 : decode cX6_kindOf 75 = .ok (.pop, 1) := dk_87 (dk_at dksX6_kindOf_3 5 rfl rfl)
theorem dX6_kindOf_76 : decode cX6_kindOf 76 = .ok (.return_, 1) := dk_177 (dk_at dksX6_kindOf_3 6 rfl rfl)
abbrev cX6_between : ByteArray := prog_10_method_13_code
def yX6_between : MethodName := ⟨RX6, "between", "()V"⟩
def dkwX6_between_1 : List UInt8 := [180, 0, 18, 180, 0, 171, 27, 50, 28, 42, 3, 17, 2, 88, 182, 0, 150, 79, 177]
abbrev dktX6_between_1 : List UInt8 := dkwX6_between_1 ++ []
def dkwX6_between_0 : List UInt8 := [42, 182, 0, 96, 42, 42, 180, 0, 29, 182, 0, 167, 60, 42, 42, 180, 0, 29, 182, 0, 167, 61, 42]
abbrev dktX6_between_0 : List UInt8 := dkwX6_between_0 ++ dktX6_between_1
theorem dksX6_between_0 : cX6_between.data.toList.drop 0 = dktX6_between_0 := by decide +kernel
theorem dksX6_between_1 : cX6_between.data.toList.drop 23 = dktX6_between_1 := dk_seg dksX6_between_0 23 rfl rfl
theorem dX6_between_0 : decode cX6_between 0 = .ok (.aload_n 0, 1) := dk_42 (dk_at dksX6_between_0 0 rfl rfl)
theorem dX6_between_1 : decode cX6_between 1 = .ok (.invokevirtual 96, 3) := dk_182 0 96 (dk_at dksX6_between_0 1 rfl rfl)
theorem dX6_between_4 : decode cX6_between 4 = .ok (.aload_n 0, 1) := dk_42 (dk_at dksX6_between_0 4 rfl rfl)
theorem dX6_between_5 : decode cX6_between 5 = .ok (.aload_n 0, 1) := dk_42 (dk_at dksX6_between_0 5 rfl rfl)
theorem dX6_between_6 : decode cX6_between 6 = .ok (.getfield 29, 3) := dk_180 0 29 (dk_at dksX6_between_0 6 rfl rfl)
theorem dX6_between_9 : decode cX6_between 9 = .ok (.invokevirtual 167, 3) := dk_182 0 167 (dk_at dksX6_between_0 9 rfl rfl)
theorem dX6_between_12 : decode cX6_between 12 = .ok (.istore_n 1, 1) := dk_60 (dk_at dksX6_between_0 12 rfl rfl)
theorem dX6_between_13 : decode cX6_between 13 = .ok (.aload_n 0, 1) := dk_42 (dk_at dksX6_between_0 13 rfl rfl)
theorem dX6_between_14 : decode cX6_between 14 = .ok (.aload_n 0, 1) := dk_42 (dk_at dksX6_between_0 14 rfl rfl)
theorem dX6_between_15 : decode cX6_between 15 = .ok (.getfield 29, 3) := dk_180 0 29 (dk_at dksX6_between_0 15 rfl rfl)
theorem dX6_between_18 : decode cX6_between 18 = .ok (.invokevirtual 167, 3) := dk_182 0 167 (dk_at dksX6_between_0 18 rfl rfl)
theorem dX6_between_21 : decode cX6_between 21 = .ok (.istore_n 2, 1) := dk_61 (dk_at dksX6_between_0 21 rfl rfl)
theorem dX6_between_22 : decode cX6_between 22 = .ok (.aload_n 0, 1) := dk_42 (dk_at dksX6_between_0 22 rfl rfl)
theorem dX6_between_23 : decode cX6_between 23 = .ok (.getfield 18, 3) := dk_180 0 18 (dk_at dksX6_between_1 0 rfl rfl)
theorem dX6_between_26 : decode cX6_between 26 = .ok (.getfield 171, 3) := dk_180 0 171 (dk_at dksX6_between_1 3 rfl rfl)
theorem dX6_between_29 : decode cX6_between 29 = .ok (.iload_n 1, 1) := dk_27 (dk_at dksX6_between_1 6 rfl rfl)
theorem dX6_between_30 : decode cX6_between 30 = .ok (.aaload, 1) := dk_50 (dk_at dksX6_between_1 7 rfl rfl)
theorem dX6_between_31 : decode cX6_between 31 = .ok (.iload_n 2, 1) := dk_28 (dk_at dksX6_between_1 8 rfl rfl)
theorem dX6_between_32 : decode cX6_between 32 = .ok (.aload_n 0, 1) := dk_42 (dk_at dksX6_between_1 9 rfl rfl)
theorem dX6_between_33 : decode cX6_between 33 = .ok (.iconst 0, 1) := dk_3 (dk_at dksX6_between_1 10 rfl rfl)
theorem dX6_between_34 : decode cX6_between 34 = .ok (.sipush 600, 3) := dk_17 2 88 (dk_at dksX6_between_1 11 rfl rfl)
theorem dX6_between_37 : decode cX6_between 37 = .ok (.invokevirtual 150, 3) := dk_182 0 150 (dk_at dksX6_between_1 14 rfl rfl)
theorem dX6_between_40 : decode cX6_between 40 = .ok (.iastore, 1) := dk_79 (dk_at dksX6_between_1 17 rfl rfl)
theorem dX6_between_41 : decode cX6_between 41 = .ok (.return_, 1) := dk_177 (dk_at dksX6_between_1 18 rfl rfl)
abbrev cX6_known : ByteArray := prog_10_method_9_code
def yX6_known : MethodName := ⟨RX6, "known", "(Ljava/util/List;)I"⟩
def dkwX6_known_1 : List UInt8 := [167, 0, 4, 3, 182, 0, 92, 43, 42, 180, 0, 37, 185, 0, 133, 2, 0, 61, 42, 182, 0, 96, 28, 172]
abbrev dktX6_known_1 : List UInt8 := dkwX6_known_1 ++ []
def dkwX6_known_0 : List UInt8 := [42, 42, 180, 0, 65, 4, 160, 0, 20, 43, 42, 180, 0, 37, 185, 0, 128, 2, 0, 153, 0, 7, 4]
abbrev dktX6_known_0 : List UInt8 := dkwX6_known_0 ++ dktX6_known_1
theorem dksX6_known_0 : cX6_known.data.toList.drop 0 = dktX6_known_0 := by decide +kernel
theorem dksX6_known_1 : cX6_known.data.toList.drop 23 = dktX6_known_1 := dk_seg dksX6_known_0 23 rfl rfl
theorem dX6_known_0 : decode cX6_known 0 = .ok (.aload_n 0, 1) := dk_42 (dk_at dksX6_known_0 0 rfl rfl)
theorem dX6_known_1 : decode cX6_known 1 = .ok (.aload_n 0, 1) := dk_42 (dk_at dksX6_known_0 1 rfl rfl)
theorem dX6_known_2 : decode cX6_known 2 = .ok (.getfield 65, 3) := dk_180 0 65 (dk_at dksX6_known_0 2 rfl rfl)
theorem dX6_known_5 : decode cX6_known 5 = .ok (.iconst 1, 1) := dk_4 (dk_at dksX6_known_0 5 rfl rfl)
theorem dX6_known_6 : decode cX6_known 6 = .ok (.if_icmp .ne 20, 3) := dk_160 0 20 (dk_at dksX6_known_0 6 rfl rfl)
theorem dX6_known_9 : decode cX6_known 9 = .ok (.aload_n 1, 1) := dk_43 (dk_at dksX6_known_0 9 rfl rfl)
theorem dX6_known_10 : decode cX6_known 10 = .ok (.aload_n 0, 1) := dk_42 (dk_at dksX6_known_0 10 rfl rfl)
theorem dX6_known_11 : decode cX6_known 11 = .ok (.getfield 37, 3) := dk_180 0 37 (dk_at dksX6_known_0 11 rfl rfl)
theorem dX6_known_14 : decode cX6_known 14 = .ok (.invokeinterface 128 2, 5) := by decide +kernel
theorem dX6_known_19 : decode cX6_known 19 = .ok (.ifCond .eq 7, 3) := dk_153 0 7 (dk_at dksX6_known_0 19 rfl rfl)
theorem dX6_known_22 : decode cX6_known 22 = .ok (.iconst 1, 1) := dk_4 (dk_at dksX6_known_0 22 rfl rfl)
theorem dX6_known_23 : decode cX6_known 23 = .ok (.goto 4, 3) := dk_167 0 4 (dk_at dksX6_known_1 0 rfl rfl)
theorem dX6_known_26 : decode cX6_known 26 = .ok (.iconst 0, 1) := dk_3 (dk_at dksX6_known_1 3 rfl rfl)
theorem dX6_known_27 : decode cX6_known 27 = .ok (.invokevirtual 92, 3) := dk_182 0 92 (dk_at dksX6_known_1 4 rfl rfl)
theorem dX6_known_30 : decode cX6_known 30 = .ok (.aload_n 1, 1) := dk_43 (dk_at dksX6_known_1 7 rfl rfl)
theorem dX6_known_31 : decode cX6_known 31 = .ok (.aload_n 0, 1) := dk_42 (dk_at dksX6_known_1 8 rfl rfl)
theorem dX6_known_32 : decode cX6_known 32 = .ok (.getfield 37, 3) := dk_180 0 37 (dk_at dksX6_known_1 9 rfl rfl)
theorem dX6_known_35 : decode cX6_known 35 = .ok (.invokeinterface 133 2, 5) := by decide +kernel
theorem dX6_known_40 : decode cX6_known 40 = .ok (.istore_n 2, 1) := dk_61 (dk_at dksX6_known_1 17 rfl rfl)
theorem dX6_known_41 : decode cX6_known 41 = .ok (.aload_n 0, 1) := dk_42 (dk_at dksX6_known_1 18 rfl rfl)
theorem dX6_known_42 : decode cX6_known 42 = .ok (.invokevirtual 96, 3) := dk_182 0 96 (dk_at dksX6_known_1 19 rfl rfl)
theorem dX6_known_45 : decode cX6_known 45 = .ok (.iload_n 2, 1) := dk_28 (dk_at dksX6_known_1 22 rfl rfl)
theorem dX6_known_46 : decode cX6_known 46 = .ok (.ireturn, 1) := dk_172 (dk_at dksX6_known_1 23 rfl rfl)
abbrev cX6_closed : ByteArray := prog_10_method_14_code
def yX6_closed : MethodName := ⟨RX6, "closed", "()V"⟩
def dkwX6_closed_2 : List UInt8 := [182, 0, 179, 177]
abbrev dktX6_closed_2 : List UInt8 := dkwX6_closed_2 ++ []
def dkwX6_closed_1 : List UInt8 := [18, 177, 182, 0, 150, 61, 42, 180, 0, 18, 27, 28, 42, 28, 16, 15, 96, 18, 178, 182, 0, 150]
abbrev dktX6_closed_1 : List UInt8 := dkwX6_closed_1 ++ dktX6_closed_2
def dkwX6_closed_0 : List UInt8 := [42, 42, 180, 0, 18, 180, 0, 175, 16, 16, 182, 0, 140, 42, 42, 180, 0, 25, 182, 0, 167, 60, 42, 3]
abbrev dktX6_closed_0 : List UInt8 := dkwX6_closed_0 ++ dktX6_closed_1
theorem dksX6_closed_0 : cX6_closed.data.toList.drop 0 = dktX6_closed_0 := by decide +kernel
theorem dksX6_closed_1 : cX6_closed.data.toList.drop 24 = dktX6_closed_1 := dk_seg dksX6_closed_0 24 rfl rfl
theorem dksX6_closed_2 : cX6_closed.data.toList.drop 46 = dktX6_closed_2 := dk_seg dksX6_closed_1 22 rfl rfl
theorem dX6_closed_0 : decode cX6_closed 0 = .ok (.aload_n 0, 1) := dk_42 (dk_at dksX6_closed_0 0 rfl rfl)
theorem dX6_closed_1 : decode cX6_closed 1 = .ok (.aload_n 0, 1) := dk_42 (dk_at dksX6_closed_0 1 rfl rfl)
theorem dX6_closed_2 : decode cX6_closed 2 = .ok (.getfield 18, 3) := dk_180 0 18 (dk_at dksX6_closed_0 2 rfl rfl)
theorem dX6_closed_5 : decode cX6_closed 5 = .ok (.getfield 175, 3) := dk_180 0 175 (dk_at dksX6_closed_0 5 rfl rfl)
theorem dX6_closed_8 : decode cX6_closed 8 = .ok (.bipush 16, 2) := dk_16 16 (dk_at dksX6_closed_0 8 rfl rfl)
theorem dX6_closed_10 : decode cX6_closed 10 = .ok (.invokevirtual 140, 3) := dk_182 0 140 (dk_at dksX6_closed_0 10 rfl rfl)
theorem dX6_closed_13 : decode cX6_closed 13 = .ok (.aload_n 0, 1) := dk_42 (dk_at dksX6_closed_0 13 rfl rfl)
theorem dX6_closed_14 : decode cX6_closed 14 = .ok (.aload_n 0, 1) := dk_42 (dk_at dksX6_closed_0 14 rfl rfl)
theorem dX6_closed_15 : decode cX6_closed 15 = .ok (.getfield 25, 3) := dk_180 0 25 (dk_at dksX6_closed_0 15 rfl rfl)
theorem dX6_closed_18 : decode cX6_closed 18 = .ok (.invokevirtual 167, 3) := dk_182 0 167 (dk_at dksX6_closed_0 18 rfl rfl)
theorem dX6_closed_21 : decode cX6_closed 21 = .ok (.istore_n 1, 1) := dk_60 (dk_at dksX6_closed_0 21 rfl rfl)
theorem dX6_closed_22 : decode cX6_closed 22 = .ok (.aload_n 0, 1) := dk_42 (dk_at dksX6_closed_0 22 rfl rfl)
theorem dX6_closed_23 : decode cX6_closed 23 = .ok (.iconst 0, 1) := dk_3 (dk_at dksX6_closed_0 23 rfl rfl)
theorem dX6_closed_24 : decode cX6_closed 24 = .ok (.ldc 177, 2) := dk_18 177 (dk_at dksX6_closed_1 0 rfl rfl)
theorem dX6_closed_26 : decode cX6_closed 26 = .ok (.invokevirtual 150, 3) := dk_182 0 150 (dk_at dksX6_closed_1 2 rfl rfl)
theorem dX6_closed_29 : decode cX6_closed 29 = .ok (.istore_n 2, 1) := dk_61 (dk_at dksX6_closed_1 5 rfl rfl)
theorem dX6_closed_30 : decode cX6_closed 30 = .ok (.aload_n 0, 1) := dk_42 (dk_at dksX6_closed_1 6 rfl rfl)
theorem dX6_closed_31 : decode cX6_closed 31 = .ok (.getfield 18, 3) := dk_180 0 18 (dk_at dksX6_closed_1 7 rfl rfl)
theorem dX6_closed_34 : decode cX6_closed 34 = .ok (.iload_n 1, 1) := dk_27 (dk_at dksX6_closed_1 10 rfl rfl)
theorem dX6_closed_35 : decode cX6_closed 35 = .ok (.iload_n 2, 1) := dk_28 (dk_at dksX6_closed_1 11 rfl rfl)
theorem dX6_closed_36 : decode cX6_closed 36 = .ok (.aload_n 0, 1) := dk_42 (dk_at dksX6_closed_1 12 rfl rfl)
theorem dX6_closed_37 : decode cX6_closed 37 = .ok (.iload_n 2, 1) := dk_28 (dk_at dksX6_closed_1 13 rfl rfl)
theorem dX6_closed_38 : decode cX6_closed 38 = .ok (.bipush 15, 2) := dk_16 15 (dk_at dksX6_closed_1 14 rfl rfl)
theorem dX6_closed_40 : decode cX6_closed 40 = .ok (.iadd, 1) := dk_96 (dk_at dksX6_closed_1 16 rfl rfl)
theorem dX6_closed_41 : decode cX6_closed 41 = .ok (.ldc 178, 2) := dk_18 178 (dk_at dksX6_closed_1 17 rfl rfl)
theorem dX6_closed_43 : decode cX6_closed 43 = .ok (.invokevirtual 150, 3) := dk_182 0 150 (dk_at dksX6_closed_1 19 rfl rfl)
theorem dX6_closed_46 : decode cX6_closed 46 = .ok (.invokevirtual 179, 3) := dk_182 0 179 (dk_at dksX6_closed_2 0 rfl rfl)
theorem dX6_closed_49 : decode cX6_closed 49 = .ok (.return_, 1) := dk_177 (dk_at dksX6_closed_2 3 rfl rfl)
abbrev cX6_weekly : ByteArray := prog_10_method_15_code
def yX6_weekly : MethodName := ⟨RX6, "weekly", "()V"⟩
def dkwX6_weekly_2 : List UInt8 := [182, 0, 184, 177]
abbrev dktX6_weekly_2 : List UInt8 := dkwX6_weekly_2 ++ []
def dkwX6_weekly_1 : List UInt8 := [17, 5, 145, 182, 0, 150, 61, 42, 180, 0, 18, 27, 28, 42, 28, 16, 15, 96, 17, 5, 160, 182, 0, 150]
abbrev dktX6_weekly_1 : List UInt8 := dkwX6_weekly_1 ++ dktX6_weekly_2
def dkwX6_weekly_0 : List UInt8 := [42, 42, 180, 0, 18, 180, 0, 182, 16, 8, 182, 0, 140, 42, 3, 16, 6, 182, 0, 99, 60, 42, 3]
abbrev dktX6_weekly_0 : List UInt8 := dkwX6_weekly_0 ++ dktX6_weekly_1
theorem dksX6_weekly_0 : cX6_weekly.data.toList.drop 0 = dktX6_weekly_0 := by decide +kernel
theorem dksX6_weekly_1 : cX6_weekly.data.toList.drop 23 = dktX6_weekly_1 := dk_seg dksX6_weekly_0 23 rfl rfl
theorem dksX6_weekly_2 : cX6_weekly.data.toList.drop 47 = dktX6_weekly_2 := dk_seg dksX6_weekly_1 24 rfl rfl
theorem dX6_weekly_0 : decode cX6_weekly 0 = .ok (.aload_n 0, 1) := dk_42 (dk_at dksX6_weekly_0 0 rfl rfl)
theorem dX6_weekly_1 : decode cX6_weekly 1 = .ok (.aload_n 0, 1) := dk_42 (dk_at dksX6_weekly_0 1 rfl rfl)
theorem dX6_weekly_2 : decode cX6_weekly 2 = .ok (.getfield 18, 3) := dk_180 0 18 (dk_at dksX6_weekly_0 2 rfl rfl)
theorem dX6_weekly_5 : decode cX6_weekly 5 = .ok (.getfield 182, 3) := dk_180 0 182 (dk_at dksX6_weekly_0 5 rfl rfl)
theorem dX6_weekly_8 : decode cX6_weekly 8 = .ok (.bipush 8, 2) := dk_16 8 (dk_at dksX6_weekly_0 8 rfl rfl)
theorem dX6_weekly_10 : decode cX6_weekly 10 = .ok (.invokevirtual 140, 3) := dk_182 0 140 (dk_at dksX6_weekly_0 10 rfl rfl)
theorem dX6_weekly_13 : decode cX6_weekly 13 = .ok (.aload_n 0, 1) := dk_42 (dk_at dksX6_weekly_0 13 rfl rfl)
theorem dX6_weekly_14 : decode cX6_weekly 14 = .ok (.iconst 0, 1) := dk_3 (dk_at dksX6_weekly_0 14 rfl rfl)
theorem dX6_weekly_15 : decode cX6_weekly 15 = .ok (.bipush 6, 2) := dk_16 6 (dk_at dksX6_weekly_0 15 rfl rfl)
theorem dX6_weekly_17 : decode cX6_weekly 17 = .ok (.invokevirtual 99, 3) := dk_182 0 99 (dk_at dksX6_weekly_0 17 rfl rfl)
theorem dX6_weekly_20 : decode cX6_weekly 20 = .ok (.istore_n 1, 1) := dk_60 (dk_at dksX6_weekly_0 20 rfl rfl)
theorem dX6_weekly_21 : decode cX6_weekly 21 = .ok (.aload_n 0, 1) := dk_42 (dk_at dksX6_weekly_0 21 rfl rfl)
theorem dX6_weekly_22 : decode cX6_weekly 22 = .ok (.iconst 0, 1) := dk_3 (dk_at dksX6_weekly_0 22 rfl rfl)
theorem dX6_weekly_23 : decode cX6_weekly 23 = .ok (.sipush 1425, 3) := dk_17 5 145 (dk_at dksX6_weekly_1 0 rfl rfl)
theorem dX6_weekly_26 : decode cX6_weekly 26 = .ok (.invokevirtual 150, 3) := dk_182 0 150 (dk_at dksX6_weekly_1 3 rfl rfl)
theorem dX6_weekly_29 : decode cX6_weekly 29 = .ok (.istore_n 2, 1) := dk_61 (dk_at dksX6_weekly_1 6 rfl rfl)
theorem dX6_weekly_30 : decode cX6_weekly 30 = .ok (.aload_n 0, 1) := dk_42 (dk_at dksX6_weekly_1 7 rfl rfl)
theorem dX6_weekly_31 : decode cX6_weekly 31 = .ok (.getfield 18, 3) := dk_180 0 18 (dk_at dksX6_weekly_1 8 rfl rfl)
theorem dX6_weekly_34 : decode cX6_weekly 34 = .ok (.iload_n 1, 1) := dk_27 (dk_at dksX6_weekly_1 11 rfl rfl)
theorem dX6_weekly_35 : decode cX6_weekly 35 = .ok (.iload_n 2, 1) := dk_28 (dk_at dksX6_weekly_1 12 rfl rfl)
theorem dX6_weekly_36 : decode cX6_weekly 36 = .ok (.aload_n 0, 1) := dk_42 (dk_at dksX6_weekly_1 13 rfl rfl)
theorem dX6_weekly_37 : decode cX6_weekly 37 = .ok (.iload_n 2, 1) := dk_28 (dk_at dksX6_weekly_1 14 rfl rfl)
theorem dX6_weekly_38 : decode cX6_weekly 38 = .ok (.bipush 15, 2) := dk_16 15 (dk_at dksX6_weekly_1 15 rfl rfl)
theorem dX6_weekly_40 : decode cX6_weekly 40 = .ok (.iadd, 1) := dk_96 (dk_at dksX6_weekly_1 17 rfl rfl)
theorem dX6_weekly_41 : decode cX6_weekly 41 = .ok (.sipush 1440, 3) := dk_17 5 160 (dk_at dksX6_weekly_1 18 rfl rfl)
theorem dX6_weekly_44 : decode cX6_weekly 44 = .ok (.invokevirtual 150, 3) := dk_182 0 150 (dk_at dksX6_weekly_1 21 rfl rfl)
theorem dX6_weekly_47 : decode cX6_weekly 47 = .ok (.invokevirtual 184, 3) := dk_182 0 184 (dk_at dksX6_weekly_2 0 rfl rfl)
theorem dX6_weekly_50 : decode cX6_weekly 50 = .ok (.return_, 1) := dk_177 (dk_at dksX6_weekly_2 3 rfl rfl)
abbrev cX6_fee : ByteArray := prog_10_method_16_code
def yX6_fee : MethodName := ⟨RX6, "fee", "()V"⟩
def dkwX6_fee_2 : List UInt8 := [16, 60, 182, 0, 99, 60, 42, 180, 0, 18, 27, 42, 3, 16, 100, 182, 0, 99, 182, 0, 194, 177]
abbrev dktX6_fee_2 : List UInt8 := dkwX6_fee_2 ++ []
def dkwX6_fee_1 : List UInt8 := [180, 0, 18, 42, 180, 0, 59, 182, 0, 190, 154, 0, 7, 4, 167, 0, 4, 3, 182, 0, 92, 42, 3]
abbrev dktX6_fee_1 : List UInt8 := dkwX6_fee_1 ++ dktX6_fee_2
def dkwX6_fee_0 : List UInt8 := [42, 42, 180, 0, 18, 180, 0, 187, 7, 182, 0, 140, 42, 42, 180, 0, 65, 5, 160, 0, 21, 42]
abbrev dktX6_fee_0 : List UInt8 := dkwX6_fee_0 ++ dktX6_fee_1
theorem dksX6_fee_0 : cX6_fee.data.toList.drop 0 = dktX6_fee_0 := by decide +kernel
theorem dksX6_fee_1 : cX6_fee.data.toList.drop 22 = dktX6_fee_1 := dk_seg dksX6_fee_0 22 rfl rfl
theorem dksX6_fee_2 : cX6_fee.data.toList.drop 45 = dktX6_fee_2 := dk_seg dksX6_fee_1 23 rfl rfl
theorem dX6_fee_0 : decode cX6_fee 0 = .ok (.aload_n 0, 1) := dk_42 (dk_at dksX6_fee_0 0 rfl rfl)
theorem dX6_fee_1 : decode cX6_fee 1 = .ok (.aload_n 0, 1) := dk_42 (dk_at dksX6_fee_0 1 rfl rfl)
theorem dX6_fee_2 : decode cX6_fee 2 = .ok (.getfield 18, 3) := dk_180 0 18 (dk_at dksX6_fee_0 2 rfl rfl)
theorem dX6_fee_5 : decode cX6_fee 5 = .ok (.getfield 187, 3) := dk_180 0 187 (dk_at dksX6_fee_0 5 rfl rfl)
theorem dX6_fee_8 : decode cX6_fee 8 = .ok (.iconst 4, 1) := dk_7 (dk_at dksX6_fee_0 8 rfl rfl)
theorem dX6_fee_9 : decode cX6_fee 9 = .ok (.invokevirtual 140, 3) := dk_182 0 140 (dk_at dksX6_fee_0 9 rfl rfl)
theorem dX6_fee_12 : decode cX6_fee 12 = .ok (.aload_n 0, 1) := dk_42 (dk_at dksX6_fee_0 12 rfl rfl)
theorem dX6_fee_13 : decode cX6_fee 13 = .ok (.aload_n 0, 1) := dk_42 (dk_at dksX6_fee_0 13 rfl rfl)
theorem dX6_fee_14 : decode cX6_fee 14 = .ok (.getfield 65, 3) := dk_180 0 65 (dk_at dksX6_fee_0 14 rfl rfl)
theorem dX6_fee_17 : decode cX6_fee 17 = .ok (.iconst 2, 1) := dk_5 (dk_at dksX6_fee_0 17 rfl rfl)
theorem dX6_fee_18 : decode cX6_fee 18 = .ok (.if_icmp .ne 21, 3) := dk_160 0 21 (dk_at dksX6_fee_0 18 rfl rfl)
theorem dX6_fee_21 : decode cX6_fee 21 = .ok (.aload_n 0, 1) := dk_42 (dk_at dksX6_fee_0 21 rfl rfl)
theorem dX6_fee_22 : decode cX6_fee 22 = .ok (.getfield 18, 3) := dk_180 0 18 (dk_at dksX6_fee_1 0 rfl rfl)
theorem dX6_fee_25 : decode cX6_fee 25 = .ok (.aload_n 0, 1) := dk_42 (dk_at dksX6_fee_1 3 rfl rfl)
theorem dX6_fee_26 : decode cX6_fee 26 = .ok (.getfield 59, 3) := dk_180 0 59 (dk_at dksX6_fee_1 4 rfl rfl)
theorem dX6_fee_29 : decode cX6_fee 29 = .ok (.invokevirtual 190, 3) := dk_182 0 190 (dk_at dksX6_fee_1 7 rfl rfl)
theorem dX6_fee_32 : decode cX6_fee 32 = .ok (.ifCond .ne 7, 3) := dk_154 0 7 (dk_at dksX6_fee_1 10 rfl rfl)
theorem dX6_fee_35 : decode cX6_fee 35 = .ok (.iconst 1, 1) := dk_4 (dk_at dksX6_fee_1 13 rfl rfl)
theorem dX6_fee_36 : decode cX6_fee 36 = .ok (.goto 4, 3) := dk_167 0 4 (dk_at dksX6_fee_1 14 rfl rfl)
theorem dX6_fee_39 : decode cX6_fee 39 = .ok (.iconst 0, 1) := dk_3 (dk_at dksX6_fee_1 17 rfl rfl)
theorem dX6_fee_40 : decode cX6_fee 40 = .ok (.invokevirtual 92, 3) := dk_182 0 92 (dk_at dksX6_fee_1 18 rfl rfl)
theorem dX6_fee_43 : decode cX6_fee 43 = .ok (.aload_n 0, 1) := dk_42 (dk_at dksX6_fee_1 21 rfl rfl)
theorem dX6_fee_44 : decode cX6_fee 44 = .ok (.iconst 0, 1) := dk_3 (dk_at dksX6_fee_1 22 rfl rfl)
theorem dX6_fee_45 : decode cX6_fee 45 = .ok (.bipush 60, 2) := dk_16 60 (dk_at dksX6_fee_2 0 rfl rfl)
theorem dX6_fee_47 : decode cX6_fee 47 = .ok (.invokevirtual 99, 3) := dk_182 0 99 (dk_at dksX6_fee_2 2 rfl rfl)
theorem dX6_fee_50 : decode cX6_fee 50 = .ok (.istore_n 1, 1) := dk_60 (dk_at dksX6_fee_2 5 rfl rfl)
theorem dX6_fee_51 : decode cX6_fee 51 = .ok (.aload_n 0, 1) := dk_42 (dk_at dksX6_fee_2 6 rfl rfl)
theorem dX6_fee_52 : decode cX6_fee 52 = .ok (.getfield 18, 3) := dk_180 0 18 (dk_at dksX6_fee_2 7 rfl rfl)
theorem dX6_fee_55 : decode cX6_fee 55 = .ok (.iload_n 1, 1) := dk_27 (dk_at dksX6_fee_2 10 rfl rfl)
theorem dX6_fee_56 : decode cX6_fee 56 = .ok (.aload_n 0, 1) := dk_42 (dk_at dksX6_fee_2 11 rfl rfl)
theorem dX6_fee_57 : decode cX6_fee 57 = .ok (.iconst 0, 1) := dk_3 (dk_at dksX6_fee_2 12 rfl rfl)
theorem dX6_fee_58 : decode cX6_fee 58 = .ok (.bipush 100, 2) := dk_16 100 (dk_at dksX6_fee_2 13 rfl rfl)
theorem dX6_fee_60 : decode cX6_fee 60 = .ok (.invokevirtual 99, 3) := dk_182 0 99 (dk_at dksX6_fee_2 15 rfl rfl)
theorem dX6_fee_63 : decode cX6_fee 63 = .ok (.invokevirtual 194, 3) := dk_182 0 194 (dk_at dksX6_fee_2 18 rfl rfl)
theorem dX6_fee_66 : decode cX6_fee 66 = .ok (.return_, 1) := dk_177 (dk_at dksX6_fee_2 21 rfl rfl)
abbrev cX6_weekend : ByteArray := prog_10_method_17_code
def yX6_weekend : MethodName := ⟨RX6, "weekend", "()V"⟩
def dkwX6_weekend_1 : List UInt8 := [180, 0, 18, 42, 3, 17, 1, 44, 182, 0, 99, 181, 0, 201, 177]
abbrev dktX6_weekend_1 : List UInt8 := dkwX6_weekend_1 ++ []
def dkwX6_weekend_0 : List UInt8 := [42, 42, 180, 0, 197, 153, 0, 7, 4, 167, 0, 4, 3, 4, 182, 0, 140, 42, 4, 181, 0, 197, 42]
abbrev dktX6_weekend_0 : List UInt8 := dkwX6_weekend_0 ++ dktX6_weekend_1
theorem dksX6_weekend_0 : cX6_weekend.data.toList.drop 0 = dktX6_weekend_0 := by decide +kernel
theorem dksX6_weekend_1 : cX6_weekend.data.toList.drop 23 = dktX6_weekend_1 := dk_seg dksX6_weekend_0 23 rfl rfl
theorem dX6_weekend_0 : decode cX6_weekend 0 = .ok (.aload_n 0, 1) := dk_42 (dk_at dksX6_weekend_0 0 rfl rfl)
theorem dX6_weekend_1 : decode cX6_weekend 1 = .ok (.aload_n 0, 1) := dk_42 (dk_at dksX6_weekend_0 1 rfl rfl)
theorem dX6_weekend_2 : decode cX6_weekend 2 = .ok (.getfield 197, 3) := dk_180 0 197 (dk_at dksX6_weekend_0 2 rfl rfl)
theorem dX6_weekend_5 : decode cX6_weekend 5 = .ok (.ifCond .eq 7, 3) := dk_153 0 7 (dk_at dksX6_weekend_0 5 rfl rfl)
theorem dX6_weekend_8 : decode cX6_weekend 8 = .ok (.iconst 1, 1) := dk_4 (dk_at dksX6_weekend_0 8 rfl rfl)
theorem dX6_weekend_9 : decode cX6_weekend 9 = .ok (.goto 4, 3) := dk_167 0 4 (dk_at dksX6_weekend_0 9 rfl rfl)
theorem dX6_weekend_12 : decode cX6_weekend 12 = .ok (.iconst 0, 1) := dk_3 (dk_at dksX6_weekend_0 12 rfl rfl)
theorem dX6_weekend_13 : decode cX6_weekend 13 = .ok (.iconst 1, 1) := dk_4 (dk_at dksX6_weekend_0 13 rfl rfl)
theorem dX6_weekend_14 : decode cX6_weekend 14 = .ok (.invokevirtual 140, 3) := dk_182 0 140 (dk_at dksX6_weekend_0 14 rfl rfl)
theorem dX6_weekend_17 : decode cX6_weekend 17 = .ok (.aload_n 0, 1) := dk_42 (dk_at dksX6_weekend_0 17 rfl rfl)
theorem dX6_weekend_18 : decode cX6_weekend 18 = .ok (.iconst 1, 1) := dk_4 (dk_at dksX6_weekend_0 18 rfl rfl)
theorem dX6_weekend_19 : decode cX6_weekend 19 = .ok (.putfield 197, 3) := dk_181 0 197 (dk_at dksX6_weekend_0 19 rfl rfl)
theorem dX6_weekend_22 : decode cX6_weekend 22 = .ok (.aload_n 0, 1) := dk_42 (dk_at dksX6_weekend_0 22 rfl rfl)
theorem dX6_weekend_23 : decode cX6_weekend 23 = .ok (.getfield 18, 3) := dk_180 0 18 (dk_at dksX6_weekend_1 0 rfl rfl)
theorem dX6_weekend_26 : decode cX6_weekend 26 = .ok (.aload_n 0, 1) := dk_42 (dk_at dksX6_weekend_1 3 rfl rfl)
theorem dX6_weekend_27 : decode cX6_weekend 27 = .ok (.iconst 0, 1) := dk_3 (dk_at dksX6_weekend_1 4 rfl rfl)
theorem dX6_weekend_28 : decode cX6_weekend 28 = .ok (.sipush 300, 3) := dk_17 1 44 (dk_at dksX6_weekend_1 5 rfl rfl)
theorem dX6_weekend_31 : decode cX6_weekend 31 = .ok (.invokevirtual 99, 3) := dk_182 0 99 (dk_at dksX6_weekend_1 8 rfl rfl)
theorem dX6_weekend_34 : decode cX6_weekend 34 = .ok (.putfield 201, 3) := dk_181 0 201 (dk_at dksX6_weekend_1 11 rfl rfl)
theorem dX6_weekend_37 : decode cX6_weekend 37 = .ok (.return_, 1) := dk_177 (dk_at dksX6_weekend_1 14 rfl rfl)
theorem q160 : (Jvm.Cond.initialized "HallPlan$Parser") ∈ lw_all := lw_g (lw_at lw_m1 19 rfl) rfl
theorem q233 : (Jvm.Cond.fieldLinkNest "HallPlan$Parser" (153 : Nat) "HallPlan$Setup" "halls" "Ljava/util/List;" "HallPlan") ∈ lw_tbl := lw_at lw_m1 92 rfl
theorem q236 : (Jvm.Cond.fieldLinkNest "HallPlan$Parser" (161 : Nat) "HallPlan$Setup" "kinds" "Ljava/util/List;" "HallPlan") ∈ lw_tbl := lw_at lw_m1 95 rfl
theorem q239 : (Jvm.Cond.fieldLinkNest "HallPlan$Parser" (171 : Nat) "HallPlan$Setup" "between" "[[I" "HallPlan") ∈ lw_tbl := lw_at lw_m1 98 rfl
theorem q247 : (Jvm.Cond.fieldLinkNest "HallPlan$Parser" (159 : Nat) "HallPlan$Setup" "types" "I" "HallPlan") ∈ lw_tbl := lw_at lw_m1 106 rfl
theorem q251 : (Jvm.Cond.fieldLinkNest "HallPlan$Parser" (175 : Nat) "HallPlan$Setup" "closed" "I" "HallPlan") ∈ lw_tbl := lw_at lw_m1 110 rfl
theorem q253 : (Jvm.Cond.fieldLinkNest "HallPlan$Parser" (182 : Nat) "HallPlan$Setup" "weekly" "I" "HallPlan") ∈ lw_tbl := lw_at lw_m1 112 rfl
theorem q256 : (Jvm.Cond.fieldLinkNest "HallPlan$Parser" (187 : Nat) "HallPlan$Setup" "feeCount" "I" "HallPlan") ∈ lw_tbl := lw_at lw_m1 115 rfl
theorem q259 : (Jvm.Cond.fieldLinkNest "HallPlan$Parser" (201 : Nat) "HallPlan$Setup" "weekend" "I" "HallPlan") ∈ lw_tbl := lw_at lw_m1 118 rfl
theorem q470 : (Jvm.Cond.fieldLinkNest "HallPlan$Parser" (48 : Nat) "HallPlan" "buffer" "[B" "HallPlan") ∈ lw_tbl := lw_at lw_m2 89 rfl
theorem q471 : (Jvm.Cond.fieldLinkNest "HallPlan$Parser" (45 : Nat) "HallPlan" "length" "I" "HallPlan") ∈ lw_tbl := lw_at lw_m2 90 rfl
theorem q514 : (Jvm.Cond.instantiable "HallPlan$Parser" (11 : Nat)) ∈ lw_all := lw_g (lw_at lw_m2 133 rfl) rfl
theorem q516 : (Jvm.Cond.instanceMethod ({ cls := "HallPlan$Parser", name := "<init>", desc := "(LHallPlan;)V" } : Jvm.MethodName)) ∈ lw_all := lw_g (lw_at lw_m2 135 rfl) rfl
theorem q517 : (Jvm.Cond.code ({ cls := "HallPlan$Parser", name := "<init>", desc := "(LHallPlan;)V" } : Jvm.MethodName) prog_10_method_1_code (2 : Nat) (Option.none : Option Jvm.ClassFile.FieldType)) ∈ lw_all := lw_g (lw_at lw_m2 136 rfl) rfl
theorem q518 : (Jvm.Cond.methodLink "HallPlan$Parser" (9 : Nat) ({ cls := "java/lang/Object", name := "<init>", desc := "()V" } : Jvm.MethodName)) ∈ lw_all := lw_g (lw_at lw_m2 137 rfl) rfl
theorem q519 : (Jvm.Cond.classLink "HallPlan$Parser" (15 : Nat) "HallPlan$Setup") ∈ lw_all := lw_g (lw_at lw_m2 138 rfl) rfl
theorem q520 : (Jvm.Cond.methodLinkNest "HallPlan$Parser" (17 : Nat) ({ cls := "HallPlan$Setup", name := "<init>", desc := "()V" } : Jvm.MethodName) "HallPlan") ∈ lw_tbl := lw_at lw_m2 139 rfl
theorem q521 : (Jvm.Cond.classLink "HallPlan$Parser" (22 : Nat) "java/util/ArrayList") ∈ lw_all := lw_g (lw_at lw_m2 140 rfl) rfl
theorem q522 : (Jvm.Cond.methodLink "HallPlan$Parser" (24 : Nat) ({ cls := "java/util/ArrayList", name := "<init>", desc := "()V" } : Jvm.MethodName)) ∈ lw_all := lw_g (lw_at lw_m2 141 rfl) rfl
theorem q523 : (Jvm.Cond.stringRef "HallPlan$Parser" (35 : Nat) "") ∈ lw_tbl := lw_at lw_m2 142 rfl
theorem q524 : (Jvm.Cond.fieldLink "HallPlan$Parser" (18 : Nat) "HallPlan$Parser" "made" "LHallPlan$Setup;") ∈ lw_all := lw_g (lw_at lw_m2 143 rfl) rfl
theorem q525 : (Jvm.Cond.fieldLink "HallPlan$Parser" (25 : Nat) "HallPlan$Parser" "halls" "Ljava/util/List;") ∈ lw_all := lw_g (lw_at lw_m2 144 rfl) rfl
theorem q526 : (Jvm.Cond.fieldLink "HallPlan$Parser" (29 : Nat) "HallPlan$Parser" "types" "Ljava/util/List;") ∈ lw_all := lw_g (lw_at lw_m2 145 rfl) rfl
theorem q527 : (Jvm.Cond.fieldLink "HallPlan$Parser" (32 : Nat) "HallPlan$Parser" "kinds" "Ljava/util/List;") ∈ lw_all := lw_g (lw_at lw_m2 146 rfl) rfl
theorem q528 : (Jvm.Cond.fieldLink "HallPlan$Parser" (41 : Nat) "HallPlan$Parser" "at" "I") ∈ lw_all := lw_g (lw_at lw_m2 147 rfl) rfl
theorem q529 : (Jvm.Cond.fieldLink "HallPlan$Parser" (56 : Nat) "HallPlan$Parser" "begin" "I") ∈ lw_all := lw_g (lw_at lw_m2 148 rfl) rfl
theorem q530 : (Jvm.Cond.fieldLink "HallPlan$Parser" (59 : Nat) "HallPlan$Parser" "number" "I") ∈ lw_all := lw_g (lw_at lw_m2 149 rfl) rfl
theorem q531 : (Jvm.Cond.fieldLink "HallPlan$Parser" (197 : Nat) "HallPlan$Parser" "hasWeekend" "Z") ∈ lw_all := lw_g (lw_at lw_m2 150 rfl) rfl
theorem q532 : (Jvm.Cond.fieldLink "HallPlan$Parser" (65 : Nat) "HallPlan$Parser" "kind" "C") ∈ lw_all := lw_g (lw_at lw_m2 151 rfl) rfl
theorem q533 : (Jvm.Cond.fieldLink "HallPlan$Parser" (37 : Nat) "HallPlan$Parser" "word" "Ljava/lang/String;") ∈ lw_all := lw_g (lw_at lw_m2 152 rfl) rfl
theorem q534 : (Jvm.Cond.fieldLink "HallPlan$Parser" (3 : Nat) "HallPlan$Parser" "this$0" "LHallPlan;") ∈ lw_all := lw_g (lw_at lw_m2 153 rfl) rfl
theorem q535 : (Jvm.Cond.laysFinal "HallPlan$Parser" "HallPlan$Parser" "made" "LHallPlan$Setup;") ∈ lw_all := lw_g (lw_at lw_m2 154 rfl) rfl
theorem q536 : (Jvm.Cond.soleField "HallPlan$Parser" "made") ∈ lw_all := lw_g (lw_at lw_m2 155 rfl) rfl
theorem q537 : (Jvm.Cond.laysFinal "HallPlan$Parser" "HallPlan$Parser" "halls" "Ljava/util/List;") ∈ lw_all := lw_g (lw_at lw_m2 156 rfl) rfl
theorem q538 : (Jvm.Cond.soleField "HallPlan$Parser" "halls") ∈ lw_all := lw_g (lw_at lw_m2 157 rfl) rfl
theorem q539 : (Jvm.Cond.laysFinal "HallPlan$Parser" "HallPlan$Parser" "types" "Ljava/util/List;") ∈ lw_all := lw_g (lw_at lw_m2 158 rfl) rfl
theorem q540 : (Jvm.Cond.soleField "HallPlan$Parser" "types") ∈ lw_all := lw_g (lw_at lw_m2 159 rfl) rfl
theorem q541 : (Jvm.Cond.laysFinal "HallPlan$Parser" "HallPlan$Parser" "kinds" "Ljava/util/List;") ∈ lw_all := lw_g (lw_at lw_m2 160 rfl) rfl
theorem q542 : (Jvm.Cond.soleField "HallPlan$Parser" "kinds") ∈ lw_all := lw_g (lw_at lw_m2 161 rfl) rfl
theorem q543 : (Jvm.Cond.lays "HallPlan$Parser" "HallPlan$Parser" "at" "I") ∈ lw_all := lw_g (lw_at lw_m2 162 rfl) rfl
theorem q544 : (Jvm.Cond.soleField "HallPlan$Parser" "at") ∈ lw_all := lw_g (lw_at lw_m2 163 rfl) rfl
theorem q545 : (Jvm.Cond.lays "HallPlan$Parser" "HallPlan$Parser" "begin" "I") ∈ lw_all := lw_g (lw_at lw_m2 164 rfl) rfl
theorem q546 : (Jvm.Cond.soleField "HallPlan$Parser" "begin") ∈ lw_all := lw_g (lw_at lw_m2 165 rfl) rfl
theorem q547 : (Jvm.Cond.lays "HallPlan$Parser" "HallPlan$Parser" "number" "I") ∈ lw_all := lw_g (lw_at lw_m2 166 rfl) rfl
theorem q548 : (Jvm.Cond.soleField "HallPlan$Parser" "number") ∈ lw_all := lw_g (lw_at lw_m2 167 rfl) rfl
theorem q549 : (Jvm.Cond.lays "HallPlan$Parser" "HallPlan$Parser" "hasWeekend" "Z") ∈ lw_all := lw_g (lw_at lw_m2 168 rfl) rfl
theorem q550 : (Jvm.Cond.soleField "HallPlan$Parser" "hasWeekend") ∈ lw_all := lw_g (lw_at lw_m2 169 rfl) rfl
theorem q551 : (Jvm.Cond.lays "HallPlan$Parser" "HallPlan$Parser" "kind" "C") ∈ lw_all := lw_g (lw_at lw_m2 170 rfl) rfl
theorem q552 : (Jvm.Cond.soleField "HallPlan$Parser" "kind") ∈ lw_all := lw_g (lw_at lw_m2 171 rfl) rfl
theorem q553 : (Jvm.Cond.lays "HallPlan$Parser" "HallPlan$Parser" "word" "Ljava/lang/String;") ∈ lw_all := lw_g (lw_at lw_m2 172 rfl) rfl
theorem q554 : (Jvm.Cond.soleField "HallPlan$Parser" "word") ∈ lw_all := lw_g (lw_at lw_m2 173 rfl) rfl
theorem q555 : (Jvm.Cond.laysFinal "HallPlan$Parser" "HallPlan$Parser" "this$0" "LHallPlan;") ∈ lw_all := lw_g (lw_at lw_m2 174 rfl) rfl
theorem q556 : (Jvm.Cond.soleField "HallPlan$Parser" "this$0") ∈ lw_all := lw_g (lw_at lw_m2 175 rfl) rfl
theorem q557 : (Jvm.Cond.superclass "HallPlan$Parser" "java/lang/Object") ∈ lw_all := lw_g (lw_at lw_m2 176 rfl) rfl
theorem q559 : (Jvm.Cond.instanceMethod ({ cls := "HallPlan$Parser", name := "parse", desc := "()LHallPlan$Setup;" } : Jvm.MethodName)) ∈ lw_all := lw_g (lw_at lw_m2 178 rfl) rfl
theorem q560 : (Jvm.Cond.selects "HallPlan$Parser" ({ cls := "HallPlan$Parser", name := "parse", desc := "()LHallPlan$Setup;" } : Jvm.MethodName) ({ cls := "HallPlan$Parser", name := "parse", desc := "()LHallPlan$Setup;" } : Jvm.MethodName)) ∈ lw_all := lw_g (lw_at lw_m2 179 rfl) rfl
theorem q561 : (Jvm.Cond.code ({ cls := "HallPlan$Parser", name := "parse", desc := "()LHallPlan$Setup;" } : Jvm.MethodName) prog_10_method_20_code (1 : Nat) (Option.some (Jvm.ClassFile.FieldType.object "HallPlan$Setup"))) ∈ lw_all := lw_g (lw_at lw_m2 180 rfl) rfl
theorem q562 : (Jvm.Cond.methodLink "HallPlan$Parser" (96 : Nat) ({ cls := "HallPlan$Parser", name := "next", desc := "()V" } : Jvm.MethodName)) ∈ lw_all := lw_g (lw_at lw_m2 181 rfl) rfl
theorem q563 : (Jvm.Cond.privateMethod ({ cls := "HallPlan$Parser", name := "next", desc := "()V" } : Jvm.MethodName)) ∈ lw_tbl := lw_at lw_m2 182 rfl
theorem q564 : (Jvm.Cond.instanceMethod ({ cls := "HallPlan$Parser", name := "next", desc := "()V" } : Jvm.MethodName)) ∈ lw_all := lw_g (lw_at lw_m2 183 rfl) rfl
theorem q565 : (Jvm.Cond.code ({ cls := "HallPlan$Parser", name := "next", desc := "()V" } : Jvm.MethodName) prog_10_method_3_code (2 : Nat) (Option.none : Option Jvm.ClassFile.FieldType)) ∈ lw_all := lw_g (lw_at lw_m2 184 rfl) rfl
theorem q566 : (Jvm.Cond.methodLink "HallPlan$Parser" (52 : Nat) ({ cls := "HallPlan$Parser", name := "peek", desc := "()I" } : Jvm.MethodName)) ∈ lw_all := lw_g (lw_at lw_m2 185 rfl) rfl
theorem q567 : (Jvm.Cond.privateMethod ({ cls := "HallPlan$Parser", name := "peek", desc := "()I" } : Jvm.MethodName)) ∈ lw_tbl := lw_at lw_m2 186 rfl
theorem q568 : (Jvm.Cond.instanceMethod ({ cls := "HallPlan$Parser", name := "peek", desc := "()I" } : Jvm.MethodName)) ∈ lw_all := lw_g (lw_at lw_m2 187 rfl) rfl
theorem q569 : (Jvm.Cond.code ({ cls := "HallPlan$Parser", name := "peek", desc := "()I" } : Jvm.MethodName) prog_10_method_2_code (1 : Nat) (Option.some Jvm.ClassFile.FieldType.int)) ∈ lw_all := lw_g (lw_at lw_m2 188 rfl) rfl
theorem q570 : (Jvm.Cond.classLink "HallPlan$Parser" (62 : Nat) "java/lang/StringBuilder") ∈ lw_all := lw_g (lw_at lw_m2 189 rfl) rfl
theorem q572 : (Jvm.Cond.methodLink "HallPlan$Parser" (64 : Nat) ({ cls := "java/lang/StringBuilder", name := "<init>", desc := "()V" } : Jvm.MethodName)) ∈ lw_all := lw_g (lw_at lw_m2 191 rfl) rfl
theorem q601 : (Jvm.Cond.methodLinkNest "HallPlan$Parser" (69 : Nat) ({ cls := "HallPlan", name := "in", desc := "(III)Z" } : Jvm.MethodName) "HallPlan") ∈ lw_tbl := lw_at lw_m2 220 rfl
theorem q604 : (Jvm.Cond.methodLink "HallPlan$Parser" (73 : Nat) ({ cls := "java/lang/StringBuilder", name := "append", desc := "(C)Ljava/lang/StringBuilder;" } : Jvm.MethodName)) ∈ lw_all := lw_g (lw_at lw_m2 223 rfl) rfl
theorem q691 : (Jvm.Cond.methodLink "HallPlan$Parser" (77 : Nat) ({ cls := "java/lang/Math", name := "max", desc := "(II)I" } : Jvm.MethodName)) ∈ lw_all := lw_g (lw_at lw_m3 70 rfl) rfl
theorem q692 : (Jvm.Cond.methodLink "HallPlan$Parser" (83 : Nat) ({ cls := "java/lang/StringBuilder", name := "toString", desc := "()Ljava/lang/String;" } : Jvm.MethodName)) ∈ lw_all := lw_g (lw_at lw_m3 71 rfl) rfl
theorem q902 : (Jvm.Cond.methodLink "HallPlan$Parser" (223 : Nat) ({ cls := "HallPlan$Parser", name := "statement", desc := "()V" } : Jvm.MethodName)) ∈ lw_all := lw_g (lw_at lw_m4 41 rfl) rfl
theorem q903 : (Jvm.Cond.privateMethod ({ cls := "HallPlan$Parser", name := "statement", desc := "()V" } : Jvm.MethodName)) ∈ lw_tbl := lw_at lw_m4 42 rfl
theorem q904 : (Jvm.Cond.instanceMethod ({ cls := "HallPlan$Parser", name := "statement", desc := "()V" } : Jvm.MethodName)) ∈ lw_all := lw_g (lw_at lw_m4 43 rfl) rfl
theorem q905 : (Jvm.Cond.code ({ cls := "HallPlan$Parser", name := "statement", desc := "()V" } : Jvm.MethodName) prog_10_method_19_code (3 : Nat) (Option.none : Option Jvm.ClassFile.FieldType)) ∈ lw_all := lw_g (lw_at lw_m4 44 rfl) rfl
theorem q906 : (Jvm.Cond.methodLink "HallPlan$Parser" (92 : Nat) ({ cls := "HallPlan$Parser", name := "expect", desc := "(Z)V" } : Jvm.MethodName)) ∈ lw_all := lw_g (lw_at lw_m4 45 rfl) rfl
theorem q907 : (Jvm.Cond.privateMethod ({ cls := "HallPlan$Parser", name := "expect", desc := "(Z)V" } : Jvm.MethodName)) ∈ lw_tbl := lw_at lw_m4 46 rfl
theorem q908 : (Jvm.Cond.instanceMethod ({ cls := "HallPlan$Parser", name := "expect", desc := "(Z)V" } : Jvm.MethodName)) ∈ lw_all := lw_g (lw_at lw_m4 47 rfl) rfl
theorem q909 : (Jvm.Cond.code ({ cls := "HallPlan$Parser", name := "expect", desc := "(Z)V" } : Jvm.MethodName) prog_10_method_4_code (2 : Nat) (Option.none : Option Jvm.ClassFile.FieldType)) ∈ lw_all := lw_g (lw_at lw_m4 48 rfl) rfl
theorem q910 : (Jvm.Cond.classLink "HallPlan$Parser" (87 : Nat) "HallPlan$SyntaxError") ∈ lw_all := lw_g (lw_at lw_m4 49 rfl) rfl
theorem q919 : (Jvm.Cond.methodLink "HallPlan$Parser" (89 : Nat) ({ cls := "HallPlan$SyntaxError", name := "<init>", desc := "(I)V" } : Jvm.MethodName)) ∈ lw_all := lw_g (lw_at lw_m4 58 rfl) rfl
theorem q934 : (Jvm.Cond.methodLink "HallPlan$Parser" (203 : Nat) ({ cls := "java/lang/String", name := "hashCode", desc := "()I" } : Jvm.MethodName)) ∈ lw_all := lw_g (lw_at lw_m4 73 rfl) rfl
theorem q995 : (Jvm.Cond.stringRef "HallPlan$Parser" (109 : Nat) "hall") ∈ lw_tbl := lw_at lw_m4 134 rfl
theorem q996 : (Jvm.Cond.methodLink "HallPlan$Parser" (101 : Nat) ({ cls := "java/lang/String", name := "equals", desc := "(Ljava/lang/Object;)Z" } : Jvm.MethodName)) ∈ lw_all := lw_g (lw_at lw_m4 135 rfl) rfl
theorem q1004 : (Jvm.Cond.stringRef "HallPlan$Parser" (111 : Nat) "type") ∈ lw_tbl := lw_at lw_m4 143 rfl
theorem q1005 : (Jvm.Cond.stringRef "HallPlan$Parser" (113 : Nat) "kind") ∈ lw_tbl := lw_at lw_m4 144 rfl
theorem q1006 : (Jvm.Cond.stringRef "HallPlan$Parser" (114 : Nat) "setup") ∈ lw_tbl := lw_at lw_m4 145 rfl
theorem q1007 : (Jvm.Cond.stringRef "HallPlan$Parser" (116 : Nat) "closed") ∈ lw_tbl := lw_at lw_m4 146 rfl
theorem q1008 : (Jvm.Cond.stringRef "HallPlan$Parser" (118 : Nat) "weekly") ∈ lw_tbl := lw_at lw_m4 147 rfl
theorem q1009 : (Jvm.Cond.stringRef "HallPlan$Parser" (120 : Nat) "fee") ∈ lw_tbl := lw_at lw_m4 148 rfl
theorem q1010 : (Jvm.Cond.stringRef "HallPlan$Parser" (122 : Nat) "weekend") ∈ lw_tbl := lw_at lw_m4 149 rfl
theorem q1011 : (Jvm.Cond.methodLink "HallPlan$Parser" (206 : Nat) ({ cls := "HallPlan$Parser", name := "hall", desc := "()V" } : Jvm.MethodName)) ∈ lw_all := lw_g (lw_at lw_m4 150 rfl) rfl
theorem q1012 : (Jvm.Cond.privateMethod ({ cls := "HallPlan$Parser", name := "hall", desc := "()V" } : Jvm.MethodName)) ∈ lw_tbl := lw_at lw_m4 151 rfl
theorem q1013 : (Jvm.Cond.instanceMethod ({ cls := "HallPlan$Parser", name := "hall", desc := "()V" } : Jvm.MethodName)) ∈ lw_all := lw_g (lw_at lw_m4 152 rfl) rfl
theorem q1014 : (Jvm.Cond.code ({ cls := "HallPlan$Parser", name := "hall", desc := "()V" } : Jvm.MethodName) prog_10_method_10_code (4 : Nat) (Option.none : Option Jvm.ClassFile.FieldType)) ∈ lw_all := lw_g (lw_at lw_m4 153 rfl) rfl
theorem q1015 : (Jvm.Cond.interfaceEntry "HallPlan$Parser" (137 : Nat)) ∈ lw_tbl := lw_at lw_m4 154 rfl
theorem q1016 : (Jvm.Cond.methodLink "HallPlan$Parser" (137 : Nat) ({ cls := "java/util/List", name := "size", desc := "()I" } : Jvm.MethodName)) ∈ lw_all := lw_g (lw_at lw_m4 155 rfl) rfl
theorem q1017 : (Jvm.Cond.methodLink "HallPlan$Parser" (140 : Nat) ({ cls := "HallPlan$Parser", name := "begins", desc := "(II)V" } : Jvm.MethodName)) ∈ lw_all := lw_g (lw_at lw_m4 156 rfl) rfl
theorem q1018 : (Jvm.Cond.privateMethod ({ cls := "HallPlan$Parser", name := "begins", desc := "(II)V" } : Jvm.MethodName)) ∈ lw_tbl := lw_at lw_m4 157 rfl
theorem q1019 : (Jvm.Cond.instanceMethod ({ cls := "HallPlan$Parser", name := "begins", desc := "(II)V" } : Jvm.MethodName)) ∈ lw_all := lw_g (lw_at lw_m4 158 rfl) rfl
theorem q1020 : (Jvm.Cond.code ({ cls := "HallPlan$Parser", name := "begins", desc := "(II)V" } : Jvm.MethodName) prog_10_method_18_code (3 : Nat) (Option.none : Option Jvm.ClassFile.FieldType)) ∈ lw_all := lw_g (lw_at lw_m4 159 rfl) rfl
theorem q1021 : (Jvm.Cond.methodLink "HallPlan$Parser" (144 : Nat) ({ cls := "HallPlan$Parser", name := "name", desc := "()Ljava/lang/String;" } : Jvm.MethodName)) ∈ lw_all := lw_g (lw_at lw_m4 160 rfl) rfl
theorem q1022 : (Jvm.Cond.privateMethod ({ cls := "HallPlan$Parser", name := "name", desc := "()Ljava/lang/String;" } : Jvm.MethodName)) ∈ lw_tbl := lw_at lw_m4 161 rfl
theorem q1023 : (Jvm.Cond.instanceMethod ({ cls := "HallPlan$Parser", name := "name", desc := "()Ljava/lang/String;" } : Jvm.MethodName)) ∈ lw_all := lw_g (lw_at lw_m4 162 rfl) rfl
theorem q1024 : (Jvm.Cond.code ({ cls := "HallPlan$Parser", name := "name", desc := "()Ljava/lang/String;" } : Jvm.MethodName) prog_10_method_8_code (2 : Nat) (Option.some (Jvm.ClassFile.FieldType.object "java/lang/String"))) ∈ lw_all := lw_g (lw_at lw_m4 163 rfl) rfl
theorem q1025 : (Jvm.Cond.methodLink "HallPlan$Parser" (107 : Nat) ({ cls := "java/lang/String", name := "length", desc := "()I" } : Jvm.MethodName)) ∈ lw_all := lw_g (lw_at lw_m4 164 rfl) rfl
theorem q1026 : (Jvm.Cond.classLink "HallPlan$Parser" (102 : Nat) "java/lang/String") ∈ lw_all := lw_g (lw_at lw_m4 165 rfl) rfl
theorem q1028 : (Jvm.Cond.methodLink "HallPlan$Parser" (124 : Nat) ({ cls := "HallPlan$Parser", name := "isOneOf", desc := "([Ljava/lang/String;)Z" } : Jvm.MethodName)) ∈ lw_all := lw_g (lw_at lw_m4 167 rfl) rfl
theorem q1029 : (Jvm.Cond.privateMethod ({ cls := "HallPlan$Parser", name := "isOneOf", desc := "([Ljava/lang/String;)Z" } : Jvm.MethodName)) ∈ lw_tbl := lw_at lw_m4 168 rfl
theorem q1030 : (Jvm.Cond.instanceMethod ({ cls := "HallPlan$Parser", name := "isOneOf", desc := "([Ljava/lang/String;)Z" } : Jvm.MethodName)) ∈ lw_all := lw_g (lw_at lw_m4 169 rfl) rfl
theorem q1031 : (Jvm.Cond.code ({ cls := "HallPlan$Parser", name := "isOneOf", desc := "([Ljava/lang/String;)Z" } : Jvm.MethodName) prog_10_method_7_code (4 : Nat) (Option.some Jvm.ClassFile.FieldType.boolean)) ∈ lw_all := lw_g (lw_at lw_m4 170 rfl) rfl
theorem q1032 : (Jvm.Cond.interfaceEntry "HallPlan$Parser" (128 : Nat)) ∈ lw_tbl := lw_at lw_m4 171 rfl
theorem q1033 : (Jvm.Cond.methodLink "HallPlan$Parser" (128 : Nat) ({ cls := "java/util/List", name := "contains", desc := "(Ljava/lang/Object;)Z" } : Jvm.MethodName)) ∈ lw_all := lw_g (lw_at lw_m4 172 rfl) rfl
theorem q1059 : (Jvm.Cond.selects "HallPlan$Parser" ({ cls := "java/lang/Object", name := "equals", desc := "(Ljava/lang/Object;)Z" } : Jvm.MethodName) ({ cls := "java/lang/Object", name := "equals", desc := "(Ljava/lang/Object;)Z" } : Jvm.MethodName)) ∈ lw_all := lw_g (lw_at lw_m4 198 rfl) rfl
theorem q1074 : (Jvm.Cond.interfaceEntry "HallPlan$Parser" (147 : Nat)) ∈ lw_tbl := lw_at lw_m4 213 rfl
theorem q1075 : (Jvm.Cond.methodLink "HallPlan$Parser" (147 : Nat) ({ cls := "java/util/List", name := "add", desc := "(Ljava/lang/Object;)Z" } : Jvm.MethodName)) ∈ lw_all := lw_g (lw_at lw_m4 214 rfl) rfl
theorem q1108 : (Jvm.Cond.selects "HallPlan$Parser" ({ cls := "java/lang/Object", name := "getClass", desc := "()Ljava/lang/Class;" } : Jvm.MethodName) ({ cls := "java/lang/Object", name := "getClass", desc := "()Ljava/lang/Class;" } : Jvm.MethodName)) ∈ lw_all := lw_g (lw_at lw_m5 7 rfl) rfl
theorem q1135 : (Jvm.Cond.methodLink "HallPlan$Parser" (99 : Nat) ({ cls := "HallPlan$Parser", name := "number", desc := "(II)I" } : Jvm.MethodName)) ∈ lw_all := lw_g (lw_at lw_m5 34 rfl) rfl
theorem q1136 : (Jvm.Cond.privateMethod ({ cls := "HallPlan$Parser", name := "number", desc := "(II)I" } : Jvm.MethodName)) ∈ lw_tbl := lw_at lw_m5 35 rfl
theorem q1137 : (Jvm.Cond.instanceMethod ({ cls := "HallPlan$Parser", name := "number", desc := "(II)I" } : Jvm.MethodName)) ∈ lw_all := lw_g (lw_at lw_m5 36 rfl) rfl
theorem q1138 : (Jvm.Cond.code ({ cls := "HallPlan$Parser", name := "number", desc := "(II)I" } : Jvm.MethodName) prog_10_method_5_code (4 : Nat) (Option.some Jvm.ClassFile.FieldType.int)) ∈ lw_all := lw_g (lw_at lw_m5 37 rfl) rfl
theorem q1139 : (Jvm.Cond.methodLink "HallPlan$Parser" (150 : Nat) ({ cls := "HallPlan$Parser", name := "minutes", desc := "(II)I" } : Jvm.MethodName)) ∈ lw_all := lw_g (lw_at lw_m5 38 rfl) rfl
theorem q1140 : (Jvm.Cond.privateMethod ({ cls := "HallPlan$Parser", name := "minutes", desc := "(II)I" } : Jvm.MethodName)) ∈ lw_tbl := lw_at lw_m5 39 rfl
theorem q1141 : (Jvm.Cond.instanceMethod ({ cls := "HallPlan$Parser", name := "minutes", desc := "(II)I" } : Jvm.MethodName)) ∈ lw_all := lw_g (lw_at lw_m5 40 rfl) rfl
theorem q1142 : (Jvm.Cond.code ({ cls := "HallPlan$Parser", name := "minutes", desc := "(II)I" } : Jvm.MethodName) prog_10_method_6_code (3 : Nat) (Option.some Jvm.ClassFile.FieldType.int)) ∈ lw_all := lw_g (lw_at lw_m5 41 rfl) rfl
theorem q1143 : (Jvm.Cond.classLink "HallPlan$Parser" (154 : Nat) "HallPlan$Hall") ∈ lw_all := lw_g (lw_at lw_m5 42 rfl) rfl
theorem q1145 : (Jvm.Cond.methodLink "HallPlan$Parser" (156 : Nat) ({ cls := "HallPlan$Hall", name := "<init>", desc := "(IIII)V" } : Jvm.MethodName)) ∈ lw_all := lw_g (lw_at lw_m5 44 rfl) rfl
theorem q1166 : (Jvm.Cond.methodLink "HallPlan$Parser" (208 : Nat) ({ cls := "HallPlan$Parser", name := "type", desc := "()V" } : Jvm.MethodName)) ∈ lw_all := lw_g (lw_at lw_m5 65 rfl) rfl
theorem q1167 : (Jvm.Cond.privateMethod ({ cls := "HallPlan$Parser", name := "type", desc := "()V" } : Jvm.MethodName)) ∈ lw_tbl := lw_at lw_m5 66 rfl
theorem q1168 : (Jvm.Cond.instanceMethod ({ cls := "HallPlan$Parser", name := "type", desc := "()V" } : Jvm.MethodName)) ∈ lw_all := lw_g (lw_at lw_m5 67 rfl) rfl
theorem q1169 : (Jvm.Cond.code ({ cls := "HallPlan$Parser", name := "type", desc := "()V" } : Jvm.MethodName) prog_10_method_11_code (1 : Nat) (Option.none : Option Jvm.ClassFile.FieldType)) ∈ lw_all := lw_g (lw_at lw_m5 68 rfl) rfl
theorem q1170 : (Jvm.Cond.methodLink "HallPlan$Parser" (210 : Nat) ({ cls := "HallPlan$Parser", name := "kindOf", desc := "()V" } : Jvm.MethodName)) ∈ lw_all := lw_g (lw_at lw_m5 69 rfl) rfl
theorem q1171 : (Jvm.Cond.privateMethod ({ cls := "HallPlan$Parser", name := "kindOf", desc := "()V" } : Jvm.MethodName)) ∈ lw_tbl := lw_at lw_m5 70 rfl
theorem q1172 : (Jvm.Cond.instanceMethod ({ cls := "HallPlan$Parser", name := "kindOf", desc := "()V" } : Jvm.MethodName)) ∈ lw_all := lw_g (lw_at lw_m5 71 rfl) rfl
theorem q1173 : (Jvm.Cond.code ({ cls := "HallPlan$Parser", name := "kindOf", desc := "()V" } : Jvm.MethodName) prog_10_method_12_code (3 : Nat) (Option.none : Option Jvm.ClassFile.FieldType)) ∈ lw_all := lw_g (lw_at lw_m5 72 rfl) rfl
theorem q1174 : (Jvm.Cond.classLink "HallPlan$Parser" (162 : Nat) "HallPlan$Kind") ∈ lw_all := lw_g (lw_at lw_m5 73 rfl) rfl
theorem q1176 : (Jvm.Cond.methodLink "HallPlan$Parser" (164 : Nat) ({ cls := "HallPlan$Kind", name := "<init>", desc := "(III)V" } : Jvm.MethodName)) ∈ lw_all := lw_g (lw_at lw_m5 75 rfl) rfl
theorem q1193 : (Jvm.Cond.methodLink "HallPlan$Parser" (213 : Nat) ({ cls := "HallPlan$Parser", name := "between", desc := "()V" } : Jvm.MethodName)) ∈ lw_all := lw_g (lw_at lw_m5 92 rfl) rfl
theorem q1194 : (Jvm.Cond.privateMethod ({ cls := "HallPlan$Parser", name := "between", desc := "()V" } : Jvm.MethodName)) ∈ lw_tbl := lw_at lw_m5 93 rfl
theorem q1195 : (Jvm.Cond.instanceMethod ({ cls := "HallPlan$Parser", name := "between", desc := "()V" } : Jvm.MethodName)) ∈ lw_all := lw_g (lw_at lw_m5 94 rfl) rfl
theorem q1196 : (Jvm.Cond.code ({ cls := "HallPlan$Parser", name := "between", desc := "()V" } : Jvm.MethodName) prog_10_method_13_code (3 : Nat) (Option.none : Option Jvm.ClassFile.FieldType)) ∈ lw_all := lw_g (lw_at lw_m5 95 rfl) rfl
theorem q1197 : (Jvm.Cond.methodLink "HallPlan$Parser" (167 : Nat) ({ cls := "HallPlan$Parser", name := "known", desc := "(Ljava/util/List;)I" } : Jvm.MethodName)) ∈ lw_all := lw_g (lw_at lw_m5 96 rfl) rfl
theorem q1198 : (Jvm.Cond.privateMethod ({ cls := "HallPlan$Parser", name := "known", desc := "(Ljava/util/List;)I" } : Jvm.MethodName)) ∈ lw_tbl := lw_at lw_m5 97 rfl
theorem q1199 : (Jvm.Cond.instanceMethod ({ cls := "HallPlan$Parser", name := "known", desc := "(Ljava/util/List;)I" } : Jvm.MethodName)) ∈ lw_all := lw_g (lw_at lw_m5 98 rfl) rfl
theorem q1200 : (Jvm.Cond.code ({ cls := "HallPlan$Parser", name := "known", desc := "(Ljava/util/List;)I" } : Jvm.MethodName) prog_10_method_9_code (3 : Nat) (Option.some Jvm.ClassFile.FieldType.int)) ∈ lw_all := lw_g (lw_at lw_m5 99 rfl) rfl
theorem q1201 : (Jvm.Cond.interfaceEntry "HallPlan$Parser" (133 : Nat)) ∈ lw_tbl := lw_at lw_m5 100 rfl
theorem q1202 : (Jvm.Cond.methodLink "HallPlan$Parser" (133 : Nat) ({ cls := "java/util/List", name := "indexOf", desc := "(Ljava/lang/Object;)I" } : Jvm.MethodName)) ∈ lw_all := lw_g (lw_at lw_m5 101 rfl) rfl
theorem q1208 : (Jvm.Cond.methodLink "HallPlan$Parser" (215 : Nat) ({ cls := "HallPlan$Parser", name := "closed", desc := "()V" } : Jvm.MethodName)) ∈ lw_all := lw_g (lw_at lw_m5 107 rfl) rfl
theorem q1209 : (Jvm.Cond.privateMethod ({ cls := "HallPlan$Parser", name := "closed", desc := "()V" } : Jvm.MethodName)) ∈ lw_tbl := lw_at lw_m5 108 rfl
theorem q1210 : (Jvm.Cond.instanceMethod ({ cls := "HallPlan$Parser", name := "closed", desc := "()V" } : Jvm.MethodName)) ∈ lw_all := lw_g (lw_at lw_m5 109 rfl) rfl
theorem q1211 : (Jvm.Cond.code ({ cls := "HallPlan$Parser", name := "closed", desc := "()V" } : Jvm.MethodName) prog_10_method_14_code (3 : Nat) (Option.none : Option Jvm.ClassFile.FieldType)) ∈ lw_all := lw_g (lw_at lw_m5 110 rfl) rfl
theorem q1212 : (Jvm.Cond.constant "HallPlan$Parser" (177 : Nat) (86385 : Int32)) ∈ lw_all := lw_g (lw_at lw_m5 111 rfl) rfl
theorem q1213 : (Jvm.Cond.constant "HallPlan$Parser" (178 : Nat) (86400 : Int32)) ∈ lw_all := lw_g (lw_at lw_m5 112 rfl) rfl
theorem q1214 : (Jvm.Cond.methodLink "HallPlan$Parser" (179 : Nat) ({ cls := "HallPlan$Setup", name := "addClosure", desc := "(III)V" } : Jvm.MethodName)) ∈ lw_all := lw_g (lw_at lw_m5 113 rfl) rfl
theorem q1223 : (Jvm.Cond.methodLink "HallPlan$Parser" (217 : Nat) ({ cls := "HallPlan$Parser", name := "weekly", desc := "()V" } : Jvm.MethodName)) ∈ lw_all := lw_g (lw_at lw_m5 122 rfl) rfl
theorem q1224 : (Jvm.Cond.privateMethod ({ cls := "HallPlan$Parser", name := "weekly", desc := "()V" } : Jvm.MethodName)) ∈ lw_tbl := lw_at lw_m5 123 rfl
theorem q1225 : (Jvm.Cond.instanceMethod ({ cls := "HallPlan$Parser", name := "weekly", desc := "()V" } : Jvm.MethodName)) ∈ lw_all := lw_g (lw_at lw_m5 124 rfl) rfl
theorem q1226 : (Jvm.Cond.code ({ cls := "HallPlan$Parser", name := "weekly", desc := "()V" } : Jvm.MethodName) prog_10_method_15_code (3 : Nat) (Option.none : Option Jvm.ClassFile.FieldType)) ∈ lw_all := lw_g (lw_at lw_m5 125 rfl) rfl
theorem q1227 : (Jvm.Cond.methodLink "HallPlan$Parser" (184 : Nat) ({ cls := "HallPlan$Setup", name := "addWeekly", desc := "(III)V" } : Jvm.MethodName)) ∈ lw_all := lw_g (lw_at lw_m5 126 rfl) rfl
theorem q1233 : (Jvm.Cond.methodLink "HallPlan$Parser" (219 : Nat) ({ cls := "HallPlan$Parser", name := "fee", desc := "()V" } : Jvm.MethodName)) ∈ lw_all := lw_g (lw_at lw_m5 132 rfl) rfl
theorem q1234 : (Jvm.Cond.privateMethod ({ cls := "HallPlan$Parser", name := "fee", desc := "()V" } : Jvm.MethodName)) ∈ lw_tbl := lw_at lw_m5 133 rfl
theorem q1235 : (Jvm.Cond.instanceMethod ({ cls := "HallPlan$Parser", name := "fee", desc := "()V" } : Jvm.MethodName)) ∈ lw_all := lw_g (lw_at lw_m5 134 rfl) rfl
theorem q1236 : (Jvm.Cond.code ({ cls := "HallPlan$Parser", name := "fee", desc := "()V" } : Jvm.MethodName) prog_10_method_16_code (2 : Nat) (Option.none : Option Jvm.ClassFile.FieldType)) ∈ lw_all := lw_g (lw_at lw_m5 135 rfl) rfl
theorem q1237 : (Jvm.Cond.methodLink "HallPlan$Parser" (190 : Nat) ({ cls := "HallPlan$Setup", name := "hasFee", desc := "(I)Z" } : Jvm.MethodName)) ∈ lw_all := lw_g (lw_at lw_m5 136 rfl) rfl
theorem q1241 : (Jvm.Cond.methodLink "HallPlan$Parser" (194 : Nat) ({ cls := "HallPlan$Setup", name := "addFee", desc := "(II)V" } : Jvm.MethodName)) ∈ lw_all := lw_g (lw_at lw_m5 140 rfl) rfl
theorem q1247 : (Jvm.Cond.methodLink "HallPlan$Parser" (221 : Nat) ({ cls := "HallPlan$Parser", name := "weekend", desc := "()V" } : Jvm.MethodName)) ∈ lw_all := lw_g (lw_at lw_m5 146 rfl) rfl
theorem q1248 : (Jvm.Cond.privateMethod ({ cls := "HallPlan$Parser", name := "weekend", desc := "()V" } : Jvm.MethodName)) ∈ lw_tbl := lw_at lw_m5 147 rfl
theorem q1249 : (Jvm.Cond.instanceMethod ({ cls := "HallPlan$Parser", name := "weekend", desc := "()V" } : Jvm.MethodName)) ∈ lw_all := lw_g (lw_at lw_m5 148 rfl) rfl
theorem q1250 : (Jvm.Cond.code ({ cls := "HallPlan$Parser", name := "weekend", desc := "()V" } : Jvm.MethodName) prog_10_method_17_code (1 : Nat) (Option.none : Option Jvm.ClassFile.FieldType)) ∈ lw_all := lw_g (lw_at lw_m5 149 rfl) rfl
theorem q2772 : (Jvm.Cond.castable "HallPlan$Parser" "java/lang/Object") ∈ lw_tbl := lw_at lw_m11 231 rfl
theorem in_X6 : ∀ w ∈ wsX60, w ∈ lw_all := lw_in wsX60 [535, 537, 539, 541, 543, 545, 547, 549, 551, 553, 555] (by decide +kernel) (by decide +kernel)
/-! HallPlan$SyntaxError -/
set_option maxRecDepth 100000
def RX7 : String := "HallPlan$SyntaxError"
def TX7 : u_T := fun k => match k with
  | 0 => ("java/lang/Throwable", "cause", "Ljava/lang/Throwable;", false)
  | 1 => ("java/lang/Throwable", "stackTrace", "[Ljava/lang/StackTraceElement;", false)
  | 2 => ("java/lang/Throwable", "suppressedExceptions", "Ljava/util/List;", false)
  | 3 => ("java/lang/Throwable", "detailMessage", "Ljava/lang/String;", false)
  | 4 => ("java/lang/Throwable", "backtrace", "Ljava/lang/Object;", false)
  | 5 => ("java/lang/Throwable", "depth", "I", false)
  | _ => ("HallPlan$SyntaxError", "position", "I", true)
def tyX7 : Nat → FieldType := fun k => match k with
  | 0 => .object "java/lang/Throwable"
  | 1 => .array (.object "java/lang/StackTraceElement")
  | 2 => .object "java/util/List"
  | 3 => .object "java/lang/String"
  | 4 => .object "java/lang/Object"
  | 5 => .int
  | _ => .int
abbrev wsX70 : List Cond := u_ws RX7 TX7 7
theorem nmX7 : ∀ a, a < 7 → ∀ b, b < 7 → a ≠ b → (TX7 a).2.1 ≠ (TX7 b).2.1 := by decide +kernel
theorem tyX7_ok : ∀ k, k < 7 → parseFieldDescriptor (TX7 k).2.2.1 = some (tyX7 k) := by decide +kernel
abbrev cX7_init : ByteArray := prog_15_method_1_code
def yX7_init : MethodName := ⟨RX7, "<init>", "(I)V"⟩
def dkwX7_init_0 : List UInt8 := [42, 1, 1, 3, 3, 183, 0, 1, 42, 27, 181, 0, 7, 177]
abbrev dktX7_init_0 : List UInt8 := dkwX7_init_0 ++ []
theorem dksX7_init_0 : cX7_init.data.toList.drop 0 = dktX7_init_0 := by decide +kernel
theorem dX7_init_0 : decode cX7_init 0 = .ok (.aload_n 0, 1) := dk_42 (dk_at dksX7_init_0 0 rfl rfl)
theorem dX7_init_1 : decode cX7_init 1 = .ok (.aconst_null, 1) := dk_1 (dk_at dksX7_init_0 1 rfl rfl)
theorem dX7_init_2 : decode cX7_init 2 = .ok (.aconst_null, 1) := dk_1 (dk_at dksX7_init_0 2 rfl rfl)
theorem dX7_init_3 : decode cX7_init 3 = .ok (.iconst 0, 1) := dk_3 (dk_at dksX7_init_0 3 rfl rfl)
theorem dX7_init_4 : decode cX7_init 4 = .ok (.iconst 0, 1) := dk_3 (dk_at dksX7_init_0 4 rfl rfl)
theorem dX7_init_5 : decode cX7_init 5 = .ok (.invokespecial 1, 3) := dk_183 0 1 (dk_at dksX7_init_0 5 rfl rfl)
theorem dX7_init_8 : decode cX7_init 8 = .ok (.aload_n 0, 1) := dk_42 (dk_at dksX7_init_0 8 rfl rfl)
theorem dX7_init_9 : decode cX7_init 9 = .ok (.iload_n 1, 1) := dk_27 (dk_at dksX7_init_0 9 rfl rfl)
theorem dX7_init_10 : decode cX7_init 10 = .ok (.putfield 7, 3) := dk_181 0 7 (dk_at dksX7_init_0 10 rfl rfl)
theorem dX7_init_13 : decode cX7_init 13 = .ok (.return_, 1) := dk_177 (dk_at dksX7_init_0 13 rfl rfl)
theorem q170 : (Jvm.Cond.initialized "HallPlan$SyntaxError") ∈ lw_all := lw_g (lw_at lw_m1 29 rfl) rfl
theorem q763 : (Jvm.Cond.selects "HallPlan$SyntaxError" ({ cls := "java/lang/Throwable", name := "fillInStackTrace", desc := "()Ljava/lang/Throwable;" } : Jvm.MethodName) ({ cls := "java/lang/Throwable", name := "fillInStackTrace", desc := "()Ljava/lang/Throwable;" } : Jvm.MethodName)) ∈ lw_all := lw_g (lw_at lw_m3 142 rfl) rfl
theorem q911 : (Jvm.Cond.instantiable "HallPlan$SyntaxError" (7 : Nat)) ∈ lw_all := lw_g (lw_at lw_m4 50 rfl) rfl
theorem q912 : (Jvm.Cond.castable "HallPlan$SyntaxError" "HallPlan$SyntaxError") ∈ lw_tbl := lw_at lw_m4 51 rfl
theorem q913 : (Jvm.Cond.selects "HallPlan$SyntaxError" ({ cls := "java/lang/Throwable", name := "fillInStackTrace", desc := "(I)Ljava/lang/Throwable;" } : Jvm.MethodName) ({ cls := "java/lang/Throwable", name := "fillInStackTrace", desc := "(I)Ljava/lang/Throwable;" } : Jvm.MethodName)) ∈ lw_all := lw_g (lw_at lw_m4 52 rfl) rfl
theorem q914 : (Jvm.Cond.lays "HallPlan$SyntaxError" "java/lang/Throwable" "cause" "Ljava/lang/Throwable;") ∈ lw_all := lw_g (lw_at lw_m4 53 rfl) rfl
theorem q915 : (Jvm.Cond.lays "HallPlan$SyntaxError" "java/lang/Throwable" "stackTrace" "[Ljava/lang/StackTraceElement;") ∈ lw_all := lw_g (lw_at lw_m4 54 rfl) rfl
theorem q916 : (Jvm.Cond.lays "HallPlan$SyntaxError" "java/lang/Throwable" "suppressedExceptions" "Ljava/util/List;") ∈ lw_all := lw_g (lw_at lw_m4 55 rfl) rfl
theorem q917 : (Jvm.Cond.lays "HallPlan$SyntaxError" "java/lang/Throwable" "detailMessage" "Ljava/lang/String;") ∈ lw_all := lw_g (lw_at lw_m4 56 rfl) rfl
theorem q918 : (Jvm.Cond.lays "HallPlan$SyntaxError" "java/lang/Throwable" "backtrace" "Ljava/lang/Object;") ∈ lw_all := lw_g (lw_at lw_m4 57 rfl) rfl
theorem q920 : (Jvm.Cond.instanceMethod ({ cls := "HallPlan$SyntaxError", name := "<init>", desc := "(I)V" } : Jvm.MethodName)) ∈ lw_all := lw_g (lw_at lw_m4 59 rfl) rfl
theorem q921 : (Jvm.Cond.code ({ cls := "HallPlan$SyntaxError", name := "<init>", desc := "(I)V" } : Jvm.MethodName) prog_15_method_1_code (2 : Nat) (Option.none : Option Jvm.ClassFile.FieldType)) ∈ lw_all := lw_g (lw_at lw_m4 60 rfl) rfl
theorem q922 : (Jvm.Cond.methodLink "HallPlan$SyntaxError" (1 : Nat) ({ cls := "java/lang/Exception", name := "<init>", desc := "(Ljava/lang/String;Ljava/lang/Throwable;ZZ)V" } : Jvm.MethodName)) ∈ lw_all := lw_g (lw_at lw_m4 61 rfl) rfl
theorem q928 : (Jvm.Cond.fieldLink "HallPlan$SyntaxError" (7 : Nat) "HallPlan$SyntaxError" "position" "I") ∈ lw_all := lw_g (lw_at lw_m4 67 rfl) rfl
theorem q930 : (Jvm.Cond.laysFinal "HallPlan$SyntaxError" "HallPlan$SyntaxError" "position" "I") ∈ lw_all := lw_g (lw_at lw_m4 69 rfl) rfl
theorem q931 : (Jvm.Cond.soleField "HallPlan$SyntaxError" "position") ∈ lw_all := lw_g (lw_at lw_m4 70 rfl) rfl
theorem q932 : (Jvm.Cond.lays "HallPlan$SyntaxError" "java/lang/Throwable" "depth" "I") ∈ lw_all := lw_g (lw_at lw_m4 71 rfl) rfl
theorem q933 : (Jvm.Cond.superclass "HallPlan$SyntaxError" "java/lang/Exception") ∈ lw_all := lw_g (lw_at lw_m4 72 rfl) rfl
theorem q1064 : (Jvm.Cond.selects "HallPlan$SyntaxError" ({ cls := "java/lang/Object", name := "equals", desc := "(Ljava/lang/Object;)Z" } : Jvm.MethodName) ({ cls := "java/lang/Object", name := "equals", desc := "(Ljava/lang/Object;)Z" } : Jvm.MethodName)) ∈ lw_all := lw_g (lw_at lw_m4 203 rfl) rfl
theorem q1113 : (Jvm.Cond.selects "HallPlan$SyntaxError" ({ cls := "java/lang/Object", name := "getClass", desc := "()Ljava/lang/Class;" } : Jvm.MethodName) ({ cls := "java/lang/Object", name := "getClass", desc := "()Ljava/lang/Class;" } : Jvm.MethodName)) ∈ lw_all := lw_g (lw_at lw_m5 12 rfl) rfl
theorem q2774 : (Jvm.Cond.castable "HallPlan$SyntaxError" "java/lang/Object") ∈ lw_tbl := lw_at lw_m11 233 rfl
theorem in_X7 : ∀ w ∈ wsX70, w ∈ lw_all := lw_in wsX70 [914, 915, 916, 917, 918, 932, 930] (by decide +kernel) (by decide +kernel)
/-! HallPlan$Hall -/
set_option maxRecDepth 100000
def RX8 : String := "HallPlan$Hall"
def TX8 : u_T := fun k => match k with
  | 0 => ("HallPlan$Hall", "capacity", "I", true)
  | 1 => ("HallPlan$Hall", "open", "I", true)
  | 2 => ("HallPlan$Hall", "close", "I", true)
  | _ => ("HallPlan$Hall", "rate", "I", true)
def tyX8 : Nat → FieldType := fun k => match k with
  | 0 => .int
  | 1 => .int
  | 2 => .int
  | _ => .int
abbrev wsX80 : List Cond := u_ws RX8 TX8 4
theorem nmX8 : ∀ a, a < 4 → ∀ b, b < 4 → a ≠ b → (TX8 a).2.1 ≠ (TX8 b).2.1 := by decide +kernel
theorem tyX8_ok : ∀ k, k < 4 → parseFieldDescriptor (TX8 k).2.2.1 = some (tyX8 k) := by decide +kernel
abbrev cX8_isOpen : ByteArray := prog_7_method_2_code
def yX8_isOpen : MethodName := ⟨RX8, "isOpen", "(II)Z"⟩
def dkwX8_isOpen_1 : List UInt8 := [4, 167, 0, 4, 3, 172]
abbrev dktX8_isOpen_1 : List UInt8 := dkwX8_isOpen_1 ++ []
def dkwX8_isOpen_0 : List UInt8 := [27, 17, 5, 160, 112, 62, 29, 42, 180, 0, 15, 161, 0, 17, 29, 28, 96, 42, 180, 0, 18, 163, 0, 7]
abbrev dktX8_isOpen_0 : List UInt8 := dkwX8_isOpen_0 ++ dktX8_isOpen_1
theorem dksX8_isOpen_0 : cX8_isOpen.data.toList.drop 0 = dktX8_isOpen_0 := by decide +kernel
theorem dksX8_isOpen_1 : cX8_isOpen.data.toList.drop 24 = dktX8_isOpen_1 := dk_seg dksX8_isOpen_0 24 rfl rfl
theorem dX8_isOpen_0 : decode cX8_isOpen 0 = .ok (.iload_n 1, 1) := dk_27 (dk_at dksX8_isOpen_0 0 rfl rfl)
theorem dX8_isOpen_1 : decode cX8_isOpen 1 = .ok (.sipush 1440, 3) := dk_17 5 160 (dk_at dksX8_isOpen_0 1 rfl rfl)
theorem dX8_isOpen_4 : decode cX8_isOpen 4 = .ok (.irem, 1) := dk_112 (dk_at dksX8_isOpen_0 4 rfl rfl)
theorem dX8_isOpen_5 : decode cX8_isOpen 5 = .ok (.istore_n 3, 1) := dk_62 (dk_at dksX8_isOpen_0 5 rfl rfl)
theorem dX8_isOpen_6 : decode cX8_isOpen 6 = .ok (.iload_n 3, 1) := dk_29 (dk_at dksX8_isOpen_0 6 rfl rfl)
theorem dX8_isOpen_7 : decode cX8_isOpen 7 = .ok (.aload_n 0, 1) := dk_42 (dk_at dksX8_isOpen_0 7 rfl rfl)
theorem dX8_isOpen_8 : decode cX8_isOpen 8 = .ok (.getfield 15, 3) := dk_180 0 15 (dk_at dksX8_isOpen_0 8 rfl rfl)
theorem dX8_isOpen_11 : decode cX8_isOpen 11 = .ok (.if_icmp .lt 17, 3) := dk_161 0 17 (dk_at dksX8_isOpen_0 11 rfl rfl)
theorem dX8_isOpen_14 : decode cX8_isOpen 14 = .ok (.iload_n 3, 1) := dk_29 (dk_at dksX8_isOpen_0 14 rfl rfl)
theorem dX8_isOpen_15 : decode cX8_isOpen 15 = .ok (.iload_n 2, 1) := dk_28 (dk_at dksX8_isOpen_0 15 rfl rfl)
theorem dX8_isOpen_16 : decode cX8_isOpen 16 = .ok (.iadd, 1) := dk_96 (dk_at dksX8_isOpen_0 16 rfl rfl)
theorem dX8_isOpen_17 : decode cX8_isOpen 17 = .ok (.aload_n 0, 1) := dk_42 (dk_at dksX8_isOpen_0 17 rfl rfl)
theorem dX8_isOpen_18 : decode cX8_isOpen 18 = .ok (.getfield 18, 3) := dk_180 0 18 (dk_at dksX8_isOpen_0 18 rfl rfl)
theorem dX8_isOpen_21 : decode cX8_isOpen 21 = .ok (.if_icmp .gt 7, 3) := dk_163 0 7 (dk_at dksX8_isOpen_0 21 rfl rfl)
theorem dX8_isOpen_24 : decode cX8_isOpen 24 = .ok (.iconst 1, 1) := dk_4 (dk_at dksX8_isOpen_1 0 rfl rfl)
theorem dX8_isOpen_25 : decode cX8_isOpen 25 = .ok (.goto 4, 3) := dk_167 0 4 (dk_at dksX8_isOpen_1 1 rfl rfl)
theorem dX8_isOpen_28 : decode cX8_isOpen 28 = .ok (.iconst 0, 1) := dk_3 (dk_at dksX8_isOpen_1 4 rfl rfl)
theorem dX8_isOpen_29 : decode cX8_isOpen 29 = .ok (.ireturn, 1) := dk_172 (dk_at dksX8_isOpen_1 5 rfl rfl)
abbrev cX8_init : ByteArray := prog_7_method_1_code
def yX8_init : MethodName := ⟨RX8, "<init>", "(IIII)V"⟩
def dkwX8_init_1 : List UInt8 := [181, 0, 21, 177]
abbrev dktX8_init_1 : List UInt8 := dkwX8_init_1 ++ []
def dkwX8_init_0 : List UInt8 := [42, 183, 0, 3, 42, 27, 181, 0, 9, 42, 28, 181, 0, 15, 42, 29, 181, 0, 18, 42, 21, 4]
abbrev dktX8_init_0 : List UInt8 := dkwX8_init_0 ++ dktX8_init_1
theorem dksX8_init_0 : cX8_init.data.toList.drop 0 = dktX8_init_0 := by decide +kernel
theorem dksX8_init_1 : cX8_init.data.toList.drop 22 = dktX8_init_1 := dk_seg dksX8_init_0 22 rfl rfl
theorem dX8_init_0 : decode cX8_init 0 = .ok (.aload_n 0, 1) := dk_42 (dk_at dksX8_init_0 0 rfl rfl)
theorem dX8_init_1 : decode cX8_init 1 = .ok (.invokespecial 3, 3) := dk_183 0 3 (dk_at dksX8_init_0 1 rfl rfl)
theorem dX8_init_4 : decode cX8_init 4 = .ok (.aload_n 0, 1) := dk_42 (dk_at dksX8_init_0 4 rfl rfl)
theorem dX8_init_5 : decode cX8_init 5 = .ok (.iload_n 1, 1) := dk_27 (dk_at dksX8_init_0 5 rfl rfl)
theorem dX8_init_6 : decode cX8_init 6 = .ok (.putfield 9, 3) := dk_181 0 9 (dk_at dksX8_init_0 6 rfl rfl)
theorem dX8_init_9 : decode cX8_init 9 = .ok (.aload_n 0, 1) := dk_42 (dk_at dksX8_init_0 9 rfl rfl)
theorem dX8_init_10 : decode cX8_init 10 = .ok (.iload_n 2, 1) := dk_28 (dk_at dksX8_init_0 10 rfl rfl)
theorem dX8_init_11 : decode cX8_init 11 = .ok (.putfield 15, 3) := dk_181 0 15 (dk_at dksX8_init_0 11 rfl rfl)
theorem dX8_init_14 : decode cX8_init 14 = .ok (.aload_n 0, 1) := dk_42 (dk_at dksX8_init_0 14 rfl rfl)
theorem dX8_init_15 : decode cX8_init 15 = .ok (.iload_n 3, 1) := dk_29 (dk_at dksX8_init_0 15 rfl rfl)
theorem dX8_init_16 : decode cX8_init 16 = .ok (.putfield 18, 3) := dk_181 0 18 (dk_at dksX8_init_0 16 rfl rfl)
theorem dX8_init_19 : decode cX8_init 19 = .ok (.aload_n 0, 1) := dk_42 (dk_at dksX8_init_0 19 rfl rfl)
theorem dX8_init_20 : decode cX8_init 20 = .ok (.iload 4, 2) := dk_21 4 (dk_at dksX8_init_0 20 rfl rfl)
theorem dX8_init_22 : decode cX8_init 22 = .ok (.putfield 21, 3) := dk_181 0 21 (dk_at dksX8_init_1 0 rfl rfl)
theorem dX8_init_25 : decode cX8_init 25 = .ok (.return_, 1) := dk_177 (dk_at dksX8_init_1 3 rfl rfl)
theorem q171 : (Jvm.Cond.initialized "HallPlan$Hall") ∈ lw_all := lw_g (lw_at lw_m1 30 rfl) rfl
theorem q400 : (Jvm.Cond.instanceMethod ({ cls := "HallPlan$Hall", name := "isOpen", desc := "(II)Z" } : Jvm.MethodName)) ∈ lw_all := lw_g (lw_at lw_m2 19 rfl) rfl
theorem q401 : (Jvm.Cond.selects "HallPlan$Hall" ({ cls := "HallPlan$Hall", name := "isOpen", desc := "(II)Z" } : Jvm.MethodName) ({ cls := "HallPlan$Hall", name := "isOpen", desc := "(II)Z" } : Jvm.MethodName)) ∈ lw_all := lw_g (lw_at lw_m2 20 rfl) rfl
theorem q402 : (Jvm.Cond.code ({ cls := "HallPlan$Hall", name := "isOpen", desc := "(II)Z" } : Jvm.MethodName) prog_7_method_2_code (4 : Nat) (Option.some Jvm.ClassFile.FieldType.boolean)) ∈ lw_all := lw_g (lw_at lw_m2 21 rfl) rfl
theorem q1056 : (Jvm.Cond.selects "HallPlan$Hall" ({ cls := "java/lang/Object", name := "equals", desc := "(Ljava/lang/Object;)Z" } : Jvm.MethodName) ({ cls := "java/lang/Object", name := "equals", desc := "(Ljava/lang/Object;)Z" } : Jvm.MethodName)) ∈ lw_all := lw_g (lw_at lw_m4 195 rfl) rfl
theorem q1105 : (Jvm.Cond.selects "HallPlan$Hall" ({ cls := "java/lang/Object", name := "getClass", desc := "()Ljava/lang/Class;" } : Jvm.MethodName) ({ cls := "java/lang/Object", name := "getClass", desc := "()Ljava/lang/Class;" } : Jvm.MethodName)) ∈ lw_all := lw_g (lw_at lw_m5 4 rfl) rfl
theorem q1144 : (Jvm.Cond.instantiable "HallPlan$Hall" (4 : Nat)) ∈ lw_all := lw_g (lw_at lw_m5 43 rfl) rfl
theorem q1146 : (Jvm.Cond.instanceMethod ({ cls := "HallPlan$Hall", name := "<init>", desc := "(IIII)V" } : Jvm.MethodName)) ∈ lw_all := lw_g (lw_at lw_m5 45 rfl) rfl
theorem q1147 : (Jvm.Cond.code ({ cls := "HallPlan$Hall", name := "<init>", desc := "(IIII)V" } : Jvm.MethodName) prog_7_method_1_code (5 : Nat) (Option.none : Option Jvm.ClassFile.FieldType)) ∈ lw_all := lw_g (lw_at lw_m5 46 rfl) rfl
theorem q1148 : (Jvm.Cond.methodLink "HallPlan$Hall" (3 : Nat) ({ cls := "java/lang/Object", name := "<init>", desc := "()V" } : Jvm.MethodName)) ∈ lw_all := lw_g (lw_at lw_m5 47 rfl) rfl
theorem q1149 : (Jvm.Cond.fieldLink "HallPlan$Hall" (9 : Nat) "HallPlan$Hall" "capacity" "I") ∈ lw_all := lw_g (lw_at lw_m5 48 rfl) rfl
theorem q1151 : (Jvm.Cond.fieldLink "HallPlan$Hall" (15 : Nat) "HallPlan$Hall" "open" "I") ∈ lw_all := lw_g (lw_at lw_m5 50 rfl) rfl
theorem q1153 : (Jvm.Cond.fieldLink "HallPlan$Hall" (18 : Nat) "HallPlan$Hall" "close" "I") ∈ lw_all := lw_g (lw_at lw_m5 52 rfl) rfl
theorem q1155 : (Jvm.Cond.fieldLink "HallPlan$Hall" (21 : Nat) "HallPlan$Hall" "rate" "I") ∈ lw_all := lw_g (lw_at lw_m5 54 rfl) rfl
theorem q1157 : (Jvm.Cond.laysFinal "HallPlan$Hall" "HallPlan$Hall" "capacity" "I") ∈ lw_all := lw_g (lw_at lw_m5 56 rfl) rfl
theorem q1158 : (Jvm.Cond.soleField "HallPlan$Hall" "capacity") ∈ lw_all := lw_g (lw_at lw_m5 57 rfl) rfl
theorem q1159 : (Jvm.Cond.laysFinal "HallPlan$Hall" "HallPlan$Hall" "open" "I") ∈ lw_all := lw_g (lw_at lw_m5 58 rfl) rfl
theorem q1160 : (Jvm.Cond.soleField "HallPlan$Hall" "open") ∈ lw_all := lw_g (lw_at lw_m5 59 rfl) rfl
theorem q1161 : (Jvm.Cond.laysFinal "HallPlan$Hall" "HallPlan$Hall" "close" "I") ∈ lw_all := lw_g (lw_at lw_m5 60 rfl) rfl
theorem q1162 : (Jvm.Cond.soleField "HallPlan$Hall" "close") ∈ lw_all := lw_g (lw_at lw_m5 61 rfl) rfl
theorem q1163 : (Jvm.Cond.laysFinal "HallPlan$Hall" "HallPlan$Hall" "rate" "I") ∈ lw_all := lw_g (lw_at lw_m5 62 rfl) rfl
theorem q1164 : (Jvm.Cond.soleField "HallPlan$Hall" "rate") ∈ lw_all := lw_g (lw_at lw_m5 63 rfl) rfl
theorem q1165 : (Jvm.Cond.superclass "HallPlan$Hall" "java/lang/Object") ∈ lw_all := lw_g (lw_at lw_m5 64 rfl) rfl
theorem q2776 : (Jvm.Cond.castable "HallPlan$Hall" "java/lang/Object") ∈ lw_tbl := lw_at lw_m11 235 rfl
theorem in_X8 : ∀ w ∈ wsX80, w ∈ lw_all := lw_in wsX80 [1157, 1159, 1161, 1163] (by decide +kernel) (by decide +kernel)
/-! HallPlan$Kind -/
set_option maxRecDepth 100000
def RX9 : String := "HallPlan$Kind"
def TX9 : u_T := fun k => match k with
  | 0 => ("HallPlan$Kind", "count", "I", true)
  | 1 => ("HallPlan$Kind", "price", "I", true)
  | _ => ("HallPlan$Kind", "lead", "I", true)
def tyX9 : Nat → FieldType := fun k => match k with
  | 0 => .int
  | 1 => .int
  | _ => .int
abbrev wsX90 : List Cond := u_ws RX9 TX9 3
theorem nmX9 : ∀ a, a < 3 → ∀ b, b < 3 → a ≠ b → (TX9 a).2.1 ≠ (TX9 b).2.1 := by decide +kernel
theorem tyX9_ok : ∀ k, k < 3 → parseFieldDescriptor (TX9 k).2.2.1 = some (tyX9 k) := by decide +kernel
abbrev cX9_init : ByteArray := prog_8_method_1_code
def yX9_init : MethodName := ⟨RX9, "<init>", "(III)V"⟩
def dkwX9_init_0 : List UInt8 := [42, 183, 0, 1, 42, 27, 181, 0, 7, 42, 28, 181, 0, 13, 42, 29, 181, 0, 16, 177]
abbrev dktX9_init_0 : List UInt8 := dkwX9_init_0 ++ []
theorem dksX9_init_0 : cX9_init.data.toList.drop 0 = dktX9_init_0 := by decide +kernel
theorem dX9_init_0 : decode cX9_init 0 = .ok (.aload_n 0, 1) := dk_42 (dk_at dksX9_init_0 0 rfl rfl)
theorem dX9_init_1 : decode cX9_init 1 = .ok (.invokespecial 1, 3) := dk_183 0 1 (dk_at dksX9_init_0 1 rfl rfl)
theorem dX9_init_4 : decode cX9_init 4 = .ok (.aload_n 0, 1) := dk_42 (dk_at dksX9_init_0 4 rfl rfl)
theorem dX9_init_5 : decode cX9_init 5 = .ok (.iload_n 1, 1) := dk_27 (dk_at dksX9_init_0 5 rfl rfl)
theorem dX9_init_6 : decode cX9_init 6 = .ok (.putfield 7, 3) := dk_181 0 7 (dk_at dksX9_init_0 6 rfl rfl)
theorem dX9_init_9 : decode cX9_init 9 = .ok (.aload_n 0, 1) := dk_42 (dk_at dksX9_init_0 9 rfl rfl)
theorem dX9_init_10 : decode cX9_init 10 = .ok (.iload_n 2, 1) := dk_28 (dk_at dksX9_init_0 10 rfl rfl)
theorem dX9_init_11 : decode cX9_init 11 = .ok (.putfield 13, 3) := dk_181 0 13 (dk_at dksX9_init_0 11 rfl rfl)
theorem dX9_init_14 : decode cX9_init 14 = .ok (.aload_n 0, 1) := dk_42 (dk_at dksX9_init_0 14 rfl rfl)
theorem dX9_init_15 : decode cX9_init 15 = .ok (.iload_n 3, 1) := dk_29 (dk_at dksX9_init_0 15 rfl rfl)
theorem dX9_init_16 : decode cX9_init 16 = .ok (.putfield 16, 3) := dk_181 0 16 (dk_at dksX9_init_0 16 rfl rfl)
theorem dX9_init_19 : decode cX9_init 19 = .ok (.return_, 1) := dk_177 (dk_at dksX9_init_0 19 rfl rfl)
theorem q172 : (Jvm.Cond.initialized "HallPlan$Kind") ∈ lw_all := lw_g (lw_at lw_m1 31 rfl) rfl
theorem q1057 : (Jvm.Cond.selects "HallPlan$Kind" ({ cls := "java/lang/Object", name := "equals", desc := "(Ljava/lang/Object;)Z" } : Jvm.MethodName) ({ cls := "java/lang/Object", name := "equals", desc := "(Ljava/lang/Object;)Z" } : Jvm.MethodName)) ∈ lw_all := lw_g (lw_at lw_m4 196 rfl) rfl
theorem q1106 : (Jvm.Cond.selects "HallPlan$Kind" ({ cls := "java/lang/Object", name := "getClass", desc := "()Ljava/lang/Class;" } : Jvm.MethodName) ({ cls := "java/lang/Object", name := "getClass", desc := "()Ljava/lang/Class;" } : Jvm.MethodName)) ∈ lw_all := lw_g (lw_at lw_m5 5 rfl) rfl
theorem q1175 : (Jvm.Cond.instantiable "HallPlan$Kind" (3 : Nat)) ∈ lw_all := lw_g (lw_at lw_m5 74 rfl) rfl
theorem q1177 : (Jvm.Cond.instanceMethod ({ cls := "HallPlan$Kind", name := "<init>", desc := "(III)V" } : Jvm.MethodName)) ∈ lw_all := lw_g (lw_at lw_m5 76 rfl) rfl
theorem q1178 : (Jvm.Cond.code ({ cls := "HallPlan$Kind", name := "<init>", desc := "(III)V" } : Jvm.MethodName) prog_8_method_1_code (4 : Nat) (Option.none : Option Jvm.ClassFile.FieldType)) ∈ lw_all := lw_g (lw_at lw_m5 77 rfl) rfl
theorem q1179 : (Jvm.Cond.methodLink "HallPlan$Kind" (1 : Nat) ({ cls := "java/lang/Object", name := "<init>", desc := "()V" } : Jvm.MethodName)) ∈ lw_all := lw_g (lw_at lw_m5 78 rfl) rfl
theorem q1180 : (Jvm.Cond.fieldLink "HallPlan$Kind" (7 : Nat) "HallPlan$Kind" "count" "I") ∈ lw_all := lw_g (lw_at lw_m5 79 rfl) rfl
theorem q1182 : (Jvm.Cond.fieldLink "HallPlan$Kind" (13 : Nat) "HallPlan$Kind" "price" "I") ∈ lw_all := lw_g (lw_at lw_m5 81 rfl) rfl
theorem q1184 : (Jvm.Cond.fieldLink "HallPlan$Kind" (16 : Nat) "HallPlan$Kind" "lead" "I") ∈ lw_all := lw_g (lw_at lw_m5 83 rfl) rfl
theorem q1186 : (Jvm.Cond.laysFinal "HallPlan$Kind" "HallPlan$Kind" "count" "I") ∈ lw_all := lw_g (lw_at lw_m5 85 rfl) rfl
theorem q1187 : (Jvm.Cond.soleField "HallPlan$Kind" "count") ∈ lw_all := lw_g (lw_at lw_m5 86 rfl) rfl
theorem q1188 : (Jvm.Cond.laysFinal "HallPlan$Kind" "HallPlan$Kind" "price" "I") ∈ lw_all := lw_g (lw_at lw_m5 87 rfl) rfl
theorem q1189 : (Jvm.Cond.soleField "HallPlan$Kind" "price") ∈ lw_all := lw_g (lw_at lw_m5 88 rfl) rfl
theorem q1190 : (Jvm.Cond.laysFinal "HallPlan$Kind" "HallPlan$Kind" "lead" "I") ∈ lw_all := lw_g (lw_at lw_m5 89 rfl) rfl
theorem q1191 : (Jvm.Cond.soleField "HallPlan$Kind" "lead") ∈ lw_all := lw_g (lw_at lw_m5 90 rfl) rfl
theorem q1192 : (Jvm.Cond.superclass "HallPlan$Kind" "java/lang/Object") ∈ lw_all := lw_g (lw_at lw_m5 91 rfl) rfl
theorem q2777 : (Jvm.Cond.castable "HallPlan$Kind" "java/lang/Object") ∈ lw_tbl := lw_at lw_m11 236 rfl
theorem in_X9 : ∀ w ∈ wsX90, w ∈ lw_all := lw_in wsX90 [1186, 1188, 1190] (by decide +kernel) (by decide +kernel)
/-! HallPlan$Booking -/
set_option maxRecDepth 100000
def RX10 : String := "HallPlan$Booking"
def TX10 : u_T := fun k => match k with
  | 0 => ("HallPlan$Booking", "event", "LHallPlan$Event;", true)
  | 1 => ("HallPlan$Booking", "hall", "I", false)
  | 2 => ("HallPlan$Booking", "start", "I", false)
  | 3 => ("HallPlan$Booking", "price", "I", false)
  | 4 => ("HallPlan$Booking", "fee", "I", false)
  | 5 => ("HallPlan$Booking", "isActive", "Z", false)
  | _ => ("HallPlan$Booking", "isOut", "Z", false)
def tyX10 : Nat → FieldType := fun k => match k with
  | 0 => .object "HallPlan$Event"
  | 1 => .int
  | 2 => .int
  | 3 => .int
  | 4 => .int
  | 5 => .boolean
  | _ => .boolean
abbrev wsX100 : List Cond := u_ws RX10 TX10 7
theorem nmX10 : ∀ a, a < 7 → ∀ b, b < 7 → a ≠ b → (TX10 a).2.1 ≠ (TX10 b).2.1 := by decide +kernel
theorem tyX10_ok : ∀ k, k < 7 → parseFieldDescriptor (TX10 k).2.2.1 = some (tyX10 k) := by decide +kernel
abbrev cX10_counts : ByteArray := prog_2_method_4_code
def yX10_counts : MethodName := ⟨RX10, "counts", "()Z"⟩
def dkwX10_counts_0 : List UInt8 := [42, 180, 0, 7, 153, 0, 14, 42, 180, 0, 38, 154, 0, 7, 4, 167, 0, 4, 3, 172]
abbrev dktX10_counts_0 : List UInt8 := dkwX10_counts_0 ++ []
theorem dksX10_counts_0 : cX10_counts.data.toList.drop 0 = dktX10_counts_0 := by decide +kernel
theorem dX10_counts_0 : decode cX10_counts 0 = .ok (.aload_n 0, 1) := dk_42 (dk_at dksX10_counts_0 0 rfl rfl)
theorem dX10_counts_1 : decode cX10_counts 1 = .ok (.getfield 7, 3) := dk_180 0 7 (dk_at dksX10_counts_0 1 rfl rfl)
theorem dX10_counts_4 : decode cX10_counts 4 = .ok (.ifCond .eq 14, 3) := dk_153 0 14 (dk_at dksX10_counts_0 4 rfl rfl)
theorem dX10_counts_7 : decode cX10_counts 7 = .ok (.aload_n 0, 1) := dk_42 (dk_at dksX10_counts_0 7 rfl rfl)
theorem dX10_counts_8 : decode cX10_counts 8 = .ok (.getfield 38, 3) := dk_180 0 38 (dk_at dksX10_counts_0 8 rfl rfl)
theorem dX10_counts_11 : decode cX10_counts 11 = .ok (.ifCond .ne 7, 3) := dk_154 0 7 (dk_at dksX10_counts_0 11 rfl rfl)
theorem dX10_counts_14 : decode cX10_counts 14 = .ok (.iconst 1, 1) := dk_4 (dk_at dksX10_counts_0 14 rfl rfl)
theorem dX10_counts_15 : decode cX10_counts 15 = .ok (.goto 4, 3) := dk_167 0 4 (dk_at dksX10_counts_0 15 rfl rfl)
theorem dX10_counts_18 : decode cX10_counts 18 = .ok (.iconst 0, 1) := dk_3 (dk_at dksX10_counts_0 18 rfl rfl)
theorem dX10_counts_19 : decode cX10_counts 19 = .ok (.ireturn, 1) := dk_172 (dk_at dksX10_counts_0 19 rfl rfl)
abbrev cX10_end : ByteArray := prog_2_method_3_code
def yX10_end : MethodName := ⟨RX10, "end", "()I"⟩
def dkwX10_end_0 : List UInt8 := [42, 180, 0, 21, 42, 180, 0, 13, 180, 0, 33, 96, 172]
abbrev dktX10_end_0 : List UInt8 := dkwX10_end_0 ++ []
theorem dksX10_end_0 : cX10_end.data.toList.drop 0 = dktX10_end_0 := by decide +kernel
theorem dX10_end_0 : decode cX10_end 0 = .ok (.aload_n 0, 1) := dk_42 (dk_at dksX10_end_0 0 rfl rfl)
theorem dX10_end_1 : decode cX10_end 1 = .ok (.getfield 21, 3) := dk_180 0 21 (dk_at dksX10_end_0 1 rfl rfl)
theorem dX10_end_4 : decode cX10_end 4 = .ok (.aload_n 0, 1) := dk_42 (dk_at dksX10_end_0 4 rfl rfl)
theorem dX10_end_5 : decode cX10_end 5 = .ok (.getfield 13, 3) := dk_180 0 13 (dk_at dksX10_end_0 5 rfl rfl)
theorem dX10_end_8 : decode cX10_end 8 = .ok (.getfield 33, 3) := dk_180 0 33 (dk_at dksX10_end_0 8 rfl rfl)
theorem dX10_end_11 : decode cX10_end 11 = .ok (.iadd, 1) := dk_96 (dk_at dksX10_end_0 11 rfl rfl)
theorem dX10_end_12 : decode cX10_end 12 = .ok (.ireturn, 1) := dk_172 (dk_at dksX10_end_0 12 rfl rfl)
abbrev cX10_copy : ByteArray := prog_2_method_2_code
def yX10_copy : MethodName := ⟨RX10, "copy", "()LHallPlan$Booking;"⟩
def dkwX10_copy_1 : List UInt8 := [43, 42, 180, 0, 30, 181, 0, 30, 43, 42, 180, 0, 7, 181, 0, 7, 43, 176]
abbrev dktX10_copy_1 : List UInt8 := dkwX10_copy_1 ++ []
def dkwX10_copy_0 : List UInt8 := [187, 0, 8, 89, 42, 180, 0, 13, 42, 180, 0, 17, 42, 180, 0, 21, 42, 180, 0, 24, 183, 0, 27, 76]
abbrev dktX10_copy_0 : List UInt8 := dkwX10_copy_0 ++ dktX10_copy_1
theorem dksX10_copy_0 : cX10_copy.data.toList.drop 0 = dktX10_copy_0 := by decide +kernel
theorem dksX10_copy_1 : cX10_copy.data.toList.drop 24 = dktX10_copy_1 := dk_seg dksX10_copy_0 24 rfl rfl
theorem dX10_copy_0 : decode cX10_copy 0 = .ok (.new 8, 3) := dk_187 0 8 (dk_at dksX10_copy_0 0 rfl rfl)
theorem dX10_copy_3 : decode cX10_copy 3 = .ok (.dup, 1) := dk_89 (dk_at dksX10_copy_0 3 rfl rfl)
theorem dX10_copy_4 : decode cX10_copy 4 = .ok (.aload_n 0, 1) := dk_42 (dk_at dksX10_copy_0 4 rfl rfl)
theorem dX10_copy_5 : decode cX10_copy 5 = .ok (.getfield 13, 3) := dk_180 0 13 (dk_at dksX10_copy_0 5 rfl rfl)
theorem dX10_copy_8 : decode cX10_copy 8 = .ok (.aload_n 0, 1) := dk_42 (dk_at dksX10_copy_0 8 rfl rfl)
theorem dX10_copy_9 : decode cX10_copy 9 = .ok (.getfield 17, 3) := dk_180 0 17 (dk_at dksX10_copy_0 9 rfl rfl)
theorem dX10_copy_12 : decode cX10_copy 12 = .ok (.aload_n 0, 1) := dk_42 (dk_at dksX10_copy_0 12 rfl rfl)
theorem dX10_copy_13 : decode cX10_copy 13 = .ok (.getfield 21, 3) := dk_180 0 21 (dk_at dksX10_copy_0 13 rfl rfl)
theorem dX10_copy_16 : decode cX10_copy 16 = .ok (.aload_n 0, 1) := dk_42 (dk_at dksX10_copy_0 16 rfl rfl)
theorem dX10_copy_17 : decode cX10_copy 17 = .ok (.getfield 24, 3) := dk_180 0 24 (dk_at dksX10_copy_0 17 rfl rfl)
theorem dX10_copy_20 : decode cX10_copy 20 = .ok (.invokespecial 27, 3) := dk_183 0 27 (dk_at dksX10_copy_0 20 rfl rfl)
theorem dX10_copy_23 : decode cX10_copy 23 = .ok (.astore_n 1, 1) := dk_76 (dk_at dksX10_copy_0 23 rfl rfl)
theorem dX10_copy_24 : decode cX10_copy 24 = .ok (.aload_n 1, 1) := dk_43 (dk_at dksX10_copy_1 0 rfl rfl)
theorem dX10_copy_25 : decode cX10_copy 25 = .ok (.aload_n 0, 1) := dk_42 (dk_at dksX10_copy_1 1 rfl rfl)
theorem dX10_copy_26 : decode cX10_copy 26 = .ok (.getfield 30, 3) := dk_180 0 30 (dk_at dksX10_copy_1 2 rfl rfl)
theorem dX10_copy_29 : decode cX10_copy 29 = .ok (.putfield 30, 3) := dk_181 0 30 (dk_at dksX10_copy_1 5 rfl rfl)
theorem dX10_copy_32 : decode cX10_copy 32 = .ok (.aload_n 1, 1) := dk_43 (dk_at dksX10_copy_1 8 rfl rfl)
theorem dX10_copy_33 : decode cX10_copy 33 = .ok (.aload_n 0, 1) := dk_42 (dk_at dksX10_copy_1 9 rfl rfl)
theorem dX10_copy_34 : decode cX10_copy 34 = .ok (.getfield 7, 3) := dk_180 0 7 (dk_at dksX10_copy_1 10 rfl rfl)
theorem dX10_copy_37 : decode cX10_copy 37 = .ok (.putfield 7, 3) := dk_181 0 7 (dk_at dksX10_copy_1 13 rfl rfl)
theorem dX10_copy_40 : decode cX10_copy 40 = .ok (.aload_n 1, 1) := dk_43 (dk_at dksX10_copy_1 16 rfl rfl)
theorem dX10_copy_41 : decode cX10_copy 41 = .ok (.areturn, 1) := dk_176 (dk_at dksX10_copy_1 17 rfl rfl)
abbrev cX10_init : ByteArray := prog_2_method_1_code
def yX10_init : MethodName := ⟨RX10, "<init>", "(LHallPlan$Event;III)V"⟩
def dkwX10_init_1 : List UInt8 := [42, 21, 4, 181, 0, 24, 177]
abbrev dktX10_init_1 : List UInt8 := dkwX10_init_1 ++ []
def dkwX10_init_0 : List UInt8 := [42, 183, 0, 1, 42, 4, 181, 0, 7, 42, 43, 181, 0, 13, 42, 28, 181, 0, 17, 42, 29, 181, 0, 21]
abbrev dktX10_init_0 : List UInt8 := dkwX10_init_0 ++ dktX10_init_1
theorem dksX10_init_0 : cX10_init.data.toList.drop 0 = dktX10_init_0 := by decide +kernel
theorem dksX10_init_1 : cX10_init.data.toList.drop 24 = dktX10_init_1 := dk_seg dksX10_init_0 24 rfl rfl
theorem dX10_init_0 : decode cX10_init 0 = .ok (.aload_n 0, 1) := dk_42 (dk_at dksX10_init_0 0 rfl rfl)
theorem dX10_init_1 : decode cX10_init 1 = .ok (.invokespecial 1, 3) := dk_183 0 1 (dk_at dksX10_init_0 1 rfl rfl)
theorem dX10_init_4 : decode cX10_init 4 = .ok (.aload_n 0, 1) := dk_42 (dk_at dksX10_init_0 4 rfl rfl)
theorem dX10_init_5 : decode cX10_init 5 = .ok (.iconst 1, 1) := dk_4 (dk_at dksX10_init_0 5 rfl rfl)
theorem dX10_init_6 : decode cX10_init 6 = .ok (.putfield 7, 3) := dk_181 0 7 (dk_at dksX10_init_0 6 rfl rfl)
theorem dX10_init_9 : decode cX10_init 9 = .ok (.aload_n 0, 1) := dk_42 (dk_at dksX10_init_0 9 rfl rfl)
theorem dX10_init_10 : decode cX10_init 10 = .ok (.aload_n 1, 1) := dk_43 (dk_at dksX10_init_0 10 rfl rfl)
theorem dX10_init_11 : decode cX10_init 11 = .ok (.putfield 13, 3) := dk_181 0 13 (dk_at dksX10_init_0 11 rfl rfl)
theorem dX10_init_14 : decode cX10_init 14 = .ok (.aload_n 0, 1) := dk_42 (dk_at dksX10_init_0 14 rfl rfl)
theorem dX10_init_15 : decode cX10_init 15 = .ok (.iload_n 2, 1) := dk_28 (dk_at dksX10_init_0 15 rfl rfl)
theorem dX10_init_16 : decode cX10_init 16 = .ok (.putfield 17, 3) := dk_181 0 17 (dk_at dksX10_init_0 16 rfl rfl)
theorem dX10_init_19 : decode cX10_init 19 = .ok (.aload_n 0, 1) := dk_42 (dk_at dksX10_init_0 19 rfl rfl)
theorem dX10_init_20 : decode cX10_init 20 = .ok (.iload_n 3, 1) := dk_29 (dk_at dksX10_init_0 20 rfl rfl)
theorem dX10_init_21 : decode cX10_init 21 = .ok (.putfield 21, 3) := dk_181 0 21 (dk_at dksX10_init_0 21 rfl rfl)
theorem dX10_init_24 : decode cX10_init 24 = .ok (.aload_n 0, 1) := dk_42 (dk_at dksX10_init_1 0 rfl rfl)
theorem dX10_init_25 : decode cX10_init 25 = .ok (.iload 4, 2) := dk_21 4 (dk_at dksX10_init_1 1 rfl rfl)
theorem dX10_init_27 : decode cX10_init 27 = .ok (.putfield 24, 3) := dk_181 0 24 (dk_at dksX10_init_1 3 rfl rfl)
theorem dX10_init_30 : decode cX10_init 30 = .ok (.return_, 1) := dk_177 (dk_at dksX10_init_1 6 rfl rfl)
abbrev cX10_part : ByteArray := prog_2_method_6_code
def yX10_part : MethodName := ⟨RX10, "part", "(I)I"⟩
def dkwX10_part_4 : List UInt8 := [172, 42, 180, 0, 30, 172]
abbrev dktX10_part_4 : List UInt8 := dkwX10_part_4 ++ []
def dkwX10_part_3 : List UInt8 := [180, 0, 13, 180, 0, 54, 172, 42, 180, 0, 24, 172, 42, 180, 0, 7, 153, 0, 7, 4, 167, 0, 4, 3]
abbrev dktX10_part_3 : List UInt8 := dkwX10_part_3 ++ dktX10_part_4
def dkwX10_part_2 : List UInt8 := [42, 180, 0, 17, 172, 42, 180, 0, 21, 172, 42, 182, 0, 41, 172, 42, 180, 0, 13, 180, 0, 51, 172, 42]
abbrev dktX10_part_2 : List UInt8 := dkwX10_part_2 ++ dktX10_part_3
def dkwX10_part_1 : List UInt8 := [170, 0, 0, 0, 0, 0, 92, 0, 0, 0, 0, 0, 0, 0, 6, 0, 0, 0, 43, 0, 0, 0, 48, 0, 0, 0, 53, 0, 0, 0, 58, 0, 0, 0, 66, 0, 0, 0, 74, 0, 0, 0, 79]
abbrev dktX10_part_1 : List UInt8 := dkwX10_part_1 ++ dktX10_part_2
def dkwX10_part_0 : List UInt8 := [27]
abbrev dktX10_part_0 : List UInt8 := dkwX10_part_0 ++ dktX10_part_1
theorem dksX10_part_0 : cX10_part.data.toList.drop 0 = dktX10_part_0 := by decide +kernel
theorem dksX10_part_1 : cX10_part.data.toList.drop 1 = dktX10_part_1 := dk_seg dksX10_part_0 1 rfl rfl
theorem dksX10_part_2 : cX10_part.data.toList.drop 44 = dktX10_part_2 := dk_seg dksX10_part_1 43 rfl rfl
theorem dksX10_part_3 : cX10_part.data.toList.drop 68 = dktX10_part_3 := dk_seg dksX10_part_2 24 rfl rfl
theorem dksX10_part_4 : cX10_part.data.toList.drop 92 = dktX10_part_4 := dk_seg dksX10_part_3 24 rfl rfl
theorem dX10_part_0 : decode cX10_part 0 = .ok (.iload_n 1, 1) := dk_27 (dk_at dksX10_part_0 0 rfl rfl)
theorem dX10_part_1 : decode cX10_part 1 = .ok (.tableswitch 92 0 6 #[43, 48, 53, 58, 66, 74, 79], 43) := by decide +kernel
theorem dX10_part_44 : decode cX10_part 44 = .ok (.aload_n 0, 1) := dk_42 (dk_at dksX10_part_2 0 rfl rfl)
theorem dX10_part_45 : decode cX10_part 45 = .ok (.getfield 17, 3) := dk_180 0 17 (dk_at dksX10_part_2 1 rfl rfl)
theorem dX10_part_48 : decode cX10_part 48 = .ok (.ireturn, 1) := dk_172 (dk_at dksX10_part_2 4 rfl rfl)
theorem dX10_part_49 : decode cX10_part 49 = .ok (.aload_n 0, 1) := dk_42 (dk_at dksX10_part_2 5 rfl rfl)
theorem dX10_part_50 : decode cX10_part 50 = .ok (.getfield 21, 3) := dk_180 0 21 (dk_at dksX10_part_2 6 rfl rfl)
theorem dX10_part_53 : decode cX10_part 53 = .ok (.ireturn, 1) := dk_172 (dk_at dksX10_part_2 9 rfl rfl)
theorem dX10_part_54 : decode cX10_part 54 = .ok (.aload_n 0, 1) := dk_42 (dk_at dksX10_part_2 10 rfl rfl)
theorem dX10_part_55 : decode cX10_part 55 = .ok (.invokevirtual 41, 3) := dk_182 0 41 (dk_at dksX10_part_2 11 rfl rfl)
theorem dX10_part_58 : decode cX10_part 58 = .ok (.ireturn, 1) := dk_172 (dk_at dksX10_part_2 14 rfl rfl)
theorem dX10_part_59 : decode cX10_part 59 = .ok (.aload_n 0, 1) := dk_42 (dk_at dksX10_part_2 15 rfl rfl)
theorem dX10_part_60 : decode cX10_part 60 = .ok (.getfield 13, 3) := dk_180 0 13 (dk_at dksX10_part_2 16 rfl rfl)
theorem dX10_part_63 : decode cX10_part 63 = .ok (.getfield 51, 3) := dk_180 0 51 (dk_at dksX10_part_2 19 rfl rfl)
theorem dX10_part_66 : decode cX10_part 66 = .ok (.ireturn, 1) := dk_172 (dk_at dksX10_part_2 22 rfl rfl)
theorem dX10_part_67 : decode cX10_part 67 = .ok (.aload_n 0, 1) := dk_42 (dk_at dksX10_part_2 23 rfl rfl)
theorem dX10_part_68 : decode cX10_part 68 = .ok (.getfield 13, 3) := dk_180 0 13 (dk_at dksX10_part_3 0 rfl rfl)
theorem dX10_part_71 : decode cX10_part 71 = .ok (.getfield 54, 3) := dk_180 0 54 (dk_at dksX10_part_3 3 rfl rfl)
theorem dX10_part_74 : decode cX10_part 74 = .ok (.ireturn, 1) := dk_172 (dk_at dksX10_part_3 6 rfl rfl)
theorem dX10_part_75 : decode cX10_part 75 = .ok (.aload_n 0, 1) := dk_42 (dk_at dksX10_part_3 7 rfl rfl)
theorem dX10_part_76 : decode cX10_part 76 = .ok (.getfield 24, 3) := dk_180 0 24 (dk_at dksX10_part_3 8 rfl rfl)
theorem dX10_part_79 : decode cX10_part 79 = .ok (.ireturn, 1) := dk_172 (dk_at dksX10_part_3 11 rfl rfl)
theorem dX10_part_80 : decode cX10_part 80 = .ok (.aload_n 0, 1) := dk_42 (dk_at dksX10_part_3 12 rfl rfl)
theorem dX10_part_81 : decode cX10_part 81 = .ok (.getfield 7, 3) := dk_180 0 7 (dk_at dksX10_part_3 13 rfl rfl)
theorem dX10_part_84 : decode cX10_part 84 = .ok (.ifCond .eq 7, 3) := dk_153 0 7 (dk_at dksX10_part_3 16 rfl rfl)
theorem dX10_part_87 : decode cX10_part 87 = .ok (.iconst 1, 1) := dk_4 (dk_at dksX10_part_3 19 rfl rfl)
theorem dX10_part_88 : decode cX10_part 88 = .ok (.goto 4, 3) := dk_167 0 4 (dk_at dksX10_part_3 20 rfl rfl)
theorem dX10_part_91 : decode cX10_part 91 = .ok (.iconst 0, 1) := dk_3 (dk_at dksX10_part_3 23 rfl rfl)
theorem dX10_part_92 : decode cX10_part 92 = .ok (.ireturn, 1) := dk_172 (dk_at dksX10_part_4 0 rfl rfl)
theorem dX10_part_93 : decode cX10_part 93 = .ok (.aload_n 0, 1) := dk_42 (dk_at dksX10_part_4 1 rfl rfl)
theorem dX10_part_94 : decode cX10_part 94 = .ok (.getfield 30, 3) := dk_180 0 30 (dk_at dksX10_part_4 2 rfl rfl)
theorem dX10_part_97 : decode cX10_part 97 = .ok (.ireturn, 1) := dk_172 (dk_at dksX10_part_4 5 rfl rfl)
abbrev cX10_holds : ByteArray := prog_2_method_5_code
def yX10_holds : MethodName := ⟨RX10, "holds", "(II)Z"⟩
def dkwX10_holds_0 : List UInt8 := [28, 42, 180, 0, 21, 27, 100, 42, 182, 0, 41, 27, 96, 4, 100, 184, 0, 45, 172]
abbrev dktX10_holds_0 : List UInt8 := dkwX10_holds_0 ++ []
theorem dksX10_holds_0 : cX10_holds.data.toList.drop 0 = dktX10_holds_0 := by decide +kernel
theorem dX10_holds_0 : decode cX10_holds 0 = .ok (.iload_n 2, 1) := dk_28 (dk_at dksX10_holds_0 0 rfl rfl)
theorem dX10_holds_1 : decode cX10_holds 1 = .ok (.aload_n 0, 1) := dk_42 (dk_at dksX10_holds_0 1 rfl rfl)
theorem dX10_holds_2 : decode cX10_holds 2 = .ok (.getfield 21, 3) := dk_180 0 21 (dk_at dksX10_holds_0 2 rfl rfl)
theorem dX10_holds_5 : decode cX10_holds 5 = .ok (.iload_n 1, 1) := dk_27 (dk_at dksX10_holds_0 5 rfl rfl)
theorem dX10_holds_6 : decode cX10_holds 6 = .ok (.isub, 1) := dk_100 (dk_at dksX10_holds_0 6 rfl rfl)
theorem dX10_holds_7 : decode cX10_holds 7 = .ok (.aload_n 0, 1) := dk_42 (dk_at dksX10_holds_0 7 rfl rfl)
theorem dX10_holds_8 : decode cX10_holds 8 = .ok (.invokevirtual 41, 3) := dk_182 0 41 (dk_at dksX10_holds_0 8 rfl rfl)
theorem dX10_holds_11 : decode cX10_holds 11 = .ok (.iload_n 1, 1) := dk_27 (dk_at dksX10_holds_0 11 rfl rfl)
theorem dX10_holds_12 : decode cX10_holds 12 = .ok (.iadd, 1) := dk_96 (dk_at dksX10_holds_0 12 rfl rfl)
theorem dX10_holds_13 : decode cX10_holds 13 = .ok (.iconst 1, 1) := dk_4 (dk_at dksX10_holds_0 13 rfl rfl)
theorem dX10_holds_14 : decode cX10_holds 14 = .ok (.isub, 1) := dk_100 (dk_at dksX10_holds_0 14 rfl rfl)
theorem dX10_holds_15 : decode cX10_holds 15 = .ok (.invokestatic 45, 3) := dk_184 0 45 (dk_at dksX10_holds_0 15 rfl rfl)
theorem dX10_holds_18 : decode cX10_holds 18 = .ok (.ireturn, 1) := dk_172 (dk_at dksX10_holds_0 18 rfl rfl)
theorem q176 : (Jvm.Cond.initialized "HallPlan$Booking") ∈ lw_all := lw_g (lw_at lw_m1 35 rfl) rfl
theorem q331 : (Jvm.Cond.fieldLinkNest "HallPlan$Booking" (51 : Nat) "HallPlan$Event" "type" "I" "HallPlan") ∈ lw_tbl := lw_at lw_m1 190 rfl
theorem q334 : (Jvm.Cond.fieldLinkNest "HallPlan$Booking" (54 : Nat) "HallPlan$Event" "guests" "I" "HallPlan") ∈ lw_tbl := lw_at lw_m1 193 rfl
theorem q337 : (Jvm.Cond.fieldLinkNest "HallPlan$Booking" (33 : Nat) "HallPlan$Event" "duration" "I" "HallPlan") ∈ lw_tbl := lw_at lw_m1 196 rfl
theorem q439 : (Jvm.Cond.instanceMethod ({ cls := "HallPlan$Booking", name := "counts", desc := "()Z" } : Jvm.MethodName)) ∈ lw_all := lw_g (lw_at lw_m2 58 rfl) rfl
theorem q440 : (Jvm.Cond.selects "HallPlan$Booking" ({ cls := "HallPlan$Booking", name := "counts", desc := "()Z" } : Jvm.MethodName) ({ cls := "HallPlan$Booking", name := "counts", desc := "()Z" } : Jvm.MethodName)) ∈ lw_all := lw_g (lw_at lw_m2 59 rfl) rfl
theorem q441 : (Jvm.Cond.code ({ cls := "HallPlan$Booking", name := "counts", desc := "()Z" } : Jvm.MethodName) prog_2_method_4_code (1 : Nat) (Option.some Jvm.ClassFile.FieldType.boolean)) ∈ lw_all := lw_g (lw_at lw_m2 60 rfl) rfl
theorem q447 : (Jvm.Cond.instanceMethod ({ cls := "HallPlan$Booking", name := "end", desc := "()I" } : Jvm.MethodName)) ∈ lw_all := lw_g (lw_at lw_m2 66 rfl) rfl
theorem q448 : (Jvm.Cond.selects "HallPlan$Booking" ({ cls := "HallPlan$Booking", name := "end", desc := "()I" } : Jvm.MethodName) ({ cls := "HallPlan$Booking", name := "end", desc := "()I" } : Jvm.MethodName)) ∈ lw_all := lw_g (lw_at lw_m2 67 rfl) rfl
theorem q449 : (Jvm.Cond.code ({ cls := "HallPlan$Booking", name := "end", desc := "()I" } : Jvm.MethodName) prog_2_method_3_code (1 : Nat) (Option.some Jvm.ClassFile.FieldType.int)) ∈ lw_all := lw_g (lw_at lw_m2 68 rfl) rfl
theorem q1054 : (Jvm.Cond.selects "HallPlan$Booking" ({ cls := "java/lang/Object", name := "equals", desc := "(Ljava/lang/Object;)Z" } : Jvm.MethodName) ({ cls := "java/lang/Object", name := "equals", desc := "(Ljava/lang/Object;)Z" } : Jvm.MethodName)) ∈ lw_all := lw_g (lw_at lw_m4 193 rfl) rfl
theorem q1103 : (Jvm.Cond.selects "HallPlan$Booking" ({ cls := "java/lang/Object", name := "getClass", desc := "()Ljava/lang/Class;" } : Jvm.MethodName) ({ cls := "java/lang/Object", name := "getClass", desc := "()Ljava/lang/Class;" } : Jvm.MethodName)) ∈ lw_all := lw_g (lw_at lw_m5 2 rfl) rfl
theorem q1291 : (Jvm.Cond.instanceMethod ({ cls := "HallPlan$Booking", name := "copy", desc := "()LHallPlan$Booking;" } : Jvm.MethodName)) ∈ lw_all := lw_g (lw_at lw_m5 190 rfl) rfl
theorem q1292 : (Jvm.Cond.selects "HallPlan$Booking" ({ cls := "HallPlan$Booking", name := "copy", desc := "()LHallPlan$Booking;" } : Jvm.MethodName) ({ cls := "HallPlan$Booking", name := "copy", desc := "()LHallPlan$Booking;" } : Jvm.MethodName)) ∈ lw_all := lw_g (lw_at lw_m5 191 rfl) rfl
theorem q1293 : (Jvm.Cond.code ({ cls := "HallPlan$Booking", name := "copy", desc := "()LHallPlan$Booking;" } : Jvm.MethodName) prog_2_method_2_code (2 : Nat) (Option.some (Jvm.ClassFile.FieldType.object "HallPlan$Booking"))) ∈ lw_all := lw_g (lw_at lw_m5 192 rfl) rfl
theorem q1294 : (Jvm.Cond.classLink "HallPlan$Booking" (8 : Nat) "HallPlan$Booking") ∈ lw_all := lw_g (lw_at lw_m5 193 rfl) rfl
theorem q1295 : (Jvm.Cond.instantiable "HallPlan$Booking" (7 : Nat)) ∈ lw_all := lw_g (lw_at lw_m5 194 rfl) rfl
theorem q1296 : (Jvm.Cond.methodLink "HallPlan$Booking" (27 : Nat) ({ cls := "HallPlan$Booking", name := "<init>", desc := "(LHallPlan$Event;III)V" } : Jvm.MethodName)) ∈ lw_all := lw_g (lw_at lw_m5 195 rfl) rfl
theorem q1297 : (Jvm.Cond.instanceMethod ({ cls := "HallPlan$Booking", name := "<init>", desc := "(LHallPlan$Event;III)V" } : Jvm.MethodName)) ∈ lw_all := lw_g (lw_at lw_m5 196 rfl) rfl
theorem q1298 : (Jvm.Cond.code ({ cls := "HallPlan$Booking", name := "<init>", desc := "(LHallPlan$Event;III)V" } : Jvm.MethodName) prog_2_method_1_code (5 : Nat) (Option.none : Option Jvm.ClassFile.FieldType)) ∈ lw_all := lw_g (lw_at lw_m5 197 rfl) rfl
theorem q1299 : (Jvm.Cond.methodLink "HallPlan$Booking" (1 : Nat) ({ cls := "java/lang/Object", name := "<init>", desc := "()V" } : Jvm.MethodName)) ∈ lw_all := lw_g (lw_at lw_m5 198 rfl) rfl
theorem q1300 : (Jvm.Cond.fieldLink "HallPlan$Booking" (13 : Nat) "HallPlan$Booking" "event" "LHallPlan$Event;") ∈ lw_all := lw_g (lw_at lw_m5 199 rfl) rfl
theorem q1302 : (Jvm.Cond.fieldLink "HallPlan$Booking" (17 : Nat) "HallPlan$Booking" "hall" "I") ∈ lw_all := lw_g (lw_at lw_m5 201 rfl) rfl
theorem q1304 : (Jvm.Cond.fieldLink "HallPlan$Booking" (21 : Nat) "HallPlan$Booking" "start" "I") ∈ lw_all := lw_g (lw_at lw_m5 203 rfl) rfl
theorem q1306 : (Jvm.Cond.fieldLink "HallPlan$Booking" (24 : Nat) "HallPlan$Booking" "price" "I") ∈ lw_all := lw_g (lw_at lw_m5 205 rfl) rfl
theorem q1308 : (Jvm.Cond.fieldLink "HallPlan$Booking" (30 : Nat) "HallPlan$Booking" "fee" "I") ∈ lw_all := lw_g (lw_at lw_m5 207 rfl) rfl
theorem q1310 : (Jvm.Cond.fieldLink "HallPlan$Booking" (7 : Nat) "HallPlan$Booking" "isActive" "Z") ∈ lw_all := lw_g (lw_at lw_m5 209 rfl) rfl
theorem q1312 : (Jvm.Cond.fieldLink "HallPlan$Booking" (38 : Nat) "HallPlan$Booking" "isOut" "Z") ∈ lw_all := lw_g (lw_at lw_m5 211 rfl) rfl
theorem q1314 : (Jvm.Cond.laysFinal "HallPlan$Booking" "HallPlan$Booking" "event" "LHallPlan$Event;") ∈ lw_all := lw_g (lw_at lw_m5 213 rfl) rfl
theorem q1315 : (Jvm.Cond.soleField "HallPlan$Booking" "event") ∈ lw_all := lw_g (lw_at lw_m5 214 rfl) rfl
theorem q1316 : (Jvm.Cond.lays "HallPlan$Booking" "HallPlan$Booking" "hall" "I") ∈ lw_all := lw_g (lw_at lw_m5 215 rfl) rfl
theorem q1317 : (Jvm.Cond.soleField "HallPlan$Booking" "hall") ∈ lw_all := lw_g (lw_at lw_m5 216 rfl) rfl
theorem q1318 : (Jvm.Cond.lays "HallPlan$Booking" "HallPlan$Booking" "start" "I") ∈ lw_all := lw_g (lw_at lw_m5 217 rfl) rfl
theorem q1319 : (Jvm.Cond.soleField "HallPlan$Booking" "start") ∈ lw_all := lw_g (lw_at lw_m5 218 rfl) rfl
theorem q1320 : (Jvm.Cond.lays "HallPlan$Booking" "HallPlan$Booking" "price" "I") ∈ lw_all := lw_g (lw_at lw_m5 219 rfl) rfl
theorem q1321 : (Jvm.Cond.soleField "HallPlan$Booking" "price") ∈ lw_all := lw_g (lw_at lw_m5 220 rfl) rfl
theorem q1322 : (Jvm.Cond.lays "HallPlan$Booking" "HallPlan$Booking" "fee" "I") ∈ lw_all := lw_g (lw_at lw_m5 221 rfl) rfl
theorem q1323 : (Jvm.Cond.soleField "HallPlan$Booking" "fee") ∈ lw_all := lw_g (lw_at lw_m5 222 rfl) rfl
theorem q1324 : (Jvm.Cond.lays "HallPlan$Booking" "HallPlan$Booking" "isActive" "Z") ∈ lw_all := lw_g (lw_at lw_m5 223 rfl) rfl
theorem q1325 : (Jvm.Cond.soleField "HallPlan$Booking" "isActive") ∈ lw_all := lw_g (lw_at lw_m5 224 rfl) rfl
theorem q1326 : (Jvm.Cond.lays "HallPlan$Booking" "HallPlan$Booking" "isOut" "Z") ∈ lw_all := lw_g (lw_at lw_m5 225 rfl) rfl
theorem q1327 : (Jvm.Cond.soleField "HallPlan$Booking" "isOut") ∈ lw_all := lw_g (lw_at lw_m5 226 rfl) rfl
theorem q1328 : (Jvm.Cond.superclass "HallPlan$Booking" "java/lang/Object") ∈ lw_all := lw_g (lw_at lw_m5 227 rfl) rfl
theorem q1896 : (Jvm.Cond.instanceMethod ({ cls := "HallPlan$Booking", name := "part", desc := "(I)I" } : Jvm.MethodName)) ∈ lw_all := lw_g (lw_at lw_m8 75 rfl) rfl
theorem q1897 : (Jvm.Cond.selects "HallPlan$Booking" ({ cls := "HallPlan$Booking", name := "part", desc := "(I)I" } : Jvm.MethodName) ({ cls := "HallPlan$Booking", name := "part", desc := "(I)I" } : Jvm.MethodName)) ∈ lw_all := lw_g (lw_at lw_m8 76 rfl) rfl
theorem q1898 : (Jvm.Cond.code ({ cls := "HallPlan$Booking", name := "part", desc := "(I)I" } : Jvm.MethodName) prog_2_method_6_code (2 : Nat) (Option.some Jvm.ClassFile.FieldType.int)) ∈ lw_all := lw_g (lw_at lw_m8 77 rfl) rfl
theorem q1899 : (Jvm.Cond.methodLink "HallPlan$Booking" (41 : Nat) ({ cls := "HallPlan$Booking", name := "end", desc := "()I" } : Jvm.MethodName)) ∈ lw_all := lw_g (lw_at lw_m8 78 rfl) rfl
theorem q2007 : (Jvm.Cond.instanceMethod ({ cls := "HallPlan$Booking", name := "holds", desc := "(II)Z" } : Jvm.MethodName)) ∈ lw_all := lw_g (lw_at lw_m8 186 rfl) rfl
theorem q2008 : (Jvm.Cond.selects "HallPlan$Booking" ({ cls := "HallPlan$Booking", name := "holds", desc := "(II)Z" } : Jvm.MethodName) ({ cls := "HallPlan$Booking", name := "holds", desc := "(II)Z" } : Jvm.MethodName)) ∈ lw_all := lw_g (lw_at lw_m8 187 rfl) rfl
theorem q2009 : (Jvm.Cond.code ({ cls := "HallPlan$Booking", name := "holds", desc := "(II)Z" } : Jvm.MethodName) prog_2_method_5_code (3 : Nat) (Option.some Jvm.ClassFile.FieldType.boolean)) ∈ lw_all := lw_g (lw_at lw_m8 188 rfl) rfl
theorem q2010 : (Jvm.Cond.methodLinkNest "HallPlan$Booking" (45 : Nat) ({ cls := "HallPlan", name := "in", desc := "(III)Z" } : Jvm.MethodName) "HallPlan") ∈ lw_tbl := lw_at lw_m8 189 rfl
theorem q2761 : (Jvm.Cond.castable "HallPlan$Booking" "java/lang/Object") ∈ lw_tbl := lw_at lw_m11 220 rfl
theorem in_X10 : ∀ w ∈ wsX100, w ∈ lw_all := lw_in wsX100 [1314, 1316, 1318, 1320, 1322, 1324, 1326] (by decide +kernel) (by decide +kernel)
/-! HallPlan$Late -/
set_option maxRecDepth 100000
def RX11 : String := "HallPlan$Late"
def TX11 : u_T := fun k => match k with
  | 0 => ("java/lang/Throwable", "cause", "Ljava/lang/Throwable;", false)
  | 1 => ("java/lang/Throwable", "stackTrace", "[Ljava/lang/StackTraceElement;", false)
  | 2 => ("java/lang/Throwable", "suppressedExceptions", "Ljava/util/List;", false)
  | 3 => ("java/lang/Throwable", "detailMessage", "Ljava/lang/String;", false)
  | 4 => ("java/lang/Throwable", "backtrace", "Ljava/lang/Object;", false)
  | _ => ("java/lang/Throwable", "depth", "I", false)
def tyX11 : Nat → FieldType := fun k => match k with
  | 0 => .object "java/lang/Throwable"
  | 1 => .array (.object "java/lang/StackTraceElement")
  | 2 => .object "java/util/List"
  | 3 => .object "java/lang/String"
  | 4 => .object "java/lang/Object"
  | _ => .int
abbrev wsX110 : List Cond := u_ws RX11 TX11 6
theorem nmX11 : ∀ a, a < 6 → ∀ b, b < 6 → a ≠ b → (TX11 a).2.1 ≠ (TX11 b).2.1 := by decide +kernel
theorem tyX11_ok : ∀ k, k < 6 → parseFieldDescriptor (TX11 k).2.2.1 = some (tyX11 k) := by decide +kernel
abbrev cX11_init : ByteArray := prog_9_method_1_code
def yX11_init : MethodName := ⟨RX11, "<init>", "()V"⟩
def dkwX11_init_0 : List UInt8 := [42, 1, 1, 3, 3, 183, 0, 1, 177]
abbrev dktX11_init_0 : List UInt8 := dkwX11_init_0 ++ []
theorem dksX11_init_0 : cX11_init.data.toList.drop 0 = dktX11_init_0 := by decide +kernel
theorem dX11_init_0 : decode cX11_init 0 = .ok (.aload_n 0, 1) := dk_42 (dk_at dksX11_init_0 0 rfl rfl)
theorem dX11_init_1 : decode cX11_init 1 = .ok (.aconst_null, 1) := dk_1 (dk_at dksX11_init_0 1 rfl rfl)
theorem dX11_init_2 : decode cX11_init 2 = .ok (.aconst_null, 1) := dk_1 (dk_at dksX11_init_0 2 rfl rfl)
theorem dX11_init_3 : decode cX11_init 3 = .ok (.iconst 0, 1) := dk_3 (dk_at dksX11_init_0 3 rfl rfl)
theorem dX11_init_4 : decode cX11_init 4 = .ok (.iconst 0, 1) := dk_3 (dk_at dksX11_init_0 4 rfl rfl)
theorem dX11_init_5 : decode cX11_init 5 = .ok (.invokespecial 1, 3) := dk_183 0 1 (dk_at dksX11_init_0 5 rfl rfl)
theorem dX11_init_8 : decode cX11_init 8 = .ok (.return_, 1) := dk_177 (dk_at dksX11_init_0 8 rfl rfl)
theorem q179 : (Jvm.Cond.initialized "HallPlan$Late") ∈ lw_all := lw_g (lw_at lw_m1 38 rfl) rfl
theorem q761 : (Jvm.Cond.selects "HallPlan$Late" ({ cls := "java/lang/Throwable", name := "fillInStackTrace", desc := "()Ljava/lang/Throwable;" } : Jvm.MethodName) ({ cls := "java/lang/Throwable", name := "fillInStackTrace", desc := "()Ljava/lang/Throwable;" } : Jvm.MethodName)) ∈ lw_all := lw_g (lw_at lw_m3 140 rfl) rfl
theorem q1058 : (Jvm.Cond.selects "HallPlan$Late" ({ cls := "java/lang/Object", name := "equals", desc := "(Ljava/lang/Object;)Z" } : Jvm.MethodName) ({ cls := "java/lang/Object", name := "equals", desc := "(Ljava/lang/Object;)Z" } : Jvm.MethodName)) ∈ lw_all := lw_g (lw_at lw_m4 197 rfl) rfl
theorem q1107 : (Jvm.Cond.selects "HallPlan$Late" ({ cls := "java/lang/Object", name := "getClass", desc := "()Ljava/lang/Class;" } : Jvm.MethodName) ({ cls := "java/lang/Object", name := "getClass", desc := "()Ljava/lang/Class;" } : Jvm.MethodName)) ∈ lw_all := lw_g (lw_at lw_m5 6 rfl) rfl
theorem q1753 : (Jvm.Cond.instantiable "HallPlan$Late" (6 : Nat)) ∈ lw_all := lw_g (lw_at lw_m7 172 rfl) rfl
theorem q1754 : (Jvm.Cond.castable "HallPlan$Late" "HallPlan$Late") ∈ lw_tbl := lw_at lw_m7 173 rfl
theorem q1755 : (Jvm.Cond.selects "HallPlan$Late" ({ cls := "java/lang/Throwable", name := "fillInStackTrace", desc := "(I)Ljava/lang/Throwable;" } : Jvm.MethodName) ({ cls := "java/lang/Throwable", name := "fillInStackTrace", desc := "(I)Ljava/lang/Throwable;" } : Jvm.MethodName)) ∈ lw_all := lw_g (lw_at lw_m7 174 rfl) rfl
theorem q1756 : (Jvm.Cond.lays "HallPlan$Late" "java/lang/Throwable" "cause" "Ljava/lang/Throwable;") ∈ lw_all := lw_g (lw_at lw_m7 175 rfl) rfl
theorem q1757 : (Jvm.Cond.lays "HallPlan$Late" "java/lang/Throwable" "stackTrace" "[Ljava/lang/StackTraceElement;") ∈ lw_all := lw_g (lw_at lw_m7 176 rfl) rfl
theorem q1758 : (Jvm.Cond.lays "HallPlan$Late" "java/lang/Throwable" "suppressedExceptions" "Ljava/util/List;") ∈ lw_all := lw_g (lw_at lw_m7 177 rfl) rfl
theorem q1759 : (Jvm.Cond.lays "HallPlan$Late" "java/lang/Throwable" "detailMessage" "Ljava/lang/String;") ∈ lw_all := lw_g (lw_at lw_m7 178 rfl) rfl
theorem q1760 : (Jvm.Cond.lays "HallPlan$Late" "java/lang/Throwable" "backtrace" "Ljava/lang/Object;") ∈ lw_all := lw_g (lw_at lw_m7 179 rfl) rfl
theorem q1762 : (Jvm.Cond.instanceMethod ({ cls := "HallPlan$Late", name := "<init>", desc := "()V" } : Jvm.MethodName)) ∈ lw_all := lw_g (lw_at lw_m7 181 rfl) rfl
theorem q1763 : (Jvm.Cond.code ({ cls := "HallPlan$Late", name := "<init>", desc := "()V" } : Jvm.MethodName) prog_9_method_1_code (1 : Nat) (Option.none : Option Jvm.ClassFile.FieldType)) ∈ lw_all := lw_g (lw_at lw_m7 182 rfl) rfl
theorem q1764 : (Jvm.Cond.methodLink "HallPlan$Late" (1 : Nat) ({ cls := "java/lang/Exception", name := "<init>", desc := "(Ljava/lang/String;Ljava/lang/Throwable;ZZ)V" } : Jvm.MethodName)) ∈ lw_all := lw_g (lw_at lw_m7 183 rfl) rfl
theorem q1765 : (Jvm.Cond.lays "HallPlan$Late" "java/lang/Throwable" "depth" "I") ∈ lw_all := lw_g (lw_at lw_m7 184 rfl) rfl
theorem q1766 : (Jvm.Cond.superclass "HallPlan$Late" "java/lang/Exception") ∈ lw_all := lw_g (lw_at lw_m7 185 rfl) rfl
theorem q2783 : (Jvm.Cond.castable "HallPlan$Late" "java/lang/Object") ∈ lw_tbl := lw_at lw_m12 2 rfl
theorem in_X11 : ∀ w ∈ wsX110, w ∈ lw_all := lw_in wsX110 [1756, 1757, 1758, 1759, 1760, 1765] (by decide +kernel) (by decide +kernel)
/-! HallPlan$Refused -/
set_option maxRecDepth 100000
def RX12 : String := "HallPlan$Refused"
def TX12 : u_T := fun k => match k with
  | 0 => ("java/lang/Throwable", "cause", "Ljava/lang/Throwable;", false)
  | 1 => ("java/lang/Throwable", "stackTrace", "[Ljava/lang/StackTraceElement;", false)
  | 2 => ("java/lang/Throwable", "suppressedExceptions", "Ljava/util/List;", false)
  | 3 => ("java/lang/Throwable", "detailMessage", "Ljava/lang/String;", false)
  | 4 => ("java/lang/Throwable", "backtrace", "Ljava/lang/Object;", false)
  | 5 => ("java/lang/Throwable", "depth", "I", false)
  | _ => ("HallPlan$Refused", "code", "I", true)
def tyX12 : Nat → FieldType := fun k => match k with
  | 0 => .object "java/lang/Throwable"
  | 1 => .array (.object "java/lang/StackTraceElement")
  | 2 => .object "java/util/List"
  | 3 => .object "java/lang/String"
  | 4 => .object "java/lang/Object"
  | 5 => .int
  | _ => .int
abbrev wsX120 : List Cond := u_ws RX12 TX12 7
theorem nmX12 : ∀ a, a < 7 → ∀ b, b < 7 → a ≠ b → (TX12 a).2.1 ≠ (TX12 b).2.1 := by decide +kernel
theorem tyX12_ok : ∀ k, k < 7 → parseFieldDescriptor (TX12 k).2.2.1 = some (tyX12 k) := by decide +kernel
abbrev cX12_init : ByteArray := prog_11_method_1_code
def yX12_init : MethodName := ⟨RX12, "<init>", "(ILjava/lang/Exception;)V"⟩
def dkwX12_init_0 : List UInt8 := [42, 1, 44, 3, 3, 183, 0, 1, 42, 27, 181, 0, 7, 177]
abbrev dktX12_init_0 : List UInt8 := dkwX12_init_0 ++ []
theorem dksX12_init_0 : cX12_init.data.toList.drop 0 = dktX12_init_0 := by decide +kernel
theorem dX12_init_0 : decode cX12_init 0 = .ok (.aload_n 0, 1) := dk_42 (dk_at dksX12_init_0 0 rfl rfl)
theorem dX12_init_1 : decode cX12_init 1 = .ok (.aconst_null, 1) := dk_1 (dk_at dksX12_init_0 1 rfl rfl)
theorem dX12_init_2 : decode cX12_init 2 = .ok (.aload_n 2, 1) := dk_44 (dk_at dksX12_init_0 2 rfl rfl)
theorem dX12_init_3 : decode cX12_init 3 = .ok (.iconst 0, 1) := dk_3 (dk_at dksX12_init_0 3 rfl rfl)
theorem dX12_init_4 : decode cX12_init 4 = .ok (.iconst 0, 1) := dk_3 (dk_at dksX12_init_0 4 rfl rfl)
theorem dX12_init_5 : decode cX12_init 5 = .ok (.invokespecial 1, 3) := dk_183 0 1 (dk_at dksX12_init_0 5 rfl rfl)
theorem dX12_init_8 : decode cX12_init 8 = .ok (.aload_n 0, 1) := dk_42 (dk_at dksX12_init_0 8 rfl rfl)
theorem dX12_init_9 : decode cX12_init 9 = .ok (.iload_n 1, 1) := dk_27 (dk_at dksX12_init_0 9 rfl rfl)
theorem dX12_init_10 : decode cX12_init 10 = .ok (.putfield 7, 3) := dk_181 0 7 (dk_at dksX12_init_0 10 rfl rfl)
theorem dX12_init_13 : decode cX12_init 13 = .ok (.return_, 1) := dk_177 (dk_at dksX12_init_0 13 rfl rfl)
theorem q180 : (Jvm.Cond.initialized "HallPlan$Refused") ∈ lw_all := lw_g (lw_at lw_m1 39 rfl) rfl
theorem q762 : (Jvm.Cond.selects "HallPlan$Refused" ({ cls := "java/lang/Throwable", name := "fillInStackTrace", desc := "()Ljava/lang/Throwable;" } : Jvm.MethodName) ({ cls := "java/lang/Throwable", name := "fillInStackTrace", desc := "()Ljava/lang/Throwable;" } : Jvm.MethodName)) ∈ lw_all := lw_g (lw_at lw_m3 141 rfl) rfl
theorem q1060 : (Jvm.Cond.selects "HallPlan$Refused" ({ cls := "java/lang/Object", name := "equals", desc := "(Ljava/lang/Object;)Z" } : Jvm.MethodName) ({ cls := "java/lang/Object", name := "equals", desc := "(Ljava/lang/Object;)Z" } : Jvm.MethodName)) ∈ lw_all := lw_g (lw_at lw_m4 199 rfl) rfl
theorem q1109 : (Jvm.Cond.selects "HallPlan$Refused" ({ cls := "java/lang/Object", name := "getClass", desc := "()Ljava/lang/Class;" } : Jvm.MethodName) ({ cls := "java/lang/Object", name := "getClass", desc := "()Ljava/lang/Class;" } : Jvm.MethodName)) ∈ lw_all := lw_g (lw_at lw_m5 8 rfl) rfl
theorem q1771 : (Jvm.Cond.instantiable "HallPlan$Refused" (7 : Nat)) ∈ lw_all := lw_g (lw_at lw_m7 190 rfl) rfl
theorem q1772 : (Jvm.Cond.castable "HallPlan$Refused" "HallPlan$Refused") ∈ lw_tbl := lw_at lw_m7 191 rfl
theorem q1773 : (Jvm.Cond.selects "HallPlan$Refused" ({ cls := "java/lang/Throwable", name := "fillInStackTrace", desc := "(I)Ljava/lang/Throwable;" } : Jvm.MethodName) ({ cls := "java/lang/Throwable", name := "fillInStackTrace", desc := "(I)Ljava/lang/Throwable;" } : Jvm.MethodName)) ∈ lw_all := lw_g (lw_at lw_m7 192 rfl) rfl
theorem q1774 : (Jvm.Cond.lays "HallPlan$Refused" "java/lang/Throwable" "cause" "Ljava/lang/Throwable;") ∈ lw_all := lw_g (lw_at lw_m7 193 rfl) rfl
theorem q1775 : (Jvm.Cond.lays "HallPlan$Refused" "java/lang/Throwable" "stackTrace" "[Ljava/lang/StackTraceElement;") ∈ lw_all := lw_g (lw_at lw_m7 194 rfl) rfl
theorem q1776 : (Jvm.Cond.lays "HallPlan$Refused" "java/lang/Throwable" "suppressedExceptions" "Ljava/util/List;") ∈ lw_all := lw_g (lw_at lw_m7 195 rfl) rfl
theorem q1777 : (Jvm.Cond.lays "HallPlan$Refused" "java/lang/Throwable" "detailMessage" "Ljava/lang/String;") ∈ lw_all := lw_g (lw_at lw_m7 196 rfl) rfl
theorem q1778 : (Jvm.Cond.lays "HallPlan$Refused" "java/lang/Throwable" "backtrace" "Ljava/lang/Object;") ∈ lw_all := lw_g (lw_at lw_m7 197 rfl) rfl
theorem q1780 : (Jvm.Cond.instanceMethod ({ cls := "HallPlan$Refused", name := "<init>", desc := "(ILjava/lang/Exception;)V" } : Jvm.MethodName)) ∈ lw_all := lw_g (lw_at lw_m7 199 rfl) rfl
theorem q1781 : (Jvm.Cond.code ({ cls := "HallPlan$Refused", name := "<init>", desc := "(ILjava/lang/Exception;)V" } : Jvm.MethodName) prog_11_method_1_code (3 : Nat) (Option.none : Option Jvm.ClassFile.FieldType)) ∈ lw_all := lw_g (lw_at lw_m7 200 rfl) rfl
theorem q1782 : (Jvm.Cond.methodLink "HallPlan$Refused" (1 : Nat) ({ cls := "java/lang/Exception", name := "<init>", desc := "(Ljava/lang/String;Ljava/lang/Throwable;ZZ)V" } : Jvm.MethodName)) ∈ lw_all := lw_g (lw_at lw_m7 201 rfl) rfl
theorem q1783 : (Jvm.Cond.fieldLink "HallPlan$Refused" (7 : Nat) "HallPlan$Refused" "code" "I") ∈ lw_all := lw_g (lw_at lw_m7 202 rfl) rfl
theorem q1785 : (Jvm.Cond.laysFinal "HallPlan$Refused" "HallPlan$Refused" "code" "I") ∈ lw_all := lw_g (lw_at lw_m7 204 rfl) rfl
theorem q1786 : (Jvm.Cond.soleField "HallPlan$Refused" "code") ∈ lw_all := lw_g (lw_at lw_m7 205 rfl) rfl
theorem q1787 : (Jvm.Cond.lays "HallPlan$Refused" "java/lang/Throwable" "depth" "I") ∈ lw_all := lw_g (lw_at lw_m7 206 rfl) rfl
theorem q1788 : (Jvm.Cond.superclass "HallPlan$Refused" "java/lang/Exception") ∈ lw_all := lw_g (lw_at lw_m7 207 rfl) rfl
theorem q1983 : (Jvm.Cond.sameMethod "HallPlan$Refused" "java/lang/Throwable" "getCause" "()Ljava/lang/Throwable;") ∈ lw_all := lw_g (lw_at lw_m8 162 rfl) rfl
theorem q1985 : (Jvm.Cond.selects "HallPlan$Refused" ({ cls := "HallPlan$Refused", name := "getCause", desc := "()Ljava/lang/Throwable;" } : Jvm.MethodName) ({ cls := "java/lang/Throwable", name := "getCause", desc := "()Ljava/lang/Throwable;" } : Jvm.MethodName)) ∈ lw_all := lw_g (lw_at lw_m8 164 rfl) rfl
theorem q2784 : (Jvm.Cond.castable "HallPlan$Refused" "java/lang/Object") ∈ lw_tbl := lw_at lw_m12 3 rfl
theorem in_X12 : ∀ w ∈ wsX120, w ∈ lw_all := lw_in wsX120 [1774, 1775, 1776, 1777, 1778, 1787, 1785] (by decide +kernel) (by decide +kernel)
/-! HallPlan$Request -/
set_option maxRecDepth 100000
def RX13 : String := "HallPlan$Request"
def TX13 : u_T := fun k => match k with
  | 0 => ("HallPlan$Request", "event", "LHallPlan$Event;", true)
  | 1 => ("HallPlan$Request", "hall", "I", true)
  | _ => ("HallPlan$Request", "start", "I", true)
def tyX13 : Nat → FieldType := fun k => match k with
  | 0 => .object "HallPlan$Event"
  | 1 => .int
  | _ => .int
abbrev wsX130 : List Cond := u_ws RX13 TX13 3
theorem nmX13 : ∀ a, a < 3 → ∀ b, b < 3 → a ≠ b → (TX13 a).2.1 ≠ (TX13 b).2.1 := by decide +kernel
theorem tyX13_ok : ∀ k, k < 3 → parseFieldDescriptor (TX13 k).2.2.1 = some (tyX13 k) := by decide +kernel
abbrev cX13_init : ByteArray := prog_12_method_1_code
def yX13_init : MethodName := ⟨RX13, "<init>", "(LHallPlan$Event;II)V"⟩
def dkwX13_init_0 : List UInt8 := [42, 183, 0, 1, 42, 43, 181, 0, 7, 42, 28, 181, 0, 13, 42, 29, 181, 0, 17, 177]
abbrev dktX13_init_0 : List UInt8 := dkwX13_init_0 ++ []
theorem dksX13_init_0 : cX13_init.data.toList.drop 0 = dktX13_init_0 := by decide +kernel
theorem dX13_init_0 : decode cX13_init 0 = .ok (.aload_n 0, 1) := dk_42 (dk_at dksX13_init_0 0 rfl rfl)
theorem dX13_init_1 : decode cX13_init 1 = .ok (.invokespecial 1, 3) := dk_183 0 1 (dk_at dksX13_init_0 1 rfl rfl)
theorem dX13_init_4 : decode cX13_init 4 = .ok (.aload_n 0, 1) := dk_42 (dk_at dksX13_init_0 4 rfl rfl)
theorem dX13_init_5 : decode cX13_init 5 = .ok (.aload_n 1, 1) := dk_43 (dk_at dksX13_init_0 5 rfl rfl)
theorem dX13_init_6 : decode cX13_init 6 = .ok (.putfield 7, 3) := dk_181 0 7 (dk_at dksX13_init_0 6 rfl rfl)
theorem dX13_init_9 : decode cX13_init 9 = .ok (.aload_n 0, 1) := dk_42 (dk_at dksX13_init_0 9 rfl rfl)
theorem dX13_init_10 : decode cX13_init 10 = .ok (.iload_n 2, 1) := dk_28 (dk_at dksX13_init_0 10 rfl rfl)
theorem dX13_init_11 : decode cX13_init 11 = .ok (.putfield 13, 3) := dk_181 0 13 (dk_at dksX13_init_0 11 rfl rfl)
theorem dX13_init_14 : decode cX13_init 14 = .ok (.aload_n 0, 1) := dk_42 (dk_at dksX13_init_0 14 rfl rfl)
theorem dX13_init_15 : decode cX13_init 15 = .ok (.iload_n 3, 1) := dk_29 (dk_at dksX13_init_0 15 rfl rfl)
theorem dX13_init_16 : decode cX13_init 16 = .ok (.putfield 17, 3) := dk_181 0 17 (dk_at dksX13_init_0 16 rfl rfl)
theorem dX13_init_19 : decode cX13_init 19 = .ok (.return_, 1) := dk_177 (dk_at dksX13_init_0 19 rfl rfl)
theorem q181 : (Jvm.Cond.initialized "HallPlan$Request") ∈ lw_all := lw_g (lw_at lw_m1 40 rfl) rfl
theorem q1061 : (Jvm.Cond.selects "HallPlan$Request" ({ cls := "java/lang/Object", name := "equals", desc := "(Ljava/lang/Object;)Z" } : Jvm.MethodName) ({ cls := "java/lang/Object", name := "equals", desc := "(Ljava/lang/Object;)Z" } : Jvm.MethodName)) ∈ lw_all := lw_g (lw_at lw_m4 200 rfl) rfl
theorem q1110 : (Jvm.Cond.selects "HallPlan$Request" ({ cls := "java/lang/Object", name := "getClass", desc := "()Ljava/lang/Class;" } : Jvm.MethodName) ({ cls := "java/lang/Object", name := "getClass", desc := "()Ljava/lang/Class;" } : Jvm.MethodName)) ∈ lw_all := lw_g (lw_at lw_m5 9 rfl) rfl
theorem q1804 : (Jvm.Cond.instantiable "HallPlan$Request" (3 : Nat)) ∈ lw_all := lw_g (lw_at lw_m7 223 rfl) rfl
theorem q1806 : (Jvm.Cond.instanceMethod ({ cls := "HallPlan$Request", name := "<init>", desc := "(LHallPlan$Event;II)V" } : Jvm.MethodName)) ∈ lw_all := lw_g (lw_at lw_m7 225 rfl) rfl
theorem q1807 : (Jvm.Cond.code ({ cls := "HallPlan$Request", name := "<init>", desc := "(LHallPlan$Event;II)V" } : Jvm.MethodName) prog_12_method_1_code (4 : Nat) (Option.none : Option Jvm.ClassFile.FieldType)) ∈ lw_all := lw_g (lw_at lw_m7 226 rfl) rfl
theorem q1808 : (Jvm.Cond.methodLink "HallPlan$Request" (1 : Nat) ({ cls := "java/lang/Object", name := "<init>", desc := "()V" } : Jvm.MethodName)) ∈ lw_all := lw_g (lw_at lw_m7 227 rfl) rfl
theorem q1809 : (Jvm.Cond.fieldLink "HallPlan$Request" (7 : Nat) "HallPlan$Request" "event" "LHallPlan$Event;") ∈ lw_all := lw_g (lw_at lw_m7 228 rfl) rfl
theorem q1811 : (Jvm.Cond.fieldLink "HallPlan$Request" (13 : Nat) "HallPlan$Request" "hall" "I") ∈ lw_all := lw_g (lw_at lw_m7 230 rfl) rfl
theorem q1813 : (Jvm.Cond.fieldLink "HallPlan$Request" (17 : Nat) "HallPlan$Request" "start" "I") ∈ lw_all := lw_g (lw_at lw_m7 232 rfl) rfl
theorem q1815 : (Jvm.Cond.laysFinal "HallPlan$Request" "HallPlan$Request" "event" "LHallPlan$Event;") ∈ lw_all := lw_g (lw_at lw_m7 234 rfl) rfl
theorem q1816 : (Jvm.Cond.soleField "HallPlan$Request" "event") ∈ lw_all := lw_g (lw_at lw_m7 235 rfl) rfl
theorem q1817 : (Jvm.Cond.laysFinal "HallPlan$Request" "HallPlan$Request" "hall" "I") ∈ lw_all := lw_g (lw_at lw_m7 236 rfl) rfl
theorem q1818 : (Jvm.Cond.soleField "HallPlan$Request" "hall") ∈ lw_all := lw_g (lw_at lw_m7 237 rfl) rfl
theorem q1819 : (Jvm.Cond.laysFinal "HallPlan$Request" "HallPlan$Request" "start" "I") ∈ lw_all := lw_g (lw_at lw_m7 238 rfl) rfl
theorem q1820 : (Jvm.Cond.soleField "HallPlan$Request" "start") ∈ lw_all := lw_g (lw_at lw_m7 239 rfl) rfl
theorem q1821 : (Jvm.Cond.superclass "HallPlan$Request" "java/lang/Object") ∈ lw_all := lw_g (lw_at lw_m8 0 rfl) rfl
theorem q2785 : (Jvm.Cond.castable "HallPlan$Request" "java/lang/Object") ∈ lw_tbl := lw_at lw_m12 4 rfl
theorem in_X13 : ∀ w ∈ wsX130, w ∈ lw_all := lw_in wsX130 [1815, 1817, 1819] (by decide +kernel) (by decide +kernel)

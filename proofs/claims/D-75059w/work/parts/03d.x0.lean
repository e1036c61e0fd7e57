/-! HallPlanLaw -/
set_option maxRecDepth 100000
def RX0 : String := "HallPlanLaw"
abbrev cX0_append : ByteArray := method_3_code
def yX0_append : MethodName := ⟨RX0, "append", "(LHallPlan;IIIII[J)I"⟩
def dkwX0_append_1 : List UInt8 := [172]
abbrev dktX0_append_1 : List UInt8 := dkwX0_append_1 ++ []
def dkwX0_append_0 : List UInt8 := [25, 6, 3, 42, 27, 28, 29, 21, 4, 21, 5, 182, 0, 7, 133, 80, 167, 0, 7, 58, 7, 4, 172, 3]
abbrev dktX0_append_0 : List UInt8 := dkwX0_append_0 ++ dktX0_append_1
theorem dksX0_append_0 : cX0_append.data.toList.drop 0 = dktX0_append_0 := by decide +kernel
theorem dksX0_append_1 : cX0_append.data.toList.drop 24 = dktX0_append_1 := dk_seg dksX0_append_0 24 rfl rfl
theorem dX0_append_0 : decode cX0_append 0 = .ok (.aload 6, 2) := dk_25 6 (dk_at dksX0_append_0 0 rfl rfl)
theorem dX0_append_2 : decode cX0_append 2 = .ok (.iconst 0, 1) := dk_3 (dk_at dksX0_append_0 2 rfl rfl)
theorem dX0_append_3 : decode cX0_append 3 = .ok (.aload_n 0, 1) := dk_42 (dk_at dksX0_append_0 3 rfl rfl)
theorem dX0_append_4 : decode cX0_append 4 = .ok (.iload_n 1, 1) := dk_27 (dk_at dksX0_append_0 4 rfl rfl)
theorem dX0_append_5 : decode cX0_append 5 = .ok (.iload_n 2, 1) := dk_28 (dk_at dksX0_append_0 5 rfl rfl)
theorem dX0_append_6 : decode cX0_append 6 = .ok (.iload_n 3, 1) := dk_29 (dk_at dksX0_append_0 6 rfl rfl)
theorem dX0_append_7 : decode cX0_append 7 = .ok (.iload 4, 2) := dk_21 4 (dk_at dksX0_append_0 7 rfl rfl)
theorem dX0_append_9 : decode cX0_append 9 = .ok (.iload 5, 2) := dk_21 5 (dk_at dksX0_append_0 9 rfl rfl)
theorem dX0_append_11 : decode cX0_append 11 = .ok (.invokevirtual 7, 3) := dk_182 0 7 (dk_at dksX0_append_0 11 rfl rfl)
theorem dX0_append_14 : decode cX0_append 14 = .ok (.i2l, 1) := dk_133 (dk_at dksX0_append_0 14 rfl rfl)
theorem dX0_append_15 : decode cX0_append 15 = .ok (.lastore, 1) := dk_80 (dk_at dksX0_append_0 15 rfl rfl)
theorem dX0_append_16 : decode cX0_append 16 = .ok (.goto 7, 3) := dk_167 0 7 (dk_at dksX0_append_0 16 rfl rfl)
theorem dX0_append_19 : decode cX0_append 19 = .ok (.astore 7, 2) := dk_58 7 (dk_at dksX0_append_0 19 rfl rfl)
theorem dX0_append_21 : decode cX0_append 21 = .ok (.iconst 1, 1) := dk_4 (dk_at dksX0_append_0 21 rfl rfl)
theorem dX0_append_22 : decode cX0_append 22 = .ok (.ireturn, 1) := dk_172 (dk_at dksX0_append_0 22 rfl rfl)
theorem dX0_append_23 : decode cX0_append 23 = .ok (.iconst 0, 1) := dk_3 (dk_at dksX0_append_0 23 rfl rfl)
theorem dX0_append_24 : decode cX0_append 24 = .ok (.ireturn, 1) := dk_172 (dk_at dksX0_append_1 0 rfl rfl)
abbrev cX0_truncate : ByteArray := method_4_code
def yX0_truncate : MethodName := ⟨RX0, "truncate", "(LHallPlan;I[J)I"⟩
def dkwX0_truncate_0 : List UInt8 := [44, 3, 42, 27, 182, 0, 15, 133, 80, 167, 0, 6, 78, 4, 172, 3, 172]
abbrev dktX0_truncate_0 : List UInt8 := dkwX0_truncate_0 ++ []
theorem dksX0_truncate_0 : cX0_truncate.data.toList.drop 0 = dktX0_truncate_0 := by decide +kernel
theorem dX0_truncate_0 : decode cX0_truncate 0 = .ok (.aload_n 2, 1) := dk_44 (dk_at dksX0_truncate_0 0 rfl rfl)
theorem dX0_truncate_1 : decode cX0_truncate 1 = .ok (.iconst 0, 1) := dk_3 (dk_at dksX0_truncate_0 1 rfl rfl)
theorem dX0_truncate_2 : decode cX0_truncate 2 = .ok (.aload_n 0, 1) := dk_42 (dk_at dksX0_truncate_0 2 rfl rfl)
theorem dX0_truncate_3 : decode cX0_truncate 3 = .ok (.iload_n 1, 1) := dk_27 (dk_at dksX0_truncate_0 3 rfl rfl)
theorem dX0_truncate_4 : decode cX0_truncate 4 = .ok (.invokevirtual 15, 3) := dk_182 0 15 (dk_at dksX0_truncate_0 4 rfl rfl)
theorem dX0_truncate_7 : decode cX0_truncate 7 = .ok (.i2l, 1) := dk_133 (dk_at dksX0_truncate_0 7 rfl rfl)
theorem dX0_truncate_8 : decode cX0_truncate 8 = .ok (.lastore, 1) := dk_80 (dk_at dksX0_truncate_0 8 rfl rfl)
theorem dX0_truncate_9 : decode cX0_truncate 9 = .ok (.goto 6, 3) := dk_167 0 6 (dk_at dksX0_truncate_0 9 rfl rfl)
theorem dX0_truncate_12 : decode cX0_truncate 12 = .ok (.astore_n 3, 1) := dk_78 (dk_at dksX0_truncate_0 12 rfl rfl)
theorem dX0_truncate_13 : decode cX0_truncate 13 = .ok (.iconst 1, 1) := dk_4 (dk_at dksX0_truncate_0 13 rfl rfl)
theorem dX0_truncate_14 : decode cX0_truncate 14 = .ok (.ireturn, 1) := dk_172 (dk_at dksX0_truncate_0 14 rfl rfl)
theorem dX0_truncate_15 : decode cX0_truncate 15 = .ok (.iconst 0, 1) := dk_3 (dk_at dksX0_truncate_0 15 rfl rfl)
theorem dX0_truncate_16 : decode cX0_truncate 16 = .ok (.ireturn, 1) := dk_172 (dk_at dksX0_truncate_0 16 rfl rfl)
abbrev cX0_load : ByteArray := method_5_code
def yX0_load : MethodName := ⟨RX0, "load", "(LHallPlan;[J)I"⟩
def dkwX0_load_0 : List UInt8 := [43, 3, 42, 182, 0, 21, 133, 80, 167, 0, 6, 77, 4, 172, 3, 172]
abbrev dktX0_load_0 : List UInt8 := dkwX0_load_0 ++ []
theorem dksX0_load_0 : cX0_load.data.toList.drop 0 = dktX0_load_0 := by decide +kernel
theorem dX0_load_0 : decode cX0_load 0 = .ok (.aload_n 1, 1) := dk_43 (dk_at dksX0_load_0 0 rfl rfl)
theorem dX0_load_1 : decode cX0_load 1 = .ok (.iconst 0, 1) := dk_3 (dk_at dksX0_load_0 1 rfl rfl)
theorem dX0_load_2 : decode cX0_load 2 = .ok (.aload_n 0, 1) := dk_42 (dk_at dksX0_load_0 2 rfl rfl)
theorem dX0_load_3 : decode cX0_load 3 = .ok (.invokevirtual 21, 3) := dk_182 0 21 (dk_at dksX0_load_0 3 rfl rfl)
theorem dX0_load_6 : decode cX0_load 6 = .ok (.i2l, 1) := dk_133 (dk_at dksX0_load_0 6 rfl rfl)
theorem dX0_load_7 : decode cX0_load 7 = .ok (.lastore, 1) := dk_80 (dk_at dksX0_load_0 7 rfl rfl)
theorem dX0_load_8 : decode cX0_load 8 = .ok (.goto 6, 3) := dk_167 0 6 (dk_at dksX0_load_0 8 rfl rfl)
theorem dX0_load_11 : decode cX0_load 11 = .ok (.astore_n 2, 1) := dk_77 (dk_at dksX0_load_0 11 rfl rfl)
theorem dX0_load_12 : decode cX0_load 12 = .ok (.iconst 1, 1) := dk_4 (dk_at dksX0_load_0 12 rfl rfl)
theorem dX0_load_13 : decode cX0_load 13 = .ok (.ireturn, 1) := dk_172 (dk_at dksX0_load_0 13 rfl rfl)
theorem dX0_load_14 : decode cX0_load 14 = .ok (.iconst 0, 1) := dk_3 (dk_at dksX0_load_0 14 rfl rfl)
theorem dX0_load_15 : decode cX0_load 15 = .ok (.ireturn, 1) := dk_172 (dk_at dksX0_load_0 15 rfl rfl)
abbrev cX0_draft : ByteArray := method_6_code
def yX0_draft : MethodName := ⟨RX0, "draft", "(LHallPlan;III[J)I"⟩
def dkwX0_draft_1 : List UInt8 := [172]
abbrev dktX0_draft_1 : List UInt8 := dkwX0_draft_1 ++ []
def dkwX0_draft_0 : List UInt8 := [25, 4, 3, 42, 27, 28, 29, 182, 0, 25, 133, 80, 167, 0, 11, 58, 5, 4, 172, 58, 5, 5, 172, 3]
abbrev dktX0_draft_0 : List UInt8 := dkwX0_draft_0 ++ dktX0_draft_1
theorem dksX0_draft_0 : cX0_draft.data.toList.drop 0 = dktX0_draft_0 := by decide +kernel
theorem dksX0_draft_1 : cX0_draft.data.toList.drop 24 = dktX0_draft_1 := dk_seg dksX0_draft_0 24 rfl rfl
theorem dX0_draft_0 : decode cX0_draft 0 = .ok (.aload 4, 2) := dk_25 4 (dk_at dksX0_draft_0 0 rfl rfl)
theorem dX0_draft_2 : decode cX0_draft 2 = .ok (.iconst 0, 1) := dk_3 (dk_at dksX0_draft_0 2 rfl rfl)
theorem dX0_draft_3 : decode cX0_draft 3 = .ok (.aload_n 0, 1) := dk_42 (dk_at dksX0_draft_0 3 rfl rfl)
theorem dX0_draft_4 : decode cX0_draft 4 = .ok (.iload_n 1, 1) := dk_27 (dk_at dksX0_draft_0 4 rfl rfl)
theorem dX0_draft_5 : decode cX0_draft 5 = .ok (.iload_n 2, 1) := dk_28 (dk_at dksX0_draft_0 5 rfl rfl)
theorem dX0_draft_6 : decode cX0_draft 6 = .ok (.iload_n 3, 1) := dk_29 (dk_at dksX0_draft_0 6 rfl rfl)
theorem dX0_draft_7 : decode cX0_draft 7 = .ok (.invokevirtual 25, 3) := dk_182 0 25 (dk_at dksX0_draft_0 7 rfl rfl)
theorem dX0_draft_10 : decode cX0_draft 10 = .ok (.i2l, 1) := dk_133 (dk_at dksX0_draft_0 10 rfl rfl)
theorem dX0_draft_11 : decode cX0_draft 11 = .ok (.lastore, 1) := dk_80 (dk_at dksX0_draft_0 11 rfl rfl)
theorem dX0_draft_12 : decode cX0_draft 12 = .ok (.goto 11, 3) := dk_167 0 11 (dk_at dksX0_draft_0 12 rfl rfl)
theorem dX0_draft_15 : decode cX0_draft 15 = .ok (.astore 5, 2) := dk_58 5 (dk_at dksX0_draft_0 15 rfl rfl)
theorem dX0_draft_17 : decode cX0_draft 17 = .ok (.iconst 1, 1) := dk_4 (dk_at dksX0_draft_0 17 rfl rfl)
theorem dX0_draft_18 : decode cX0_draft 18 = .ok (.ireturn, 1) := dk_172 (dk_at dksX0_draft_0 18 rfl rfl)
theorem dX0_draft_19 : decode cX0_draft 19 = .ok (.astore 5, 2) := dk_58 5 (dk_at dksX0_draft_0 19 rfl rfl)
theorem dX0_draft_21 : decode cX0_draft 21 = .ok (.iconst 2, 1) := dk_5 (dk_at dksX0_draft_0 21 rfl rfl)
theorem dX0_draft_22 : decode cX0_draft 22 = .ok (.ireturn, 1) := dk_172 (dk_at dksX0_draft_0 22 rfl rfl)
theorem dX0_draft_23 : decode cX0_draft 23 = .ok (.iconst 0, 1) := dk_3 (dk_at dksX0_draft_0 23 rfl rfl)
theorem dX0_draft_24 : decode cX0_draft 24 = .ok (.ireturn, 1) := dk_172 (dk_at dksX0_draft_1 0 rfl rfl)
abbrev cX0_need : ByteArray := method_7_code
def yX0_need : MethodName := ⟨RX0, "need", "(LHallPlan;II[J)I"⟩
def dkwX0_need_0 : List UInt8 := [45, 3, 42, 27, 28, 182, 0, 31, 133, 80, 167, 0, 11, 58, 4, 4, 172, 58, 4, 5, 172, 3, 172]
abbrev dktX0_need_0 : List UInt8 := dkwX0_need_0 ++ []
theorem dksX0_need_0 : cX0_need.data.toList.drop 0 = dktX0_need_0 := by decide +kernel
theorem dX0_need_0 : decode cX0_need 0 = .ok (.aload_n 3, 1) := dk_45 (dk_at dksX0_need_0 0 rfl rfl)
theorem dX0_need_1 : decode cX0_need 1 = .ok (.iconst 0, 1) := dk_3 (dk_at dksX0_need_0 1 rfl rfl)
theorem dX0_need_2 : decode cX0_need 2 = .ok (.aload_n 0, 1) := dk_42 (dk_at dksX0_need_0 2 rfl rfl)
theorem dX0_need_3 : decode cX0_need 3 = .ok (.iload_n 1, 1) := dk_27 (dk_at dksX0_need_0 3 rfl rfl)
theorem dX0_need_4 : decode cX0_need 4 = .ok (.iload_n 2, 1) := dk_28 (dk_at dksX0_need_0 4 rfl rfl)
theorem dX0_need_5 : decode cX0_need 5 = .ok (.invokevirtual 31, 3) := dk_182 0 31 (dk_at dksX0_need_0 5 rfl rfl)
theorem dX0_need_8 : decode cX0_need 8 = .ok (.i2l, 1) := dk_133 (dk_at dksX0_need_0 8 rfl rfl)
theorem dX0_need_9 : decode cX0_need 9 = .ok (.lastore, 1) := dk_80 (dk_at dksX0_need_0 9 rfl rfl)
theorem dX0_need_10 : decode cX0_need 10 = .ok (.goto 11, 3) := dk_167 0 11 (dk_at dksX0_need_0 10 rfl rfl)
theorem dX0_need_13 : decode cX0_need 13 = .ok (.astore 4, 2) := dk_58 4 (dk_at dksX0_need_0 13 rfl rfl)
theorem dX0_need_15 : decode cX0_need 15 = .ok (.iconst 1, 1) := dk_4 (dk_at dksX0_need_0 15 rfl rfl)
theorem dX0_need_16 : decode cX0_need 16 = .ok (.ireturn, 1) := dk_172 (dk_at dksX0_need_0 16 rfl rfl)
theorem dX0_need_17 : decode cX0_need 17 = .ok (.astore 4, 2) := dk_58 4 (dk_at dksX0_need_0 17 rfl rfl)
theorem dX0_need_19 : decode cX0_need 19 = .ok (.iconst 2, 1) := dk_5 (dk_at dksX0_need_0 19 rfl rfl)
theorem dX0_need_20 : decode cX0_need 20 = .ok (.ireturn, 1) := dk_172 (dk_at dksX0_need_0 20 rfl rfl)
theorem dX0_need_21 : decode cX0_need 21 = .ok (.iconst 0, 1) := dk_3 (dk_at dksX0_need_0 21 rfl rfl)
theorem dX0_need_22 : decode cX0_need 22 = .ok (.ireturn, 1) := dk_172 (dk_at dksX0_need_0 22 rfl rfl)
abbrev cX0_book : ByteArray := method_8_code
def yX0_book : MethodName := ⟨RX0, "book", "(LHallPlan;II[J)I"⟩
def dkwX0_book_1 : List UInt8 := [172, 3, 172]
abbrev dktX0_book_1 : List UInt8 := dkwX0_book_1 ++ []
def dkwX0_book_0 : List UInt8 := [45, 3, 42, 27, 28, 182, 0, 35, 133, 80, 167, 0, 15, 58, 4, 4, 172, 58, 4, 5, 172, 58, 4, 6]
abbrev dktX0_book_0 : List UInt8 := dkwX0_book_0 ++ dktX0_book_1
theorem dksX0_book_0 : cX0_book.data.toList.drop 0 = dktX0_book_0 := by decide +kernel
theorem dksX0_book_1 : cX0_book.data.toList.drop 24 = dktX0_book_1 := dk_seg dksX0_book_0 24 rfl rfl
theorem dX0_book_0 : decode cX0_book 0 = .ok (.aload_n 3, 1) := dk_45 (dk_at dksX0_book_0 0 rfl rfl)
theorem dX0_book_1 : decode cX0_book 1 = .ok (.iconst 0, 1) := dk_3 (dk_at dksX0_book_0 1 rfl rfl)
theorem dX0_book_2 : decode cX0_book 2 = .ok (.aload_n 0, 1) := dk_42 (dk_at dksX0_book_0 2 rfl rfl)
theorem dX0_book_3 : decode cX0_book 3 = .ok (.iload_n 1, 1) := dk_27 (dk_at dksX0_book_0 3 rfl rfl)
theorem dX0_book_4 : decode cX0_book 4 = .ok (.iload_n 2, 1) := dk_28 (dk_at dksX0_book_0 4 rfl rfl)
theorem dX0_book_5 : decode cX0_book 5 = .ok (.invokevirtual 35, 3) := dk_182 0 35 (dk_at dksX0_book_0 5 rfl rfl)
theorem dX0_book_8 : decode cX0_book 8 = .ok (.i2l, 1) := dk_133 (dk_at dksX0_book_0 8 rfl rfl)
theorem dX0_book_9 : decode cX0_book 9 = .ok (.lastore, 1) := dk_80 (dk_at dksX0_book_0 9 rfl rfl)
theorem dX0_book_10 : decode cX0_book 10 = .ok (.goto 15, 3) := dk_167 0 15 (dk_at dksX0_book_0 10 rfl rfl)
theorem dX0_book_13 : decode cX0_book 13 = .ok (.astore 4, 2) := dk_58 4 (dk_at dksX0_book_0 13 rfl rfl)
theorem dX0_book_15 : decode cX0_book 15 = .ok (.iconst 1, 1) := dk_4 (dk_at dksX0_book_0 15 rfl rfl)
theorem dX0_book_16 : decode cX0_book 16 = .ok (.ireturn, 1) := dk_172 (dk_at dksX0_book_0 16 rfl rfl)
theorem dX0_book_17 : decode cX0_book 17 = .ok (.astore 4, 2) := dk_58 4 (dk_at dksX0_book_0 17 rfl rfl)
theorem dX0_book_19 : decode cX0_book 19 = .ok (.iconst 2, 1) := dk_5 (dk_at dksX0_book_0 19 rfl rfl)
theorem dX0_book_20 : decode cX0_book 20 = .ok (.ireturn, 1) := dk_172 (dk_at dksX0_book_0 20 rfl rfl)
theorem dX0_book_21 : decode cX0_book 21 = .ok (.astore 4, 2) := dk_58 4 (dk_at dksX0_book_0 21 rfl rfl)
theorem dX0_book_23 : decode cX0_book 23 = .ok (.iconst 3, 1) := dk_6 (dk_at dksX0_book_0 23 rfl rfl)
theorem dX0_book_24 : decode cX0_book 24 = .ok (.ireturn, 1) := dk_172 (dk_at dksX0_book_1 0 rfl rfl)
theorem dX0_book_25 : decode cX0_book 25 = .ok (.iconst 0, 1) := dk_3 (dk_at dksX0_book_1 1 rfl rfl)
theorem dX0_book_26 : decode cX0_book 26 = .ok (.ireturn, 1) := dk_172 (dk_at dksX0_book_1 2 rfl rfl)
abbrev cX0_cancel : ByteArray := method_9_code
def yX0_cancel : MethodName := ⟨RX0, "cancel", "(LHallPlan;I[J)I"⟩
def dkwX0_cancel_0 : List UInt8 := [44, 3, 42, 27, 182, 0, 38, 133, 80, 167, 0, 9, 78, 4, 172, 78, 5, 172, 3, 172]
abbrev dktX0_cancel_0 : List UInt8 := dkwX0_cancel_0 ++ []
theorem dksX0_cancel_0 : cX0_cancel.data.toList.drop 0 = dktX0_cancel_0 := by decide +kernel
theorem dX0_cancel_0 : decode cX0_cancel 0 = .ok (.aload_n 2, 1) := dk_44 (dk_at dksX0_cancel_0 0 rfl rfl)
theorem dX0_cancel_1 : decode cX0_cancel 1 = .ok (.iconst 0, 1) := dk_3 (dk_at dksX0_cancel_0 1 rfl rfl)
theorem dX0_cancel_2 : decode cX0_cancel 2 = .ok (.aload_n 0, 1) := dk_42 (dk_at dksX0_cancel_0 2 rfl rfl)
theorem dX0_cancel_3 : decode cX0_cancel 3 = .ok (.iload_n 1, 1) := dk_27 (dk_at dksX0_cancel_0 3 rfl rfl)
theorem dX0_cancel_4 : decode cX0_cancel 4 = .ok (.invokevirtual 38, 3) := dk_182 0 38 (dk_at dksX0_cancel_0 4 rfl rfl)
theorem dX0_cancel_7 : decode cX0_cancel 7 = .ok (.i2l, 1) := dk_133 (dk_at dksX0_cancel_0 7 rfl rfl)
theorem dX0_cancel_8 : decode cX0_cancel 8 = .ok (.lastore, 1) := dk_80 (dk_at dksX0_cancel_0 8 rfl rfl)
theorem dX0_cancel_9 : decode cX0_cancel 9 = .ok (.goto 9, 3) := dk_167 0 9 (dk_at dksX0_cancel_0 9 rfl rfl)
theorem dX0_cancel_12 : decode cX0_cancel 12 = .ok (.astore_n 3, 1) := dk_78 (dk_at dksX0_cancel_0 12 rfl rfl)
theorem dX0_cancel_13 : decode cX0_cancel 13 = .ok (.iconst 1, 1) := dk_4 (dk_at dksX0_cancel_0 13 rfl rfl)
theorem dX0_cancel_14 : decode cX0_cancel 14 = .ok (.ireturn, 1) := dk_172 (dk_at dksX0_cancel_0 14 rfl rfl)
theorem dX0_cancel_15 : decode cX0_cancel 15 = .ok (.astore_n 3, 1) := dk_78 (dk_at dksX0_cancel_0 15 rfl rfl)
theorem dX0_cancel_16 : decode cX0_cancel 16 = .ok (.iconst 2, 1) := dk_5 (dk_at dksX0_cancel_0 16 rfl rfl)
theorem dX0_cancel_17 : decode cX0_cancel 17 = .ok (.ireturn, 1) := dk_172 (dk_at dksX0_cancel_0 17 rfl rfl)
theorem dX0_cancel_18 : decode cX0_cancel 18 = .ok (.iconst 0, 1) := dk_3 (dk_at dksX0_cancel_0 18 rfl rfl)
theorem dX0_cancel_19 : decode cX0_cancel 19 = .ok (.ireturn, 1) := dk_172 (dk_at dksX0_cancel_0 19 rfl rfl)
abbrev cX0_move : ByteArray := method_10_code
def yX0_move : MethodName := ⟨RX0, "move", "(LHallPlan;III[J)I"⟩
def dkwX0_move_1 : List UInt8 := [58, 5, 6, 172, 3, 172]
abbrev dktX0_move_1 : List UInt8 := dkwX0_move_1 ++ []
def dkwX0_move_0 : List UInt8 := [25, 4, 3, 42, 27, 28, 29, 182, 0, 41, 133, 80, 167, 0, 15, 58, 5, 4, 172, 58, 5, 5, 172]
abbrev dktX0_move_0 : List UInt8 := dkwX0_move_0 ++ dktX0_move_1
theorem dksX0_move_0 : cX0_move.data.toList.drop 0 = dktX0_move_0 := by decide +kernel
theorem dksX0_move_1 : cX0_move.data.toList.drop 23 = dktX0_move_1 := dk_seg dksX0_move_0 23 rfl rfl
theorem dX0_move_0 : decode cX0_move 0 = .ok (.aload 4, 2) := dk_25 4 (dk_at dksX0_move_0 0 rfl rfl)
theorem dX0_move_2 : decode cX0_move 2 = .ok (.iconst 0, 1) := dk_3 (dk_at dksX0_move_0 2 rfl rfl)
theorem dX0_move_3 : decode cX0_move 3 = .ok (.aload_n 0, 1) := dk_42 (dk_at dksX0_move_0 3 rfl rfl)
theorem dX0_move_4 : decode cX0_move 4 = .ok (.iload_n 1, 1) := dk_27 (dk_at dksX0_move_0 4 rfl rfl)
theorem dX0_move_5 : decode cX0_move 5 = .ok (.iload_n 2, 1) := dk_28 (dk_at dksX0_move_0 5 rfl rfl)
theorem dX0_move_6 : decode cX0_move 6 = .ok (.iload_n 3, 1) := dk_29 (dk_at dksX0_move_0 6 rfl rfl)
theorem dX0_move_7 : decode cX0_move 7 = .ok (.invokevirtual 41, 3) := dk_182 0 41 (dk_at dksX0_move_0 7 rfl rfl)
theorem dX0_move_10 : decode cX0_move 10 = .ok (.i2l, 1) := dk_133 (dk_at dksX0_move_0 10 rfl rfl)
theorem dX0_move_11 : decode cX0_move 11 = .ok (.lastore, 1) := dk_80 (dk_at dksX0_move_0 11 rfl rfl)
theorem dX0_move_12 : decode cX0_move 12 = .ok (.goto 15, 3) := dk_167 0 15 (dk_at dksX0_move_0 12 rfl rfl)
theorem dX0_move_15 : decode cX0_move 15 = .ok (.astore 5, 2) := dk_58 5 (dk_at dksX0_move_0 15 rfl rfl)
theorem dX0_move_17 : decode cX0_move 17 = .ok (.iconst 1, 1) := dk_4 (dk_at dksX0_move_0 17 rfl rfl)
theorem dX0_move_18 : decode cX0_move 18 = .ok (.ireturn, 1) := dk_172 (dk_at dksX0_move_0 18 rfl rfl)
theorem dX0_move_19 : decode cX0_move 19 = .ok (.astore 5, 2) := dk_58 5 (dk_at dksX0_move_0 19 rfl rfl)
theorem dX0_move_21 : decode cX0_move 21 = .ok (.iconst 2, 1) := dk_5 (dk_at dksX0_move_0 21 rfl rfl)
theorem dX0_move_22 : decode cX0_move 22 = .ok (.ireturn, 1) := dk_172 (dk_at dksX0_move_0 22 rfl rfl)
theorem dX0_move_23 : decode cX0_move 23 = .ok (.astore 5, 2) := dk_58 5 (dk_at dksX0_move_1 0 rfl rfl)
theorem dX0_move_25 : decode cX0_move 25 = .ok (.iconst 3, 1) := dk_6 (dk_at dksX0_move_1 2 rfl rfl)
theorem dX0_move_26 : decode cX0_move 26 = .ok (.ireturn, 1) := dk_172 (dk_at dksX0_move_1 3 rfl rfl)
theorem dX0_move_27 : decode cX0_move 27 = .ok (.iconst 0, 1) := dk_3 (dk_at dksX0_move_1 4 rfl rfl)
theorem dX0_move_28 : decode cX0_move 28 = .ok (.ireturn, 1) := dk_172 (dk_at dksX0_move_1 5 rfl rfl)
abbrev cX0_moveByChain : ByteArray := method_11_code
def yX0_moveByChain : MethodName := ⟨RX0, "moveByChain", "(LHallPlan;III[J)I"⟩
def dkwX0_moveByChain_1 : List UInt8 := [58, 5, 6, 172, 3, 172]
abbrev dktX0_moveByChain_1 : List UInt8 := dkwX0_moveByChain_1 ++ []
def dkwX0_moveByChain_0 : List UInt8 := [25, 4, 3, 42, 27, 28, 29, 182, 0, 44, 133, 80, 167, 0, 15, 58, 5, 4, 172, 58, 5, 5, 172]
abbrev dktX0_moveByChain_0 : List UInt8 := dkwX0_moveByChain_0 ++ dktX0_moveByChain_1
theorem dksX0_moveByChain_0 : cX0_moveByChain.data.toList.drop 0 = dktX0_moveByChain_0 := by decide +kernel
theorem dksX0_moveByChain_1 : cX0_moveByChain.data.toList.drop 23 = dktX0_moveByChain_1 := dk_seg dksX0_moveByChain_0 23 rfl rfl
theorem dX0_moveByChain_0 : decode cX0_moveByChain 0 = .ok (.aload 4, 2) := dk_25 4 (dk_at dksX0_moveByChain_0 0 rfl rfl)
theorem dX0_moveByChain_2 : decode cX0_moveByChain 2 = .ok (.iconst 0, 1) := dk_3 (dk_at dksX0_moveByChain_0 2 rfl rfl)
theorem dX0_moveByChain_3 : decode cX0_moveByChain 3 = .ok (.aload_n 0, 1) := dk_42 (dk_at dksX0_moveByChain_0 3 rfl rfl)
theorem dX0_moveByChain_4 : decode cX0_moveByChain 4 = .ok (.iload_n 1, 1) := dk_27 (dk_at dksX0_moveByChain_0 4 rfl rfl)
theorem dX0_moveByChain_5 : decode cX0_moveByChain 5 = .ok (.iload_n 2, 1) := dk_28 (dk_at dksX0_moveByChain_0 5 rfl rfl)
theorem dX0_moveByChain_6 : decode cX0_moveByChain 6 = .ok (.iload_n 3, 1) := dk_29 (dk_at dksX0_moveByChain_0 6 rfl rfl)
theorem dX0_moveByChain_7 : decode cX0_moveByChain 7 = .ok (.invokevirtual 44, 3) := dk_182 0 44 (dk_at dksX0_moveByChain_0 7 rfl rfl)
theorem dX0_moveByChain_10 : decode cX0_moveByChain 10 = .ok (.i2l, 1) := dk_133 (dk_at dksX0_moveByChain_0 10 rfl rfl)
theorem dX0_moveByChain_11 : decode cX0_moveByChain 11 = .ok (.lastore, 1) := dk_80 (dk_at dksX0_moveByChain_0 11 rfl rfl)
theorem dX0_moveByChain_12 : decode cX0_moveByChain 12 = .ok (.goto 15, 3) := dk_167 0 15 (dk_at dksX0_moveByChain_0 12 rfl rfl)
theorem dX0_moveByChain_15 : decode cX0_moveByChain 15 = .ok (.astore 5, 2) := dk_58 5 (dk_at dksX0_moveByChain_0 15 rfl rfl)
theorem dX0_moveByChain_17 : decode cX0_moveByChain 17 = .ok (.iconst 1, 1) := dk_4 (dk_at dksX0_moveByChain_0 17 rfl rfl)
theorem dX0_moveByChain_18 : decode cX0_moveByChain 18 = .ok (.ireturn, 1) := dk_172 (dk_at dksX0_moveByChain_0 18 rfl rfl)
theorem dX0_moveByChain_19 : decode cX0_moveByChain 19 = .ok (.astore 5, 2) := dk_58 5 (dk_at dksX0_moveByChain_0 19 rfl rfl)
theorem dX0_moveByChain_21 : decode cX0_moveByChain 21 = .ok (.iconst 2, 1) := dk_5 (dk_at dksX0_moveByChain_0 21 rfl rfl)
theorem dX0_moveByChain_22 : decode cX0_moveByChain 22 = .ok (.ireturn, 1) := dk_172 (dk_at dksX0_moveByChain_0 22 rfl rfl)
theorem dX0_moveByChain_23 : decode cX0_moveByChain 23 = .ok (.astore 5, 2) := dk_58 5 (dk_at dksX0_moveByChain_1 0 rfl rfl)
theorem dX0_moveByChain_25 : decode cX0_moveByChain 25 = .ok (.iconst 3, 1) := dk_6 (dk_at dksX0_moveByChain_1 2 rfl rfl)
theorem dX0_moveByChain_26 : decode cX0_moveByChain 26 = .ok (.ireturn, 1) := dk_172 (dk_at dksX0_moveByChain_1 3 rfl rfl)
theorem dX0_moveByChain_27 : decode cX0_moveByChain 27 = .ok (.iconst 0, 1) := dk_3 (dk_at dksX0_moveByChain_1 4 rfl rfl)
theorem dX0_moveByChain_28 : decode cX0_moveByChain 28 = .ok (.ireturn, 1) := dk_172 (dk_at dksX0_moveByChain_1 5 rfl rfl)
abbrev cX0_swap : ByteArray := method_12_code
def yX0_swap : MethodName := ⟨RX0, "swap", "(LHallPlan;II[J)I"⟩
def dkwX0_swap_1 : List UInt8 := [172, 3, 172]
abbrev dktX0_swap_1 : List UInt8 := dkwX0_swap_1 ++ []
def dkwX0_swap_0 : List UInt8 := [45, 3, 42, 27, 28, 182, 0, 47, 133, 80, 167, 0, 15, 58, 4, 4, 172, 58, 4, 5, 172, 58, 4, 6]
abbrev dktX0_swap_0 : List UInt8 := dkwX0_swap_0 ++ dktX0_swap_1
theorem dksX0_swap_0 : cX0_swap.data.toList.drop 0 = dktX0_swap_0 := by decide +kernel
theorem dksX0_swap_1 : cX0_swap.data.toList.drop 24 = dktX0_swap_1 := dk_seg dksX0_swap_0 24 rfl rfl
theorem dX0_swap_0 : decode cX0_swap 0 = .ok (.aload_n 3, 1) := dk_45 (dk_at dksX0_swap_0 0 rfl rfl)
theorem dX0_swap_1 : decode cX0_swap 1 = .ok (.iconst 0, 1) := dk_3 (dk_at dksX0_swap_0 1 rfl rfl)
theorem dX0_swap_2 : decode cX0_swap 2 = .ok (.aload_n 0, 1) := dk_42 (dk_at dksX0_swap_0 2 rfl rfl)
theorem dX0_swap_3 : decode cX0_swap 3 = .ok (.iload_n 1, 1) := dk_27 (dk_at dksX0_swap_0 3 rfl rfl)
theorem dX0_swap_4 : decode cX0_swap 4 = .ok (.iload_n 2, 1) := dk_28 (dk_at dksX0_swap_0 4 rfl rfl)
theorem dX0_swap_5 : decode cX0_swap 5 = .ok (.invokevirtual 47, 3) := dk_182 0 47 (dk_at dksX0_swap_0 5 rfl rfl)
theorem dX0_swap_8 : decode cX0_swap 8 = .ok (.i2l, 1) := dk_133 (dk_at dksX0_swap_0 8 rfl rfl)
theorem dX0_swap_9 : decode cX0_swap 9 = .ok (.lastore, 1) := dk_80 (dk_at dksX0_swap_0 9 rfl rfl)
theorem dX0_swap_10 : decode cX0_swap 10 = .ok (.goto 15, 3) := dk_167 0 15 (dk_at dksX0_swap_0 10 rfl rfl)
theorem dX0_swap_13 : decode cX0_swap 13 = .ok (.astore 4, 2) := dk_58 4 (dk_at dksX0_swap_0 13 rfl rfl)
theorem dX0_swap_15 : decode cX0_swap 15 = .ok (.iconst 1, 1) := dk_4 (dk_at dksX0_swap_0 15 rfl rfl)
theorem dX0_swap_16 : decode cX0_swap 16 = .ok (.ireturn, 1) := dk_172 (dk_at dksX0_swap_0 16 rfl rfl)
theorem dX0_swap_17 : decode cX0_swap 17 = .ok (.astore 4, 2) := dk_58 4 (dk_at dksX0_swap_0 17 rfl rfl)
theorem dX0_swap_19 : decode cX0_swap 19 = .ok (.iconst 2, 1) := dk_5 (dk_at dksX0_swap_0 19 rfl rfl)
theorem dX0_swap_20 : decode cX0_swap 20 = .ok (.ireturn, 1) := dk_172 (dk_at dksX0_swap_0 20 rfl rfl)
theorem dX0_swap_21 : decode cX0_swap 21 = .ok (.astore 4, 2) := dk_58 4 (dk_at dksX0_swap_0 21 rfl rfl)
theorem dX0_swap_23 : decode cX0_swap 23 = .ok (.iconst 3, 1) := dk_6 (dk_at dksX0_swap_0 23 rfl rfl)
theorem dX0_swap_24 : decode cX0_swap 24 = .ok (.ireturn, 1) := dk_172 (dk_at dksX0_swap_1 0 rfl rfl)
theorem dX0_swap_25 : decode cX0_swap 25 = .ok (.iconst 0, 1) := dk_3 (dk_at dksX0_swap_1 1 rfl rfl)
theorem dX0_swap_26 : decode cX0_swap 26 = .ok (.ireturn, 1) := dk_172 (dk_at dksX0_swap_1 2 rfl rfl)
abbrev cX0_enqueue : ByteArray := method_13_code
def yX0_enqueue : MethodName := ⟨RX0, "enqueue", "(LHallPlan;II[J)I"⟩
def dkwX0_enqueue_1 : List UInt8 := [172, 3, 172]
abbrev dktX0_enqueue_1 : List UInt8 := dkwX0_enqueue_1 ++ []
def dkwX0_enqueue_0 : List UInt8 := [45, 3, 42, 27, 28, 182, 0, 50, 133, 80, 167, 0, 15, 58, 4, 4, 172, 58, 4, 5, 172, 58, 4, 6]
abbrev dktX0_enqueue_0 : List UInt8 := dkwX0_enqueue_0 ++ dktX0_enqueue_1
theorem dksX0_enqueue_0 : cX0_enqueue.data.toList.drop 0 = dktX0_enqueue_0 := by decide +kernel
theorem dksX0_enqueue_1 : cX0_enqueue.data.toList.drop 24 = dktX0_enqueue_1 := dk_seg dksX0_enqueue_0 24 rfl rfl
theorem dX0_enqueue_0 : decode cX0_enqueue 0 = .ok (.aload_n 3, 1) := dk_45 (dk_at dksX0_enqueue_0 0 rfl rfl)
theorem dX0_enqueue_1 : decode cX0_enqueue 1 = .ok (.iconst 0, 1) := dk_3 (dk_at dksX0_enqueue_0 1 rfl rfl)
theorem dX0_enqueue_2 : decode cX0_enqueue 2 = .ok (.aload_n 0, 1) := dk_42 (dk_at dksX0_enqueue_0 2 rfl rfl)
theorem dX0_enqueue_3 : decode cX0_enqueue 3 = .ok (.iload_n 1, 1) := dk_27 (dk_at dksX0_enqueue_0 3 rfl rfl)
theorem dX0_enqueue_4 : decode cX0_enqueue 4 = .ok (.iload_n 2, 1) := dk_28 (dk_at dksX0_enqueue_0 4 rfl rfl)
theorem dX0_enqueue_5 : decode cX0_enqueue 5 = .ok (.invokevirtual 50, 3) := dk_182 0 50 (dk_at dksX0_enqueue_0 5 rfl rfl)
theorem dX0_enqueue_8 : decode cX0_enqueue 8 = .ok (.i2l, 1) := dk_133 (dk_at dksX0_enqueue_0 8 rfl rfl)
theorem dX0_enqueue_9 : decode cX0_enqueue 9 = .ok (.lastore, 1) := dk_80 (dk_at dksX0_enqueue_0 9 rfl rfl)
theorem dX0_enqueue_10 : decode cX0_enqueue 10 = .ok (.goto 15, 3) := dk_167 0 15 (dk_at dksX0_enqueue_0 10 rfl rfl)
theorem dX0_enqueue_13 : decode cX0_enqueue 13 = .ok (.astore 4, 2) := dk_58 4 (dk_at dksX0_enqueue_0 13 rfl rfl)
theorem dX0_enqueue_15 : decode cX0_enqueue 15 = .ok (.iconst 1, 1) := dk_4 (dk_at dksX0_enqueue_0 15 rfl rfl)
theorem dX0_enqueue_16 : decode cX0_enqueue 16 = .ok (.ireturn, 1) := dk_172 (dk_at dksX0_enqueue_0 16 rfl rfl)
theorem dX0_enqueue_17 : decode cX0_enqueue 17 = .ok (.astore 4, 2) := dk_58 4 (dk_at dksX0_enqueue_0 17 rfl rfl)
theorem dX0_enqueue_19 : decode cX0_enqueue 19 = .ok (.iconst 2, 1) := dk_5 (dk_at dksX0_enqueue_0 19 rfl rfl)
theorem dX0_enqueue_20 : decode cX0_enqueue 20 = .ok (.ireturn, 1) := dk_172 (dk_at dksX0_enqueue_0 20 rfl rfl)
theorem dX0_enqueue_21 : decode cX0_enqueue 21 = .ok (.astore 4, 2) := dk_58 4 (dk_at dksX0_enqueue_0 21 rfl rfl)
theorem dX0_enqueue_23 : decode cX0_enqueue 23 = .ok (.iconst 3, 1) := dk_6 (dk_at dksX0_enqueue_0 23 rfl rfl)
theorem dX0_enqueue_24 : decode cX0_enqueue 24 = .ok (.ireturn, 1) := dk_172 (dk_at dksX0_enqueue_1 0 rfl rfl)
theorem dX0_enqueue_25 : decode cX0_enqueue 25 = .ok (.iconst 0, 1) := dk_3 (dk_at dksX0_enqueue_1 1 rfl rfl)
theorem dX0_enqueue_26 : decode cX0_enqueue 26 = .ok (.ireturn, 1) := dk_172 (dk_at dksX0_enqueue_1 2 rfl rfl)
abbrev cX0_dequeue : ByteArray := method_14_code
def yX0_dequeue : MethodName := ⟨RX0, "dequeue", "(LHallPlan;I[J)I"⟩
def dkwX0_dequeue_0 : List UInt8 := [44, 3, 42, 27, 182, 0, 53, 133, 80, 167, 0, 6, 78, 4, 172, 3, 172]
abbrev dktX0_dequeue_0 : List UInt8 := dkwX0_dequeue_0 ++ []
theorem dksX0_dequeue_0 : cX0_dequeue.data.toList.drop 0 = dktX0_dequeue_0 := by decide +kernel
theorem dX0_dequeue_0 : decode cX0_dequeue 0 = .ok (.aload_n 2, 1) := dk_44 (dk_at dksX0_dequeue_0 0 rfl rfl)
theorem dX0_dequeue_1 : decode cX0_dequeue 1 = .ok (.iconst 0, 1) := dk_3 (dk_at dksX0_dequeue_0 1 rfl rfl)
theorem dX0_dequeue_2 : decode cX0_dequeue 2 = .ok (.aload_n 0, 1) := dk_42 (dk_at dksX0_dequeue_0 2 rfl rfl)
theorem dX0_dequeue_3 : decode cX0_dequeue 3 = .ok (.iload_n 1, 1) := dk_27 (dk_at dksX0_dequeue_0 3 rfl rfl)
theorem dX0_dequeue_4 : decode cX0_dequeue 4 = .ok (.invokevirtual 53, 3) := dk_182 0 53 (dk_at dksX0_dequeue_0 4 rfl rfl)
theorem dX0_dequeue_7 : decode cX0_dequeue 7 = .ok (.i2l, 1) := dk_133 (dk_at dksX0_dequeue_0 7 rfl rfl)
theorem dX0_dequeue_8 : decode cX0_dequeue 8 = .ok (.lastore, 1) := dk_80 (dk_at dksX0_dequeue_0 8 rfl rfl)
theorem dX0_dequeue_9 : decode cX0_dequeue 9 = .ok (.goto 6, 3) := dk_167 0 6 (dk_at dksX0_dequeue_0 9 rfl rfl)
theorem dX0_dequeue_12 : decode cX0_dequeue 12 = .ok (.astore_n 3, 1) := dk_78 (dk_at dksX0_dequeue_0 12 rfl rfl)
theorem dX0_dequeue_13 : decode cX0_dequeue 13 = .ok (.iconst 1, 1) := dk_4 (dk_at dksX0_dequeue_0 13 rfl rfl)
theorem dX0_dequeue_14 : decode cX0_dequeue 14 = .ok (.ireturn, 1) := dk_172 (dk_at dksX0_dequeue_0 14 rfl rfl)
theorem dX0_dequeue_15 : decode cX0_dequeue 15 = .ok (.iconst 0, 1) := dk_3 (dk_at dksX0_dequeue_0 15 rfl rfl)
theorem dX0_dequeue_16 : decode cX0_dequeue 16 = .ok (.ireturn, 1) := dk_172 (dk_at dksX0_dequeue_0 16 rfl rfl)
abbrev cX0_close : ByteArray := method_15_code
def yX0_close : MethodName := ⟨RX0, "close", "(LHallPlan;III[J)I"⟩
def dkwX0_close_1 : List UInt8 := [58, 5, 6, 172, 3, 172]
abbrev dktX0_close_1 : List UInt8 := dkwX0_close_1 ++ []
def dkwX0_close_0 : List UInt8 := [25, 4, 3, 42, 27, 28, 29, 182, 0, 56, 133, 80, 167, 0, 15, 58, 5, 4, 172, 58, 5, 5, 172]
abbrev dktX0_close_0 : List UInt8 := dkwX0_close_0 ++ dktX0_close_1
theorem dksX0_close_0 : cX0_close.data.toList.drop 0 = dktX0_close_0 := by decide +kernel
theorem dksX0_close_1 : cX0_close.data.toList.drop 23 = dktX0_close_1 := dk_seg dksX0_close_0 23 rfl rfl
theorem dX0_close_0 : decode cX0_close 0 = .ok (.aload 4, 2) := dk_25 4 (dk_at dksX0_close_0 0 rfl rfl)
theorem dX0_close_2 : decode cX0_close 2 = .ok (.iconst 0, 1) := dk_3 (dk_at dksX0_close_0 2 rfl rfl)
theorem dX0_close_3 : decode cX0_close 3 = .ok (.aload_n 0, 1) := dk_42 (dk_at dksX0_close_0 3 rfl rfl)
theorem dX0_close_4 : decode cX0_close 4 = .ok (.iload_n 1, 1) := dk_27 (dk_at dksX0_close_0 4 rfl rfl)
theorem dX0_close_5 : decode cX0_close 5 = .ok (.iload_n 2, 1) := dk_28 (dk_at dksX0_close_0 5 rfl rfl)
theorem dX0_close_6 : decode cX0_close 6 = .ok (.iload_n 3, 1) := dk_29 (dk_at dksX0_close_0 6 rfl rfl)
theorem dX0_close_7 : decode cX0_close 7 = .ok (.invokevirtual 56, 3) := dk_182 0 56 (dk_at dksX0_close_0 7 rfl rfl)
theorem dX0_close_10 : decode cX0_close 10 = .ok (.i2l, 1) := dk_133 (dk_at dksX0_close_0 10 rfl rfl)
theorem dX0_close_11 : decode cX0_close 11 = .ok (.lastore, 1) := dk_80 (dk_at dksX0_close_0 11 rfl rfl)
theorem dX0_close_12 : decode cX0_close 12 = .ok (.goto 15, 3) := dk_167 0 15 (dk_at dksX0_close_0 12 rfl rfl)
theorem dX0_close_15 : decode cX0_close 15 = .ok (.astore 5, 2) := dk_58 5 (dk_at dksX0_close_0 15 rfl rfl)
theorem dX0_close_17 : decode cX0_close 17 = .ok (.iconst 1, 1) := dk_4 (dk_at dksX0_close_0 17 rfl rfl)
theorem dX0_close_18 : decode cX0_close 18 = .ok (.ireturn, 1) := dk_172 (dk_at dksX0_close_0 18 rfl rfl)
theorem dX0_close_19 : decode cX0_close 19 = .ok (.astore 5, 2) := dk_58 5 (dk_at dksX0_close_0 19 rfl rfl)
theorem dX0_close_21 : decode cX0_close 21 = .ok (.iconst 2, 1) := dk_5 (dk_at dksX0_close_0 21 rfl rfl)
theorem dX0_close_22 : decode cX0_close 22 = .ok (.ireturn, 1) := dk_172 (dk_at dksX0_close_0 22 rfl rfl)
theorem dX0_close_23 : decode cX0_close 23 = .ok (.astore 5, 2) := dk_58 5 (dk_at dksX0_close_1 0 rfl rfl)
theorem dX0_close_25 : decode cX0_close 25 = .ok (.iconst 3, 1) := dk_6 (dk_at dksX0_close_1 2 rfl rfl)
theorem dX0_close_26 : decode cX0_close 26 = .ok (.ireturn, 1) := dk_172 (dk_at dksX0_close_1 3 rfl rfl)
theorem dX0_close_27 : decode cX0_close 27 = .ok (.iconst 0, 1) := dk_3 (dk_at dksX0_close_1 4 rfl rfl)
theorem dX0_close_28 : decode cX0_close 28 = .ok (.ireturn, 1) := dk_172 (dk_at dksX0_close_1 5 rfl rfl)
abbrev cX0_advance : ByteArray := method_16_code
def yX0_advance : MethodName := ⟨RX0, "advance", "(LHallPlan;I[J)I"⟩
def dkwX0_advance_0 : List UInt8 := [44, 3, 42, 27, 182, 0, 59, 133, 80, 167, 0, 6, 78, 4, 172, 3, 172]
abbrev dktX0_advance_0 : List UInt8 := dkwX0_advance_0 ++ []
theorem dksX0_advance_0 : cX0_advance.data.toList.drop 0 = dktX0_advance_0 := by decide +kernel
theorem dX0_advance_0 : decode cX0_advance 0 = .ok (.aload_n 2, 1) := dk_44 (dk_at dksX0_advance_0 0 rfl rfl)
theorem dX0_advance_1 : decode cX0_advance 1 = .ok (.iconst 0, 1) := dk_3 (dk_at dksX0_advance_0 1 rfl rfl)
theorem dX0_advance_2 : decode cX0_advance 2 = .ok (.aload_n 0, 1) := dk_42 (dk_at dksX0_advance_0 2 rfl rfl)
theorem dX0_advance_3 : decode cX0_advance 3 = .ok (.iload_n 1, 1) := dk_27 (dk_at dksX0_advance_0 3 rfl rfl)
theorem dX0_advance_4 : decode cX0_advance 4 = .ok (.invokevirtual 59, 3) := dk_182 0 59 (dk_at dksX0_advance_0 4 rfl rfl)
theorem dX0_advance_7 : decode cX0_advance 7 = .ok (.i2l, 1) := dk_133 (dk_at dksX0_advance_0 7 rfl rfl)
theorem dX0_advance_8 : decode cX0_advance 8 = .ok (.lastore, 1) := dk_80 (dk_at dksX0_advance_0 8 rfl rfl)
theorem dX0_advance_9 : decode cX0_advance 9 = .ok (.goto 6, 3) := dk_167 0 6 (dk_at dksX0_advance_0 9 rfl rfl)
theorem dX0_advance_12 : decode cX0_advance 12 = .ok (.astore_n 3, 1) := dk_78 (dk_at dksX0_advance_0 12 rfl rfl)
theorem dX0_advance_13 : decode cX0_advance 13 = .ok (.iconst 1, 1) := dk_4 (dk_at dksX0_advance_0 13 rfl rfl)
theorem dX0_advance_14 : decode cX0_advance 14 = .ok (.ireturn, 1) := dk_172 (dk_at dksX0_advance_0 14 rfl rfl)
theorem dX0_advance_15 : decode cX0_advance 15 = .ok (.iconst 0, 1) := dk_3 (dk_at dksX0_advance_0 15 rfl rfl)
theorem dX0_advance_16 : decode cX0_advance 16 = .ok (.ireturn, 1) := dk_172 (dk_at dksX0_advance_0 16 rfl rfl)
abbrev cX0_setup : ByteArray := method_17_code
def yX0_setup : MethodName := ⟨RX0, "setup", "(LHallPlan;I[J)I"⟩
def dkwX0_setup_0 : List UInt8 := [44, 3, 42, 27, 182, 0, 62, 133, 80, 167, 0, 6, 78, 4, 172, 3, 172]
abbrev dktX0_setup_0 : List UInt8 := dkwX0_setup_0 ++ []
theorem dksX0_setup_0 : cX0_setup.data.toList.drop 0 = dktX0_setup_0 := by decide +kernel
theorem dX0_setup_0 : decode cX0_setup 0 = .ok (.aload_n 2, 1) := dk_44 (dk_at dksX0_setup_0 0 rfl rfl)
theorem dX0_setup_1 : decode cX0_setup 1 = .ok (.iconst 0, 1) := dk_3 (dk_at dksX0_setup_0 1 rfl rfl)
theorem dX0_setup_2 : decode cX0_setup 2 = .ok (.aload_n 0, 1) := dk_42 (dk_at dksX0_setup_0 2 rfl rfl)
theorem dX0_setup_3 : decode cX0_setup 3 = .ok (.iload_n 1, 1) := dk_27 (dk_at dksX0_setup_0 3 rfl rfl)
theorem dX0_setup_4 : decode cX0_setup 4 = .ok (.invokevirtual 62, 3) := dk_182 0 62 (dk_at dksX0_setup_0 4 rfl rfl)
theorem dX0_setup_7 : decode cX0_setup 7 = .ok (.i2l, 1) := dk_133 (dk_at dksX0_setup_0 7 rfl rfl)
theorem dX0_setup_8 : decode cX0_setup 8 = .ok (.lastore, 1) := dk_80 (dk_at dksX0_setup_0 8 rfl rfl)
theorem dX0_setup_9 : decode cX0_setup 9 = .ok (.goto 6, 3) := dk_167 0 6 (dk_at dksX0_setup_0 9 rfl rfl)
theorem dX0_setup_12 : decode cX0_setup 12 = .ok (.astore_n 3, 1) := dk_78 (dk_at dksX0_setup_0 12 rfl rfl)
theorem dX0_setup_13 : decode cX0_setup 13 = .ok (.iconst 1, 1) := dk_4 (dk_at dksX0_setup_0 13 rfl rfl)
theorem dX0_setup_14 : decode cX0_setup 14 = .ok (.ireturn, 1) := dk_172 (dk_at dksX0_setup_0 14 rfl rfl)
theorem dX0_setup_15 : decode cX0_setup 15 = .ok (.iconst 0, 1) := dk_3 (dk_at dksX0_setup_0 15 rfl rfl)
theorem dX0_setup_16 : decode cX0_setup 16 = .ok (.ireturn, 1) := dk_172 (dk_at dksX0_setup_0 16 rfl rfl)
abbrev cX0_setupTime : ByteArray := method_18_code
def yX0_setupTime : MethodName := ⟨RX0, "setupTime", "(LHallPlan;II[J)I"⟩
def dkwX0_setupTime_0 : List UInt8 := [45, 3, 42, 27, 28, 182, 0, 65, 133, 80, 167, 0, 7, 58, 4, 4, 172, 3, 172]
abbrev dktX0_setupTime_0 : List UInt8 := dkwX0_setupTime_0 ++ []
theorem dksX0_setupTime_0 : cX0_setupTime.data.toList.drop 0 = dktX0_setupTime_0 := by decide +kernel
theorem dX0_setupTime_0 : decode cX0_setupTime 0 = .ok (.aload_n 3, 1) := dk_45 (dk_at dksX0_setupTime_0 0 rfl rfl)
theorem dX0_setupTime_1 : decode cX0_setupTime 1 = .ok (.iconst 0, 1) := dk_3 (dk_at dksX0_setupTime_0 1 rfl rfl)
theorem dX0_setupTime_2 : decode cX0_setupTime 2 = .ok (.aload_n 0, 1) := dk_42 (dk_at dksX0_setupTime_0 2 rfl rfl)
theorem dX0_setupTime_3 : decode cX0_setupTime 3 = .ok (.iload_n 1, 1) := dk_27 (dk_at dksX0_setupTime_0 3 rfl rfl)
theorem dX0_setupTime_4 : decode cX0_setupTime 4 = .ok (.iload_n 2, 1) := dk_28 (dk_at dksX0_setupTime_0 4 rfl rfl)
theorem dX0_setupTime_5 : decode cX0_setupTime 5 = .ok (.invokevirtual 65, 3) := dk_182 0 65 (dk_at dksX0_setupTime_0 5 rfl rfl)
theorem dX0_setupTime_8 : decode cX0_setupTime 8 = .ok (.i2l, 1) := dk_133 (dk_at dksX0_setupTime_0 8 rfl rfl)
theorem dX0_setupTime_9 : decode cX0_setupTime 9 = .ok (.lastore, 1) := dk_80 (dk_at dksX0_setupTime_0 9 rfl rfl)
theorem dX0_setupTime_10 : decode cX0_setupTime 10 = .ok (.goto 7, 3) := dk_167 0 7 (dk_at dksX0_setupTime_0 10 rfl rfl)
theorem dX0_setupTime_13 : decode cX0_setupTime 13 = .ok (.astore 4, 2) := dk_58 4 (dk_at dksX0_setupTime_0 13 rfl rfl)
theorem dX0_setupTime_15 : decode cX0_setupTime 15 = .ok (.iconst 1, 1) := dk_4 (dk_at dksX0_setupTime_0 15 rfl rfl)
theorem dX0_setupTime_16 : decode cX0_setupTime 16 = .ok (.ireturn, 1) := dk_172 (dk_at dksX0_setupTime_0 16 rfl rfl)
theorem dX0_setupTime_17 : decode cX0_setupTime 17 = .ok (.iconst 0, 1) := dk_3 (dk_at dksX0_setupTime_0 17 rfl rfl)
theorem dX0_setupTime_18 : decode cX0_setupTime 18 = .ok (.ireturn, 1) := dk_172 (dk_at dksX0_setupTime_0 18 rfl rfl)
abbrev cX0_isClosed : ByteArray := method_19_code
def yX0_isClosed : MethodName := ⟨RX0, "isClosed", "(LHallPlan;II[J)I"⟩
def dkwX0_isClosed_1 : List UInt8 := [58, 4, 5, 172, 3, 172]
abbrev dktX0_isClosed_1 : List UInt8 := dkwX0_isClosed_1 ++ []
def dkwX0_isClosed_0 : List UInt8 := [45, 3, 42, 27, 28, 182, 0, 68, 153, 0, 7, 10, 167, 0, 4, 9, 80, 167, 0, 11, 58, 4, 4, 172]
abbrev dktX0_isClosed_0 : List UInt8 := dkwX0_isClosed_0 ++ dktX0_isClosed_1
theorem dksX0_isClosed_0 : cX0_isClosed.data.toList.drop 0 = dktX0_isClosed_0 := by decide +kernel
theorem dksX0_isClosed_1 : cX0_isClosed.data.toList.drop 24 = dktX0_isClosed_1 := dk_seg dksX0_isClosed_0 24 rfl rfl
theorem dX0_isClosed_0 : decode cX0_isClosed 0 = .ok (.aload_n 3, 1) := dk_45 (dk_at dksX0_isClosed_0 0 rfl rfl)
theorem dX0_isClosed_1 : decode cX0_isClosed 1 = .ok (.iconst 0, 1) := dk_3 (dk_at dksX0_isClosed_0 1 rfl rfl)
theorem dX0_isClosed_2 : decode cX0_isClosed 2 = .ok (.aload_n 0, 1) := dk_42 (dk_at dksX0_isClosed_0 2 rfl rfl)
theorem dX0_isClosed_3 : decode cX0_isClosed 3 = .ok (.iload_n 1, 1) := dk_27 (dk_at dksX0_isClosed_0 3 rfl rfl)
theorem dX0_isClosed_4 : decode cX0_isClosed 4 = .ok (.iload_n 2, 1) := dk_28 (dk_at dksX0_isClosed_0 4 rfl rfl)
theorem dX0_isClosed_5 : decode cX0_isClosed 5 = .ok (.invokevirtual 68, 3) := dk_182 0 68 (dk_at dksX0_isClosed_0 5 rfl rfl)
theorem dX0_isClosed_8 : decode cX0_isClosed 8 = .ok (.ifCond .eq 7, 3) := dk_153 0 7 (dk_at dksX0_isClosed_0 8 rfl rfl)
theorem dX0_isClosed_11 : decode cX0_isClosed 11 = .ok (.lconst 1, 1) := dk_10 (dk_at dksX0_isClosed_0 11 rfl rfl)
theorem dX0_isClosed_12 : decode cX0_isClosed 12 = .ok (.goto 4, 3) := dk_167 0 4 (dk_at dksX0_isClosed_0 12 rfl rfl)
theorem dX0_isClosed_15 : decode cX0_isClosed 15 = .ok (.lconst 0, 1) := dk_9 (dk_at dksX0_isClosed_0 15 rfl rfl)
theorem dX0_isClosed_16 : decode cX0_isClosed 16 = .ok (.lastore, 1) := dk_80 (dk_at dksX0_isClosed_0 16 rfl rfl)
theorem dX0_isClosed_17 : decode cX0_isClosed 17 = .ok (.goto 11, 3) := dk_167 0 11 (dk_at dksX0_isClosed_0 17 rfl rfl)
theorem dX0_isClosed_20 : decode cX0_isClosed 20 = .ok (.astore 4, 2) := dk_58 4 (dk_at dksX0_isClosed_0 20 rfl rfl)
theorem dX0_isClosed_22 : decode cX0_isClosed 22 = .ok (.iconst 1, 1) := dk_4 (dk_at dksX0_isClosed_0 22 rfl rfl)
theorem dX0_isClosed_23 : decode cX0_isClosed 23 = .ok (.ireturn, 1) := dk_172 (dk_at dksX0_isClosed_0 23 rfl rfl)
theorem dX0_isClosed_24 : decode cX0_isClosed 24 = .ok (.astore 4, 2) := dk_58 4 (dk_at dksX0_isClosed_1 0 rfl rfl)
theorem dX0_isClosed_26 : decode cX0_isClosed 26 = .ok (.iconst 2, 1) := dk_5 (dk_at dksX0_isClosed_1 2 rfl rfl)
theorem dX0_isClosed_27 : decode cX0_isClosed 27 = .ok (.ireturn, 1) := dk_172 (dk_at dksX0_isClosed_1 3 rfl rfl)
theorem dX0_isClosed_28 : decode cX0_isClosed 28 = .ok (.iconst 0, 1) := dk_3 (dk_at dksX0_isClosed_1 4 rfl rfl)
theorem dX0_isClosed_29 : decode cX0_isClosed 29 = .ok (.ireturn, 1) := dk_172 (dk_at dksX0_isClosed_1 5 rfl rfl)
abbrev cX0_feePercent : ByteArray := method_20_code
def yX0_feePercent : MethodName := ⟨RX0, "feePercent", "(LHallPlan;I[J)I"⟩
def dkwX0_feePercent_0 : List UInt8 := [44, 3, 42, 27, 182, 0, 72, 133, 80, 167, 0, 6, 78, 4, 172, 3, 172]
abbrev dktX0_feePercent_0 : List UInt8 := dkwX0_feePercent_0 ++ []
theorem dksX0_feePercent_0 : cX0_feePercent.data.toList.drop 0 = dktX0_feePercent_0 := by decide +kernel
theorem dX0_feePercent_0 : decode cX0_feePercent 0 = .ok (.aload_n 2, 1) := dk_44 (dk_at dksX0_feePercent_0 0 rfl rfl)
theorem dX0_feePercent_1 : decode cX0_feePercent 1 = .ok (.iconst 0, 1) := dk_3 (dk_at dksX0_feePercent_0 1 rfl rfl)
theorem dX0_feePercent_2 : decode cX0_feePercent 2 = .ok (.aload_n 0, 1) := dk_42 (dk_at dksX0_feePercent_0 2 rfl rfl)
theorem dX0_feePercent_3 : decode cX0_feePercent 3 = .ok (.iload_n 1, 1) := dk_27 (dk_at dksX0_feePercent_0 3 rfl rfl)
theorem dX0_feePercent_4 : decode cX0_feePercent 4 = .ok (.invokevirtual 72, 3) := dk_182 0 72 (dk_at dksX0_feePercent_0 4 rfl rfl)
theorem dX0_feePercent_7 : decode cX0_feePercent 7 = .ok (.i2l, 1) := dk_133 (dk_at dksX0_feePercent_0 7 rfl rfl)
theorem dX0_feePercent_8 : decode cX0_feePercent 8 = .ok (.lastore, 1) := dk_80 (dk_at dksX0_feePercent_0 8 rfl rfl)
theorem dX0_feePercent_9 : decode cX0_feePercent 9 = .ok (.goto 6, 3) := dk_167 0 6 (dk_at dksX0_feePercent_0 9 rfl rfl)
theorem dX0_feePercent_12 : decode cX0_feePercent 12 = .ok (.astore_n 3, 1) := dk_78 (dk_at dksX0_feePercent_0 12 rfl rfl)
theorem dX0_feePercent_13 : decode cX0_feePercent 13 = .ok (.iconst 1, 1) := dk_4 (dk_at dksX0_feePercent_0 13 rfl rfl)
theorem dX0_feePercent_14 : decode cX0_feePercent 14 = .ok (.ireturn, 1) := dk_172 (dk_at dksX0_feePercent_0 14 rfl rfl)
theorem dX0_feePercent_15 : decode cX0_feePercent 15 = .ok (.iconst 0, 1) := dk_3 (dk_at dksX0_feePercent_0 15 rfl rfl)
theorem dX0_feePercent_16 : decode cX0_feePercent 16 = .ok (.ireturn, 1) := dk_172 (dk_at dksX0_feePercent_0 16 rfl rfl)
abbrev cX0_booking : ByteArray := method_21_code
def yX0_booking : MethodName := ⟨RX0, "booking", "(LHallPlan;II[J)I"⟩
def dkwX0_booking_0 : List UInt8 := [45, 3, 42, 27, 28, 182, 0, 75, 133, 80, 167, 0, 11, 58, 4, 4, 172, 58, 4, 5, 172, 3, 172]
abbrev dktX0_booking_0 : List UInt8 := dkwX0_booking_0 ++ []
theorem dksX0_booking_0 : cX0_booking.data.toList.drop 0 = dktX0_booking_0 := by decide +kernel
theorem dX0_booking_0 : decode cX0_booking 0 = .ok (.aload_n 3, 1) := dk_45 (dk_at dksX0_booking_0 0 rfl rfl)
theorem dX0_booking_1 : decode cX0_booking 1 = .ok (.iconst 0, 1) := dk_3 (dk_at dksX0_booking_0 1 rfl rfl)
theorem dX0_booking_2 : decode cX0_booking 2 = .ok (.aload_n 0, 1) := dk_42 (dk_at dksX0_booking_0 2 rfl rfl)
theorem dX0_booking_3 : decode cX0_booking 3 = .ok (.iload_n 1, 1) := dk_27 (dk_at dksX0_booking_0 3 rfl rfl)
theorem dX0_booking_4 : decode cX0_booking 4 = .ok (.iload_n 2, 1) := dk_28 (dk_at dksX0_booking_0 4 rfl rfl)
theorem dX0_booking_5 : decode cX0_booking 5 = .ok (.invokevirtual 75, 3) := dk_182 0 75 (dk_at dksX0_booking_0 5 rfl rfl)
theorem dX0_booking_8 : decode cX0_booking 8 = .ok (.i2l, 1) := dk_133 (dk_at dksX0_booking_0 8 rfl rfl)
theorem dX0_booking_9 : decode cX0_booking 9 = .ok (.lastore, 1) := dk_80 (dk_at dksX0_booking_0 9 rfl rfl)
theorem dX0_booking_10 : decode cX0_booking 10 = .ok (.goto 11, 3) := dk_167 0 11 (dk_at dksX0_booking_0 10 rfl rfl)
theorem dX0_booking_13 : decode cX0_booking 13 = .ok (.astore 4, 2) := dk_58 4 (dk_at dksX0_booking_0 13 rfl rfl)
theorem dX0_booking_15 : decode cX0_booking 15 = .ok (.iconst 1, 1) := dk_4 (dk_at dksX0_booking_0 15 rfl rfl)
theorem dX0_booking_16 : decode cX0_booking 16 = .ok (.ireturn, 1) := dk_172 (dk_at dksX0_booking_0 16 rfl rfl)
theorem dX0_booking_17 : decode cX0_booking 17 = .ok (.astore 4, 2) := dk_58 4 (dk_at dksX0_booking_0 17 rfl rfl)
theorem dX0_booking_19 : decode cX0_booking 19 = .ok (.iconst 2, 1) := dk_5 (dk_at dksX0_booking_0 19 rfl rfl)
theorem dX0_booking_20 : decode cX0_booking 20 = .ok (.ireturn, 1) := dk_172 (dk_at dksX0_booking_0 20 rfl rfl)
theorem dX0_booking_21 : decode cX0_booking 21 = .ok (.iconst 0, 1) := dk_3 (dk_at dksX0_booking_0 21 rfl rfl)
theorem dX0_booking_22 : decode cX0_booking 22 = .ok (.ireturn, 1) := dk_172 (dk_at dksX0_booking_0 22 rfl rfl)
abbrev cX0_bookedNeed : ByteArray := method_22_code
def yX0_bookedNeed : MethodName := ⟨RX0, "bookedNeed", "(LHallPlan;II[J)I"⟩
def dkwX0_bookedNeed_0 : List UInt8 := [45, 3, 42, 27, 28, 182, 0, 78, 133, 80, 167, 0, 7, 58, 4, 4, 172, 3, 172]
abbrev dktX0_bookedNeed_0 : List UInt8 := dkwX0_bookedNeed_0 ++ []
theorem dksX0_bookedNeed_0 : cX0_bookedNeed.data.toList.drop 0 = dktX0_bookedNeed_0 := by decide +kernel
theorem dX0_bookedNeed_0 : decode cX0_bookedNeed 0 = .ok (.aload_n 3, 1) := dk_45 (dk_at dksX0_bookedNeed_0 0 rfl rfl)
theorem dX0_bookedNeed_1 : decode cX0_bookedNeed 1 = .ok (.iconst 0, 1) := dk_3 (dk_at dksX0_bookedNeed_0 1 rfl rfl)
theorem dX0_bookedNeed_2 : decode cX0_bookedNeed 2 = .ok (.aload_n 0, 1) := dk_42 (dk_at dksX0_bookedNeed_0 2 rfl rfl)
theorem dX0_bookedNeed_3 : decode cX0_bookedNeed 3 = .ok (.iload_n 1, 1) := dk_27 (dk_at dksX0_bookedNeed_0 3 rfl rfl)
theorem dX0_bookedNeed_4 : decode cX0_bookedNeed 4 = .ok (.iload_n 2, 1) := dk_28 (dk_at dksX0_bookedNeed_0 4 rfl rfl)
theorem dX0_bookedNeed_5 : decode cX0_bookedNeed 5 = .ok (.invokevirtual 78, 3) := dk_182 0 78 (dk_at dksX0_bookedNeed_0 5 rfl rfl)
theorem dX0_bookedNeed_8 : decode cX0_bookedNeed 8 = .ok (.i2l, 1) := dk_133 (dk_at dksX0_bookedNeed_0 8 rfl rfl)
theorem dX0_bookedNeed_9 : decode cX0_bookedNeed 9 = .ok (.lastore, 1) := dk_80 (dk_at dksX0_bookedNeed_0 9 rfl rfl)
theorem dX0_bookedNeed_10 : decode cX0_bookedNeed 10 = .ok (.goto 7, 3) := dk_167 0 7 (dk_at dksX0_bookedNeed_0 10 rfl rfl)
theorem dX0_bookedNeed_13 : decode cX0_bookedNeed 13 = .ok (.astore 4, 2) := dk_58 4 (dk_at dksX0_bookedNeed_0 13 rfl rfl)
theorem dX0_bookedNeed_15 : decode cX0_bookedNeed 15 = .ok (.iconst 1, 1) := dk_4 (dk_at dksX0_bookedNeed_0 15 rfl rfl)
theorem dX0_bookedNeed_16 : decode cX0_bookedNeed 16 = .ok (.ireturn, 1) := dk_172 (dk_at dksX0_bookedNeed_0 16 rfl rfl)
theorem dX0_bookedNeed_17 : decode cX0_bookedNeed 17 = .ok (.iconst 0, 1) := dk_3 (dk_at dksX0_bookedNeed_0 17 rfl rfl)
theorem dX0_bookedNeed_18 : decode cX0_bookedNeed 18 = .ok (.ireturn, 1) := dk_172 (dk_at dksX0_bookedNeed_0 18 rfl rfl)
abbrev cX0_request : ByteArray := method_23_code
def yX0_request : MethodName := ⟨RX0, "request", "(LHallPlan;II[J)I"⟩
def dkwX0_request_0 : List UInt8 := [45, 3, 42, 27, 28, 182, 0, 81, 133, 80, 167, 0, 11, 58, 4, 4, 172, 58, 4, 5, 172, 3, 172]
abbrev dktX0_request_0 : List UInt8 := dkwX0_request_0 ++ []
theorem dksX0_request_0 : cX0_request.data.toList.drop 0 = dktX0_request_0 := by decide +kernel
theorem dX0_request_0 : decode cX0_request 0 = .ok (.aload_n 3, 1) := dk_45 (dk_at dksX0_request_0 0 rfl rfl)
theorem dX0_request_1 : decode cX0_request 1 = .ok (.iconst 0, 1) := dk_3 (dk_at dksX0_request_0 1 rfl rfl)
theorem dX0_request_2 : decode cX0_request 2 = .ok (.aload_n 0, 1) := dk_42 (dk_at dksX0_request_0 2 rfl rfl)
theorem dX0_request_3 : decode cX0_request 3 = .ok (.iload_n 1, 1) := dk_27 (dk_at dksX0_request_0 3 rfl rfl)
theorem dX0_request_4 : decode cX0_request 4 = .ok (.iload_n 2, 1) := dk_28 (dk_at dksX0_request_0 4 rfl rfl)
theorem dX0_request_5 : decode cX0_request 5 = .ok (.invokevirtual 81, 3) := dk_182 0 81 (dk_at dksX0_request_0 5 rfl rfl)
theorem dX0_request_8 : decode cX0_request 8 = .ok (.i2l, 1) := dk_133 (dk_at dksX0_request_0 8 rfl rfl)
theorem dX0_request_9 : decode cX0_request 9 = .ok (.lastore, 1) := dk_80 (dk_at dksX0_request_0 9 rfl rfl)
theorem dX0_request_10 : decode cX0_request 10 = .ok (.goto 11, 3) := dk_167 0 11 (dk_at dksX0_request_0 10 rfl rfl)
theorem dX0_request_13 : decode cX0_request 13 = .ok (.astore 4, 2) := dk_58 4 (dk_at dksX0_request_0 13 rfl rfl)
theorem dX0_request_15 : decode cX0_request 15 = .ok (.iconst 1, 1) := dk_4 (dk_at dksX0_request_0 15 rfl rfl)
theorem dX0_request_16 : decode cX0_request 16 = .ok (.ireturn, 1) := dk_172 (dk_at dksX0_request_0 16 rfl rfl)
theorem dX0_request_17 : decode cX0_request 17 = .ok (.astore 4, 2) := dk_58 4 (dk_at dksX0_request_0 17 rfl rfl)
theorem dX0_request_19 : decode cX0_request 19 = .ok (.iconst 2, 1) := dk_5 (dk_at dksX0_request_0 19 rfl rfl)
theorem dX0_request_20 : decode cX0_request 20 = .ok (.ireturn, 1) := dk_172 (dk_at dksX0_request_0 20 rfl rfl)
theorem dX0_request_21 : decode cX0_request 21 = .ok (.iconst 0, 1) := dk_3 (dk_at dksX0_request_0 21 rfl rfl)
theorem dX0_request_22 : decode cX0_request 22 = .ok (.ireturn, 1) := dk_172 (dk_at dksX0_request_0 22 rfl rfl)
abbrev cX0_problem : ByteArray := method_24_code
def yX0_problem : MethodName := ⟨RX0, "problem", "(LHallPlan;II[J)I"⟩
def dkwX0_problem_1 : List UInt8 := [172, 3, 172]
abbrev dktX0_problem_1 : List UInt8 := dkwX0_problem_1 ++ []
def dkwX0_problem_0 : List UInt8 := [45, 3, 42, 27, 28, 182, 0, 84, 133, 80, 167, 0, 15, 58, 4, 4, 172, 58, 4, 5, 172, 58, 4, 6]
abbrev dktX0_problem_0 : List UInt8 := dkwX0_problem_0 ++ dktX0_problem_1
theorem dksX0_problem_0 : cX0_problem.data.toList.drop 0 = dktX0_problem_0 := by decide +kernel
theorem dksX0_problem_1 : cX0_problem.data.toList.drop 24 = dktX0_problem_1 := dk_seg dksX0_problem_0 24 rfl rfl
theorem dX0_problem_0 : decode cX0_problem 0 = .ok (.aload_n 3, 1) := dk_45 (dk_at dksX0_problem_0 0 rfl rfl)
theorem dX0_problem_1 : decode cX0_problem 1 = .ok (.iconst 0, 1) := dk_3 (dk_at dksX0_problem_0 1 rfl rfl)
theorem dX0_problem_2 : decode cX0_problem 2 = .ok (.aload_n 0, 1) := dk_42 (dk_at dksX0_problem_0 2 rfl rfl)
theorem dX0_problem_3 : decode cX0_problem 3 = .ok (.iload_n 1, 1) := dk_27 (dk_at dksX0_problem_0 3 rfl rfl)
theorem dX0_problem_4 : decode cX0_problem 4 = .ok (.iload_n 2, 1) := dk_28 (dk_at dksX0_problem_0 4 rfl rfl)
theorem dX0_problem_5 : decode cX0_problem 5 = .ok (.invokevirtual 84, 3) := dk_182 0 84 (dk_at dksX0_problem_0 5 rfl rfl)
theorem dX0_problem_8 : decode cX0_problem 8 = .ok (.i2l, 1) := dk_133 (dk_at dksX0_problem_0 8 rfl rfl)
theorem dX0_problem_9 : decode cX0_problem 9 = .ok (.lastore, 1) := dk_80 (dk_at dksX0_problem_0 9 rfl rfl)
theorem dX0_problem_10 : decode cX0_problem 10 = .ok (.goto 15, 3) := dk_167 0 15 (dk_at dksX0_problem_0 10 rfl rfl)
theorem dX0_problem_13 : decode cX0_problem 13 = .ok (.astore 4, 2) := dk_58 4 (dk_at dksX0_problem_0 13 rfl rfl)
theorem dX0_problem_15 : decode cX0_problem 15 = .ok (.iconst 1, 1) := dk_4 (dk_at dksX0_problem_0 15 rfl rfl)
theorem dX0_problem_16 : decode cX0_problem 16 = .ok (.ireturn, 1) := dk_172 (dk_at dksX0_problem_0 16 rfl rfl)
theorem dX0_problem_17 : decode cX0_problem 17 = .ok (.astore 4, 2) := dk_58 4 (dk_at dksX0_problem_0 17 rfl rfl)
theorem dX0_problem_19 : decode cX0_problem 19 = .ok (.iconst 2, 1) := dk_5 (dk_at dksX0_problem_0 19 rfl rfl)
theorem dX0_problem_20 : decode cX0_problem 20 = .ok (.ireturn, 1) := dk_172 (dk_at dksX0_problem_0 20 rfl rfl)
theorem dX0_problem_21 : decode cX0_problem 21 = .ok (.astore 4, 2) := dk_58 4 (dk_at dksX0_problem_0 21 rfl rfl)
theorem dX0_problem_23 : decode cX0_problem 23 = .ok (.iconst 3, 1) := dk_6 (dk_at dksX0_problem_0 23 rfl rfl)
theorem dX0_problem_24 : decode cX0_problem 24 = .ok (.ireturn, 1) := dk_172 (dk_at dksX0_problem_1 0 rfl rfl)
theorem dX0_problem_25 : decode cX0_problem 25 = .ok (.iconst 0, 1) := dk_3 (dk_at dksX0_problem_1 1 rfl rfl)
theorem dX0_problem_26 : decode cX0_problem 26 = .ok (.ireturn, 1) := dk_172 (dk_at dksX0_problem_1 2 rfl rfl)
abbrev cX0_price : ByteArray := method_25_code
def yX0_price : MethodName := ⟨RX0, "price", "(LHallPlan;II[J)I"⟩
def dkwX0_price_0 : List UInt8 := [45, 3, 42, 27, 28, 182, 0, 87, 133, 80, 167, 0, 11, 58, 4, 4, 172, 58, 4, 5, 172, 3, 172]
abbrev dktX0_price_0 : List UInt8 := dkwX0_price_0 ++ []
theorem dksX0_price_0 : cX0_price.data.toList.drop 0 = dktX0_price_0 := by decide +kernel
theorem dX0_price_0 : decode cX0_price 0 = .ok (.aload_n 3, 1) := dk_45 (dk_at dksX0_price_0 0 rfl rfl)
theorem dX0_price_1 : decode cX0_price 1 = .ok (.iconst 0, 1) := dk_3 (dk_at dksX0_price_0 1 rfl rfl)
theorem dX0_price_2 : decode cX0_price 2 = .ok (.aload_n 0, 1) := dk_42 (dk_at dksX0_price_0 2 rfl rfl)
theorem dX0_price_3 : decode cX0_price 3 = .ok (.iload_n 1, 1) := dk_27 (dk_at dksX0_price_0 3 rfl rfl)
theorem dX0_price_4 : decode cX0_price 4 = .ok (.iload_n 2, 1) := dk_28 (dk_at dksX0_price_0 4 rfl rfl)
theorem dX0_price_5 : decode cX0_price 5 = .ok (.invokevirtual 87, 3) := dk_182 0 87 (dk_at dksX0_price_0 5 rfl rfl)
theorem dX0_price_8 : decode cX0_price 8 = .ok (.i2l, 1) := dk_133 (dk_at dksX0_price_0 8 rfl rfl)
theorem dX0_price_9 : decode cX0_price 9 = .ok (.lastore, 1) := dk_80 (dk_at dksX0_price_0 9 rfl rfl)
theorem dX0_price_10 : decode cX0_price 10 = .ok (.goto 11, 3) := dk_167 0 11 (dk_at dksX0_price_0 10 rfl rfl)
theorem dX0_price_13 : decode cX0_price 13 = .ok (.astore 4, 2) := dk_58 4 (dk_at dksX0_price_0 13 rfl rfl)
theorem dX0_price_15 : decode cX0_price 15 = .ok (.iconst 1, 1) := dk_4 (dk_at dksX0_price_0 15 rfl rfl)
theorem dX0_price_16 : decode cX0_price 16 = .ok (.ireturn, 1) := dk_172 (dk_at dksX0_price_0 16 rfl rfl)
theorem dX0_price_17 : decode cX0_price 17 = .ok (.astore 4, 2) := dk_58 4 (dk_at dksX0_price_0 17 rfl rfl)
theorem dX0_price_19 : decode cX0_price 19 = .ok (.iconst 2, 1) := dk_5 (dk_at dksX0_price_0 19 rfl rfl)
theorem dX0_price_20 : decode cX0_price 20 = .ok (.ireturn, 1) := dk_172 (dk_at dksX0_price_0 20 rfl rfl)
theorem dX0_price_21 : decode cX0_price 21 = .ok (.iconst 0, 1) := dk_3 (dk_at dksX0_price_0 21 rfl rfl)
theorem dX0_price_22 : decode cX0_price 22 = .ok (.ireturn, 1) := dk_172 (dk_at dksX0_price_0 22 rfl rfl)
abbrev cX0_earliest : ByteArray := method_26_code
def yX0_earliest : MethodName := ⟨RX0, "earliest", "(LHallPlan;II[J)I"⟩
def dkwX0_earliest_1 : List UInt8 := [172, 58, 4, 7, 172, 3, 172]
abbrev dktX0_earliest_1 : List UInt8 := dkwX0_earliest_1 ++ []
def dkwX0_earliest_0 : List UInt8 := [45, 3, 42, 27, 28, 182, 0, 90, 133, 80, 167, 0, 19, 58, 4, 4, 172, 58, 4, 5, 172, 58, 4, 6]
abbrev dktX0_earliest_0 : List UInt8 := dkwX0_earliest_0 ++ dktX0_earliest_1
theorem dksX0_earliest_0 : cX0_earliest.data.toList.drop 0 = dktX0_earliest_0 := by decide +kernel
theorem dksX0_earliest_1 : cX0_earliest.data.toList.drop 24 = dktX0_earliest_1 := dk_seg dksX0_earliest_0 24 rfl rfl
theorem dX0_earliest_0 : decode cX0_earliest 0 = .ok (.aload_n 3, 1) := dk_45 (dk_at dksX0_earliest_0 0 rfl rfl)
theorem dX0_earliest_1 : decode cX0_earliest 1 = .ok (.iconst 0, 1) := dk_3 (dk_at dksX0_earliest_0 1 rfl rfl)
theorem dX0_earliest_2 : decode cX0_earliest 2 = .ok (.aload_n 0, 1) := dk_42 (dk_at dksX0_earliest_0 2 rfl rfl)
theorem dX0_earliest_3 : decode cX0_earliest 3 = .ok (.iload_n 1, 1) := dk_27 (dk_at dksX0_earliest_0 3 rfl rfl)
theorem dX0_earliest_4 : decode cX0_earliest 4 = .ok (.iload_n 2, 1) := dk_28 (dk_at dksX0_earliest_0 4 rfl rfl)
theorem dX0_earliest_5 : decode cX0_earliest 5 = .ok (.invokevirtual 90, 3) := dk_182 0 90 (dk_at dksX0_earliest_0 5 rfl rfl)
theorem dX0_earliest_8 : decode cX0_earliest 8 = .ok (.i2l, 1) := dk_133 (dk_at dksX0_earliest_0 8 rfl rfl)
theorem dX0_earliest_9 : decode cX0_earliest 9 = .ok (.lastore, 1) := dk_80 (dk_at dksX0_earliest_0 9 rfl rfl)
theorem dX0_earliest_10 : decode cX0_earliest 10 = .ok (.goto 19, 3) := dk_167 0 19 (dk_at dksX0_earliest_0 10 rfl rfl)
theorem dX0_earliest_13 : decode cX0_earliest 13 = .ok (.astore 4, 2) := dk_58 4 (dk_at dksX0_earliest_0 13 rfl rfl)
theorem dX0_earliest_15 : decode cX0_earliest 15 = .ok (.iconst 1, 1) := dk_4 (dk_at dksX0_earliest_0 15 rfl rfl)
theorem dX0_earliest_16 : decode cX0_earliest 16 = .ok (.ireturn, 1) := dk_172 (dk_at dksX0_earliest_0 16 rfl rfl)
theorem dX0_earliest_17 : decode cX0_earliest 17 = .ok (.astore 4, 2) := dk_58 4 (dk_at dksX0_earliest_0 17 rfl rfl)
theorem dX0_earliest_19 : decode cX0_earliest 19 = .ok (.iconst 2, 1) := dk_5 (dk_at dksX0_earliest_0 19 rfl rfl)
theorem dX0_earliest_20 : decode cX0_earliest 20 = .ok (.ireturn, 1) := dk_172 (dk_at dksX0_earliest_0 20 rfl rfl)
theorem dX0_earliest_21 : decode cX0_earliest 21 = .ok (.astore 4, 2) := dk_58 4 (dk_at dksX0_earliest_0 21 rfl rfl)
theorem dX0_earliest_23 : decode cX0_earliest 23 = .ok (.iconst 3, 1) := dk_6 (dk_at dksX0_earliest_0 23 rfl rfl)
theorem dX0_earliest_24 : decode cX0_earliest 24 = .ok (.ireturn, 1) := dk_172 (dk_at dksX0_earliest_1 0 rfl rfl)
theorem dX0_earliest_25 : decode cX0_earliest 25 = .ok (.astore 4, 2) := dk_58 4 (dk_at dksX0_earliest_1 1 rfl rfl)
theorem dX0_earliest_27 : decode cX0_earliest 27 = .ok (.iconst 4, 1) := dk_7 (dk_at dksX0_earliest_1 3 rfl rfl)
theorem dX0_earliest_28 : decode cX0_earliest 28 = .ok (.ireturn, 1) := dk_172 (dk_at dksX0_earliest_1 4 rfl rfl)
theorem dX0_earliest_29 : decode cX0_earliest 29 = .ok (.iconst 0, 1) := dk_3 (dk_at dksX0_earliest_1 5 rfl rfl)
theorem dX0_earliest_30 : decode cX0_earliest 30 = .ok (.ireturn, 1) := dk_172 (dk_at dksX0_earliest_1 6 rfl rfl)
abbrev cX0_earliestHall : ByteArray := method_27_code
def yX0_earliestHall : MethodName := ⟨RX0, "earliestHall", "(LHallPlan;I[J)I"⟩
def dkwX0_earliestHall_0 : List UInt8 := [44, 3, 42, 27, 182, 0, 95, 133, 80, 167, 0, 12, 78, 4, 172, 78, 5, 172, 78, 6, 172, 3, 172]
abbrev dktX0_earliestHall_0 : List UInt8 := dkwX0_earliestHall_0 ++ []
theorem dksX0_earliestHall_0 : cX0_earliestHall.data.toList.drop 0 = dktX0_earliestHall_0 := by decide +kernel
theorem dX0_earliestHall_0 : decode cX0_earliestHall 0 = .ok (.aload_n 2, 1) := dk_44 (dk_at dksX0_earliestHall_0 0 rfl rfl)
theorem dX0_earliestHall_1 : decode cX0_earliestHall 1 = .ok (.iconst 0, 1) := dk_3 (dk_at dksX0_earliestHall_0 1 rfl rfl)
theorem dX0_earliestHall_2 : decode cX0_earliestHall 2 = .ok (.aload_n 0, 1) := dk_42 (dk_at dksX0_earliestHall_0 2 rfl rfl)
theorem dX0_earliestHall_3 : decode cX0_earliestHall 3 = .ok (.iload_n 1, 1) := dk_27 (dk_at dksX0_earliestHall_0 3 rfl rfl)
theorem dX0_earliestHall_4 : decode cX0_earliestHall 4 = .ok (.invokevirtual 95, 3) := dk_182 0 95 (dk_at dksX0_earliestHall_0 4 rfl rfl)
theorem dX0_earliestHall_7 : decode cX0_earliestHall 7 = .ok (.i2l, 1) := dk_133 (dk_at dksX0_earliestHall_0 7 rfl rfl)
theorem dX0_earliestHall_8 : decode cX0_earliestHall 8 = .ok (.lastore, 1) := dk_80 (dk_at dksX0_earliestHall_0 8 rfl rfl)
theorem dX0_earliestHall_9 : decode cX0_earliestHall 9 = .ok (.goto 12, 3) := dk_167 0 12 (dk_at dksX0_earliestHall_0 9 rfl rfl)
theorem dX0_earliestHall_12 : decode cX0_earliestHall 12 = .ok (.astore_n 3, 1) := dk_78 (dk_at dksX0_earliestHall_0 12 rfl rfl)
theorem dX0_earliestHall_13 : decode cX0_earliestHall 13 = .ok (.iconst 1, 1) := dk_4 (dk_at dksX0_earliestHall_0 13 rfl rfl)
theorem dX0_earliestHall_14 : decode cX0_earliestHall 14 = .ok (.ireturn, 1) := dk_172 (dk_at dksX0_earliestHall_0 14 rfl rfl)
theorem dX0_earliestHall_15 : decode cX0_earliestHall 15 = .ok (.astore_n 3, 1) := dk_78 (dk_at dksX0_earliestHall_0 15 rfl rfl)
theorem dX0_earliestHall_16 : decode cX0_earliestHall 16 = .ok (.iconst 2, 1) := dk_5 (dk_at dksX0_earliestHall_0 16 rfl rfl)
theorem dX0_earliestHall_17 : decode cX0_earliestHall 17 = .ok (.ireturn, 1) := dk_172 (dk_at dksX0_earliestHall_0 17 rfl rfl)
theorem dX0_earliestHall_18 : decode cX0_earliestHall 18 = .ok (.astore_n 3, 1) := dk_78 (dk_at dksX0_earliestHall_0 18 rfl rfl)
theorem dX0_earliestHall_19 : decode cX0_earliestHall 19 = .ok (.iconst 3, 1) := dk_6 (dk_at dksX0_earliestHall_0 19 rfl rfl)
theorem dX0_earliestHall_20 : decode cX0_earliestHall 20 = .ok (.ireturn, 1) := dk_172 (dk_at dksX0_earliestHall_0 20 rfl rfl)
theorem dX0_earliestHall_21 : decode cX0_earliestHall 21 = .ok (.iconst 0, 1) := dk_3 (dk_at dksX0_earliestHall_0 21 rfl rfl)
theorem dX0_earliestHall_22 : decode cX0_earliestHall 22 = .ok (.ireturn, 1) := dk_172 (dk_at dksX0_earliestHall_0 22 rfl rfl)
abbrev cX0_conflicts : ByteArray := method_28_code
def yX0_conflicts : MethodName := ⟨RX0, "conflicts", "(LHallPlan;II[J)I"⟩
def dkwX0_conflicts_1 : List UInt8 := [3, 172]
abbrev dktX0_conflicts_1 : List UInt8 := dkwX0_conflicts_1 ++ []
def dkwX0_conflicts_0 : List UInt8 := [45, 3, 42, 27, 28, 182, 0, 98, 80, 167, 0, 15, 58, 4, 4, 172, 58, 4, 5, 172, 58, 4, 6, 172]
abbrev dktX0_conflicts_0 : List UInt8 := dkwX0_conflicts_0 ++ dktX0_conflicts_1
theorem dksX0_conflicts_0 : cX0_conflicts.data.toList.drop 0 = dktX0_conflicts_0 := by decide +kernel
theorem dksX0_conflicts_1 : cX0_conflicts.data.toList.drop 24 = dktX0_conflicts_1 := dk_seg dksX0_conflicts_0 24 rfl rfl
theorem dX0_conflicts_0 : decode cX0_conflicts 0 = .ok (.aload_n 3, 1) := dk_45 (dk_at dksX0_conflicts_0 0 rfl rfl)
theorem dX0_conflicts_1 : decode cX0_conflicts 1 = .ok (.iconst 0, 1) := dk_3 (dk_at dksX0_conflicts_0 1 rfl rfl)
theorem dX0_conflicts_2 : decode cX0_conflicts 2 = .ok (.aload_n 0, 1) := dk_42 (dk_at dksX0_conflicts_0 2 rfl rfl)
theorem dX0_conflicts_3 : decode cX0_conflicts 3 = .ok (.iload_n 1, 1) := dk_27 (dk_at dksX0_conflicts_0 3 rfl rfl)
theorem dX0_conflicts_4 : decode cX0_conflicts 4 = .ok (.iload_n 2, 1) := dk_28 (dk_at dksX0_conflicts_0 4 rfl rfl)
theorem dX0_conflicts_5 : decode cX0_conflicts 5 = .ok (.invokevirtual 98, 3) := dk_182 0 98 (dk_at dksX0_conflicts_0 5 rfl rfl)
theorem dX0_conflicts_8 : decode cX0_conflicts 8 = .ok (.lastore, 1) := dk_80 (dk_at dksX0_conflicts_0 8 rfl rfl)
theorem dX0_conflicts_9 : decode cX0_conflicts 9 = .ok (.goto 15, 3) := dk_167 0 15 (dk_at dksX0_conflicts_0 9 rfl rfl)
theorem dX0_conflicts_12 : decode cX0_conflicts 12 = .ok (.astore 4, 2) := dk_58 4 (dk_at dksX0_conflicts_0 12 rfl rfl)
theorem dX0_conflicts_14 : decode cX0_conflicts 14 = .ok (.iconst 1, 1) := dk_4 (dk_at dksX0_conflicts_0 14 rfl rfl)
theorem dX0_conflicts_15 : decode cX0_conflicts 15 = .ok (.ireturn, 1) := dk_172 (dk_at dksX0_conflicts_0 15 rfl rfl)
theorem dX0_conflicts_16 : decode cX0_conflicts 16 = .ok (.astore 4, 2) := dk_58 4 (dk_at dksX0_conflicts_0 16 rfl rfl)
theorem dX0_conflicts_18 : decode cX0_conflicts 18 = .ok (.iconst 2, 1) := dk_5 (dk_at dksX0_conflicts_0 18 rfl rfl)
theorem dX0_conflicts_19 : decode cX0_conflicts 19 = .ok (.ireturn, 1) := dk_172 (dk_at dksX0_conflicts_0 19 rfl rfl)
theorem dX0_conflicts_20 : decode cX0_conflicts 20 = .ok (.astore 4, 2) := dk_58 4 (dk_at dksX0_conflicts_0 20 rfl rfl)
theorem dX0_conflicts_22 : decode cX0_conflicts 22 = .ok (.iconst 3, 1) := dk_6 (dk_at dksX0_conflicts_0 22 rfl rfl)
theorem dX0_conflicts_23 : decode cX0_conflicts 23 = .ok (.ireturn, 1) := dk_172 (dk_at dksX0_conflicts_0 23 rfl rfl)
theorem dX0_conflicts_24 : decode cX0_conflicts 24 = .ok (.iconst 0, 1) := dk_3 (dk_at dksX0_conflicts_1 0 rfl rfl)
theorem dX0_conflicts_25 : decode cX0_conflicts 25 = .ok (.ireturn, 1) := dk_172 (dk_at dksX0_conflicts_1 1 rfl rfl)
abbrev cX0_moveProblem : ByteArray := method_29_code
def yX0_moveProblem : MethodName := ⟨RX0, "moveProblem", "(LHallPlan;III[J)I"⟩
def dkwX0_moveProblem_1 : List UInt8 := [58, 5, 6, 172, 3, 172]
abbrev dktX0_moveProblem_1 : List UInt8 := dkwX0_moveProblem_1 ++ []
def dkwX0_moveProblem_0 : List UInt8 := [25, 4, 3, 42, 27, 28, 29, 182, 0, 102, 133, 80, 167, 0, 15, 58, 5, 4, 172, 58, 5, 5, 172]
abbrev dktX0_moveProblem_0 : List UInt8 := dkwX0_moveProblem_0 ++ dktX0_moveProblem_1
theorem dksX0_moveProblem_0 : cX0_moveProblem.data.toList.drop 0 = dktX0_moveProblem_0 := by decide +kernel
theorem dksX0_moveProblem_1 : cX0_moveProblem.data.toList.drop 23 = dktX0_moveProblem_1 := dk_seg dksX0_moveProblem_0 23 rfl rfl
theorem dX0_moveProblem_0 : decode cX0_moveProblem 0 = .ok (.aload 4, 2) := dk_25 4 (dk_at dksX0_moveProblem_0 0 rfl rfl)
theorem dX0_moveProblem_2 : decode cX0_moveProblem 2 = .ok (.iconst 0, 1) := dk_3 (dk_at dksX0_moveProblem_0 2 rfl rfl)
theorem dX0_moveProblem_3 : decode cX0_moveProblem 3 = .ok (.aload_n 0, 1) := dk_42 (dk_at dksX0_moveProblem_0 3 rfl rfl)
theorem dX0_moveProblem_4 : decode cX0_moveProblem 4 = .ok (.iload_n 1, 1) := dk_27 (dk_at dksX0_moveProblem_0 4 rfl rfl)
theorem dX0_moveProblem_5 : decode cX0_moveProblem 5 = .ok (.iload_n 2, 1) := dk_28 (dk_at dksX0_moveProblem_0 5 rfl rfl)
theorem dX0_moveProblem_6 : decode cX0_moveProblem 6 = .ok (.iload_n 3, 1) := dk_29 (dk_at dksX0_moveProblem_0 6 rfl rfl)
theorem dX0_moveProblem_7 : decode cX0_moveProblem 7 = .ok (.invokevirtual 102, 3) := dk_182 0 102 (dk_at dksX0_moveProblem_0 7 rfl rfl)
theorem dX0_moveProblem_10 : decode cX0_moveProblem 10 = .ok (.i2l, 1) := dk_133 (dk_at dksX0_moveProblem_0 10 rfl rfl)
theorem dX0_moveProblem_11 : decode cX0_moveProblem 11 = .ok (.lastore, 1) := dk_80 (dk_at dksX0_moveProblem_0 11 rfl rfl)
theorem dX0_moveProblem_12 : decode cX0_moveProblem 12 = .ok (.goto 15, 3) := dk_167 0 15 (dk_at dksX0_moveProblem_0 12 rfl rfl)
theorem dX0_moveProblem_15 : decode cX0_moveProblem 15 = .ok (.astore 5, 2) := dk_58 5 (dk_at dksX0_moveProblem_0 15 rfl rfl)
theorem dX0_moveProblem_17 : decode cX0_moveProblem 17 = .ok (.iconst 1, 1) := dk_4 (dk_at dksX0_moveProblem_0 17 rfl rfl)
theorem dX0_moveProblem_18 : decode cX0_moveProblem 18 = .ok (.ireturn, 1) := dk_172 (dk_at dksX0_moveProblem_0 18 rfl rfl)
theorem dX0_moveProblem_19 : decode cX0_moveProblem 19 = .ok (.astore 5, 2) := dk_58 5 (dk_at dksX0_moveProblem_0 19 rfl rfl)
theorem dX0_moveProblem_21 : decode cX0_moveProblem 21 = .ok (.iconst 2, 1) := dk_5 (dk_at dksX0_moveProblem_0 21 rfl rfl)
theorem dX0_moveProblem_22 : decode cX0_moveProblem 22 = .ok (.ireturn, 1) := dk_172 (dk_at dksX0_moveProblem_0 22 rfl rfl)
theorem dX0_moveProblem_23 : decode cX0_moveProblem 23 = .ok (.astore 5, 2) := dk_58 5 (dk_at dksX0_moveProblem_1 0 rfl rfl)
theorem dX0_moveProblem_25 : decode cX0_moveProblem 25 = .ok (.iconst 3, 1) := dk_6 (dk_at dksX0_moveProblem_1 2 rfl rfl)
theorem dX0_moveProblem_26 : decode cX0_moveProblem 26 = .ok (.ireturn, 1) := dk_172 (dk_at dksX0_moveProblem_1 3 rfl rfl)
theorem dX0_moveProblem_27 : decode cX0_moveProblem 27 = .ok (.iconst 0, 1) := dk_3 (dk_at dksX0_moveProblem_1 4 rfl rfl)
theorem dX0_moveProblem_28 : decode cX0_moveProblem 28 = .ok (.ireturn, 1) := dk_172 (dk_at dksX0_moveProblem_1 5 rfl rfl)
abbrev cX0_chain : ByteArray := method_30_code
def yX0_chain : MethodName := ⟨RX0, "chain", "(LHallPlan;IIII[J)I"⟩
def dkwX0_chain_1 : List UInt8 := [172, 58, 6, 6, 172, 58, 6, 7, 172, 3, 172]
abbrev dktX0_chain_1 : List UInt8 := dkwX0_chain_1 ++ []
def dkwX0_chain_0 : List UInt8 := [25, 5, 3, 42, 27, 28, 29, 21, 4, 182, 0, 105, 133, 80, 167, 0, 19, 58, 6, 4, 172, 58, 6, 5]
abbrev dktX0_chain_0 : List UInt8 := dkwX0_chain_0 ++ dktX0_chain_1
theorem dksX0_chain_0 : cX0_chain.data.toList.drop 0 = dktX0_chain_0 := by decide +kernel
theorem dksX0_chain_1 : cX0_chain.data.toList.drop 24 = dktX0_chain_1 := dk_seg dksX0_chain_0 24 rfl rfl
theorem dX0_chain_0 : decode cX0_chain 0 = .ok (.aload 5, 2) := dk_25 5 (dk_at dksX0_chain_0 0 rfl rfl)
theorem dX0_chain_2 : decode cX0_chain 2 = .ok (.iconst 0, 1) := dk_3 (dk_at dksX0_chain_0 2 rfl rfl)
theorem dX0_chain_3 : decode cX0_chain 3 = .ok (.aload_n 0, 1) := dk_42 (dk_at dksX0_chain_0 3 rfl rfl)
theorem dX0_chain_4 : decode cX0_chain 4 = .ok (.iload_n 1, 1) := dk_27 (dk_at dksX0_chain_0 4 rfl rfl)
theorem dX0_chain_5 : decode cX0_chain 5 = .ok (.iload_n 2, 1) := dk_28 (dk_at dksX0_chain_0 5 rfl rfl)
theorem dX0_chain_6 : decode cX0_chain 6 = .ok (.iload_n 3, 1) := dk_29 (dk_at dksX0_chain_0 6 rfl rfl)
theorem dX0_chain_7 : decode cX0_chain 7 = .ok (.iload 4, 2) := dk_21 4 (dk_at dksX0_chain_0 7 rfl rfl)
theorem dX0_chain_9 : decode cX0_chain 9 = .ok (.invokevirtual 105, 3) := dk_182 0 105 (dk_at dksX0_chain_0 9 rfl rfl)
theorem dX0_chain_12 : decode cX0_chain 12 = .ok (.i2l, 1) := dk_133 (dk_at dksX0_chain_0 12 rfl rfl)
theorem dX0_chain_13 : decode cX0_chain 13 = .ok (.lastore, 1) := dk_80 (dk_at dksX0_chain_0 13 rfl rfl)
theorem dX0_chain_14 : decode cX0_chain 14 = .ok (.goto 19, 3) := dk_167 0 19 (dk_at dksX0_chain_0 14 rfl rfl)
theorem dX0_chain_17 : decode cX0_chain 17 = .ok (.astore 6, 2) := dk_58 6 (dk_at dksX0_chain_0 17 rfl rfl)
theorem dX0_chain_19 : decode cX0_chain 19 = .ok (.iconst 1, 1) := dk_4 (dk_at dksX0_chain_0 19 rfl rfl)
theorem dX0_chain_20 : decode cX0_chain 20 = .ok (.ireturn, 1) := dk_172 (dk_at dksX0_chain_0 20 rfl rfl)
theorem dX0_chain_21 : decode cX0_chain 21 = .ok (.astore 6, 2) := dk_58 6 (dk_at dksX0_chain_0 21 rfl rfl)
theorem dX0_chain_23 : decode cX0_chain 23 = .ok (.iconst 2, 1) := dk_5 (dk_at dksX0_chain_0 23 rfl rfl)
theorem dX0_chain_24 : decode cX0_chain 24 = .ok (.ireturn, 1) := dk_172 (dk_at dksX0_chain_1 0 rfl rfl)
theorem dX0_chain_25 : decode cX0_chain 25 = .ok (.astore 6, 2) := dk_58 6 (dk_at dksX0_chain_1 1 rfl rfl)
theorem dX0_chain_27 : decode cX0_chain 27 = .ok (.iconst 3, 1) := dk_6 (dk_at dksX0_chain_1 3 rfl rfl)
theorem dX0_chain_28 : decode cX0_chain 28 = .ok (.ireturn, 1) := dk_172 (dk_at dksX0_chain_1 4 rfl rfl)
theorem dX0_chain_29 : decode cX0_chain 29 = .ok (.astore 6, 2) := dk_58 6 (dk_at dksX0_chain_1 5 rfl rfl)
theorem dX0_chain_31 : decode cX0_chain 31 = .ok (.iconst 4, 1) := dk_7 (dk_at dksX0_chain_1 7 rfl rfl)
theorem dX0_chain_32 : decode cX0_chain 32 = .ok (.ireturn, 1) := dk_172 (dk_at dksX0_chain_1 8 rfl rfl)
theorem dX0_chain_33 : decode cX0_chain 33 = .ok (.iconst 0, 1) := dk_3 (dk_at dksX0_chain_1 9 rfl rfl)
theorem dX0_chain_34 : decode cX0_chain 34 = .ok (.ireturn, 1) := dk_172 (dk_at dksX0_chain_1 10 rfl rfl)
abbrev cX0_swapProblem : ByteArray := method_31_code
def yX0_swapProblem : MethodName := ⟨RX0, "swapProblem", "(LHallPlan;II[J)I"⟩
def dkwX0_swapProblem_1 : List UInt8 := [172, 3, 172]
abbrev dktX0_swapProblem_1 : List UInt8 := dkwX0_swapProblem_1 ++ []
def dkwX0_swapProblem_0 : List UInt8 := [45, 3, 42, 27, 28, 182, 0, 109, 133, 80, 167, 0, 15, 58, 4, 4, 172, 58, 4, 5, 172, 58, 4, 6]
abbrev dktX0_swapProblem_0 : List UInt8 := dkwX0_swapProblem_0 ++ dktX0_swapProblem_1
theorem dksX0_swapProblem_0 : cX0_swapProblem.data.toList.drop 0 = dktX0_swapProblem_0 := by decide +kernel
theorem dksX0_swapProblem_1 : cX0_swapProblem.data.toList.drop 24 = dktX0_swapProblem_1 := dk_seg dksX0_swapProblem_0 24 rfl rfl
theorem dX0_swapProblem_0 : decode cX0_swapProblem 0 = .ok (.aload_n 3, 1) := dk_45 (dk_at dksX0_swapProblem_0 0 rfl rfl)
theorem dX0_swapProblem_1 : decode cX0_swapProblem 1 = .ok (.iconst 0, 1) := dk_3 (dk_at dksX0_swapProblem_0 1 rfl rfl)
theorem dX0_swapProblem_2 : decode cX0_swapProblem 2 = .ok (.aload_n 0, 1) := dk_42 (dk_at dksX0_swapProblem_0 2 rfl rfl)
theorem dX0_swapProblem_3 : decode cX0_swapProblem 3 = .ok (.iload_n 1, 1) := dk_27 (dk_at dksX0_swapProblem_0 3 rfl rfl)
theorem dX0_swapProblem_4 : decode cX0_swapProblem 4 = .ok (.iload_n 2, 1) := dk_28 (dk_at dksX0_swapProblem_0 4 rfl rfl)
theorem dX0_swapProblem_5 : decode cX0_swapProblem 5 = .ok (.invokevirtual 109, 3) := dk_182 0 109 (dk_at dksX0_swapProblem_0 5 rfl rfl)
theorem dX0_swapProblem_8 : decode cX0_swapProblem 8 = .ok (.i2l, 1) := dk_133 (dk_at dksX0_swapProblem_0 8 rfl rfl)
theorem dX0_swapProblem_9 : decode cX0_swapProblem 9 = .ok (.lastore, 1) := dk_80 (dk_at dksX0_swapProblem_0 9 rfl rfl)
theorem dX0_swapProblem_10 : decode cX0_swapProblem 10 = .ok (.goto 15, 3) := dk_167 0 15 (dk_at dksX0_swapProblem_0 10 rfl rfl)
theorem dX0_swapProblem_13 : decode cX0_swapProblem 13 = .ok (.astore 4, 2) := dk_58 4 (dk_at dksX0_swapProblem_0 13 rfl rfl)
theorem dX0_swapProblem_15 : decode cX0_swapProblem 15 = .ok (.iconst 1, 1) := dk_4 (dk_at dksX0_swapProblem_0 15 rfl rfl)
theorem dX0_swapProblem_16 : decode cX0_swapProblem 16 = .ok (.ireturn, 1) := dk_172 (dk_at dksX0_swapProblem_0 16 rfl rfl)
theorem dX0_swapProblem_17 : decode cX0_swapProblem 17 = .ok (.astore 4, 2) := dk_58 4 (dk_at dksX0_swapProblem_0 17 rfl rfl)
theorem dX0_swapProblem_19 : decode cX0_swapProblem 19 = .ok (.iconst 2, 1) := dk_5 (dk_at dksX0_swapProblem_0 19 rfl rfl)
theorem dX0_swapProblem_20 : decode cX0_swapProblem 20 = .ok (.ireturn, 1) := dk_172 (dk_at dksX0_swapProblem_0 20 rfl rfl)
theorem dX0_swapProblem_21 : decode cX0_swapProblem 21 = .ok (.astore 4, 2) := dk_58 4 (dk_at dksX0_swapProblem_0 21 rfl rfl)
theorem dX0_swapProblem_23 : decode cX0_swapProblem 23 = .ok (.iconst 3, 1) := dk_6 (dk_at dksX0_swapProblem_0 23 rfl rfl)
theorem dX0_swapProblem_24 : decode cX0_swapProblem 24 = .ok (.ireturn, 1) := dk_172 (dk_at dksX0_swapProblem_1 0 rfl rfl)
theorem dX0_swapProblem_25 : decode cX0_swapProblem 25 = .ok (.iconst 0, 1) := dk_3 (dk_at dksX0_swapProblem_1 1 rfl rfl)
theorem dX0_swapProblem_26 : decode cX0_swapProblem 26 = .ok (.ireturn, 1) := dk_172 (dk_at dksX0_swapProblem_1 2 rfl rfl)
abbrev cX0_feeNow : ByteArray := method_32_code
def yX0_feeNow : MethodName := ⟨RX0, "feeNow", "(LHallPlan;I[J)I"⟩
def dkwX0_feeNow_0 : List UInt8 := [44, 3, 42, 27, 182, 0, 112, 133, 80, 167, 0, 9, 78, 4, 172, 78, 5, 172, 3, 172]
abbrev dktX0_feeNow_0 : List UInt8 := dkwX0_feeNow_0 ++ []
theorem dksX0_feeNow_0 : cX0_feeNow.data.toList.drop 0 = dktX0_feeNow_0 := by decide +kernel
theorem dX0_feeNow_0 : decode cX0_feeNow 0 = .ok (.aload_n 2, 1) := dk_44 (dk_at dksX0_feeNow_0 0 rfl rfl)
theorem dX0_feeNow_1 : decode cX0_feeNow 1 = .ok (.iconst 0, 1) := dk_3 (dk_at dksX0_feeNow_0 1 rfl rfl)
theorem dX0_feeNow_2 : decode cX0_feeNow 2 = .ok (.aload_n 0, 1) := dk_42 (dk_at dksX0_feeNow_0 2 rfl rfl)
theorem dX0_feeNow_3 : decode cX0_feeNow 3 = .ok (.iload_n 1, 1) := dk_27 (dk_at dksX0_feeNow_0 3 rfl rfl)
theorem dX0_feeNow_4 : decode cX0_feeNow 4 = .ok (.invokevirtual 112, 3) := dk_182 0 112 (dk_at dksX0_feeNow_0 4 rfl rfl)
theorem dX0_feeNow_7 : decode cX0_feeNow 7 = .ok (.i2l, 1) := dk_133 (dk_at dksX0_feeNow_0 7 rfl rfl)
theorem dX0_feeNow_8 : decode cX0_feeNow 8 = .ok (.lastore, 1) := dk_80 (dk_at dksX0_feeNow_0 8 rfl rfl)
theorem dX0_feeNow_9 : decode cX0_feeNow 9 = .ok (.goto 9, 3) := dk_167 0 9 (dk_at dksX0_feeNow_0 9 rfl rfl)
theorem dX0_feeNow_12 : decode cX0_feeNow 12 = .ok (.astore_n 3, 1) := dk_78 (dk_at dksX0_feeNow_0 12 rfl rfl)
theorem dX0_feeNow_13 : decode cX0_feeNow 13 = .ok (.iconst 1, 1) := dk_4 (dk_at dksX0_feeNow_0 13 rfl rfl)
theorem dX0_feeNow_14 : decode cX0_feeNow 14 = .ok (.ireturn, 1) := dk_172 (dk_at dksX0_feeNow_0 14 rfl rfl)
theorem dX0_feeNow_15 : decode cX0_feeNow 15 = .ok (.astore_n 3, 1) := dk_78 (dk_at dksX0_feeNow_0 15 rfl rfl)
theorem dX0_feeNow_16 : decode cX0_feeNow 16 = .ok (.iconst 2, 1) := dk_5 (dk_at dksX0_feeNow_0 16 rfl rfl)
theorem dX0_feeNow_17 : decode cX0_feeNow 17 = .ok (.ireturn, 1) := dk_172 (dk_at dksX0_feeNow_0 17 rfl rfl)
theorem dX0_feeNow_18 : decode cX0_feeNow 18 = .ok (.iconst 0, 1) := dk_3 (dk_at dksX0_feeNow_0 18 rfl rfl)
theorem dX0_feeNow_19 : decode cX0_feeNow 19 = .ok (.ireturn, 1) := dk_172 (dk_at dksX0_feeNow_0 19 rfl rfl)
abbrev cX0_inUse : ByteArray := method_33_code
def yX0_inUse : MethodName := ⟨RX0, "inUse", "(LHallPlan;II[J)I"⟩
def dkwX0_inUse_0 : List UInt8 := [45, 3, 42, 27, 28, 182, 0, 115, 133, 80, 167, 0, 11, 58, 4, 4, 172, 58, 4, 5, 172, 3, 172]
abbrev dktX0_inUse_0 : List UInt8 := dkwX0_inUse_0 ++ []
theorem dksX0_inUse_0 : cX0_inUse.data.toList.drop 0 = dktX0_inUse_0 := by decide +kernel
theorem dX0_inUse_0 : decode cX0_inUse 0 = .ok (.aload_n 3, 1) := dk_45 (dk_at dksX0_inUse_0 0 rfl rfl)
theorem dX0_inUse_1 : decode cX0_inUse 1 = .ok (.iconst 0, 1) := dk_3 (dk_at dksX0_inUse_0 1 rfl rfl)
theorem dX0_inUse_2 : decode cX0_inUse 2 = .ok (.aload_n 0, 1) := dk_42 (dk_at dksX0_inUse_0 2 rfl rfl)
theorem dX0_inUse_3 : decode cX0_inUse 3 = .ok (.iload_n 1, 1) := dk_27 (dk_at dksX0_inUse_0 3 rfl rfl)
theorem dX0_inUse_4 : decode cX0_inUse 4 = .ok (.iload_n 2, 1) := dk_28 (dk_at dksX0_inUse_0 4 rfl rfl)
theorem dX0_inUse_5 : decode cX0_inUse 5 = .ok (.invokevirtual 115, 3) := dk_182 0 115 (dk_at dksX0_inUse_0 5 rfl rfl)
theorem dX0_inUse_8 : decode cX0_inUse 8 = .ok (.i2l, 1) := dk_133 (dk_at dksX0_inUse_0 8 rfl rfl)
theorem dX0_inUse_9 : decode cX0_inUse 9 = .ok (.lastore, 1) := dk_80 (dk_at dksX0_inUse_0 9 rfl rfl)
theorem dX0_inUse_10 : decode cX0_inUse 10 = .ok (.goto 11, 3) := dk_167 0 11 (dk_at dksX0_inUse_0 10 rfl rfl)
theorem dX0_inUse_13 : decode cX0_inUse 13 = .ok (.astore 4, 2) := dk_58 4 (dk_at dksX0_inUse_0 13 rfl rfl)
theorem dX0_inUse_15 : decode cX0_inUse 15 = .ok (.iconst 1, 1) := dk_4 (dk_at dksX0_inUse_0 15 rfl rfl)
theorem dX0_inUse_16 : decode cX0_inUse 16 = .ok (.ireturn, 1) := dk_172 (dk_at dksX0_inUse_0 16 rfl rfl)
theorem dX0_inUse_17 : decode cX0_inUse 17 = .ok (.astore 4, 2) := dk_58 4 (dk_at dksX0_inUse_0 17 rfl rfl)
theorem dX0_inUse_19 : decode cX0_inUse 19 = .ok (.iconst 2, 1) := dk_5 (dk_at dksX0_inUse_0 19 rfl rfl)
theorem dX0_inUse_20 : decode cX0_inUse 20 = .ok (.ireturn, 1) := dk_172 (dk_at dksX0_inUse_0 20 rfl rfl)
theorem dX0_inUse_21 : decode cX0_inUse 21 = .ok (.iconst 0, 1) := dk_3 (dk_at dksX0_inUse_0 21 rfl rfl)
theorem dX0_inUse_22 : decode cX0_inUse 22 = .ok (.ireturn, 1) := dk_172 (dk_at dksX0_inUse_0 22 rfl rfl)
abbrev cX0_peak : ByteArray := method_34_code
def yX0_peak : MethodName := ⟨RX0, "peak", "(LHallPlan;II[J)I"⟩
def dkwX0_peak_0 : List UInt8 := [45, 3, 42, 27, 28, 182, 0, 118, 133, 80, 167, 0, 11, 58, 4, 4, 172, 58, 4, 5, 172, 3, 172]
abbrev dktX0_peak_0 : List UInt8 := dkwX0_peak_0 ++ []
theorem dksX0_peak_0 : cX0_peak.data.toList.drop 0 = dktX0_peak_0 := by decide +kernel
theorem dX0_peak_0 : decode cX0_peak 0 = .ok (.aload_n 3, 1) := dk_45 (dk_at dksX0_peak_0 0 rfl rfl)
theorem dX0_peak_1 : decode cX0_peak 1 = .ok (.iconst 0, 1) := dk_3 (dk_at dksX0_peak_0 1 rfl rfl)
theorem dX0_peak_2 : decode cX0_peak 2 = .ok (.aload_n 0, 1) := dk_42 (dk_at dksX0_peak_0 2 rfl rfl)
theorem dX0_peak_3 : decode cX0_peak 3 = .ok (.iload_n 1, 1) := dk_27 (dk_at dksX0_peak_0 3 rfl rfl)
theorem dX0_peak_4 : decode cX0_peak 4 = .ok (.iload_n 2, 1) := dk_28 (dk_at dksX0_peak_0 4 rfl rfl)
theorem dX0_peak_5 : decode cX0_peak 5 = .ok (.invokevirtual 118, 3) := dk_182 0 118 (dk_at dksX0_peak_0 5 rfl rfl)
theorem dX0_peak_8 : decode cX0_peak 8 = .ok (.i2l, 1) := dk_133 (dk_at dksX0_peak_0 8 rfl rfl)
theorem dX0_peak_9 : decode cX0_peak 9 = .ok (.lastore, 1) := dk_80 (dk_at dksX0_peak_0 9 rfl rfl)
theorem dX0_peak_10 : decode cX0_peak 10 = .ok (.goto 11, 3) := dk_167 0 11 (dk_at dksX0_peak_0 10 rfl rfl)
theorem dX0_peak_13 : decode cX0_peak 13 = .ok (.astore 4, 2) := dk_58 4 (dk_at dksX0_peak_0 13 rfl rfl)
theorem dX0_peak_15 : decode cX0_peak 15 = .ok (.iconst 1, 1) := dk_4 (dk_at dksX0_peak_0 15 rfl rfl)
theorem dX0_peak_16 : decode cX0_peak 16 = .ok (.ireturn, 1) := dk_172 (dk_at dksX0_peak_0 16 rfl rfl)
theorem dX0_peak_17 : decode cX0_peak 17 = .ok (.astore 4, 2) := dk_58 4 (dk_at dksX0_peak_0 17 rfl rfl)
theorem dX0_peak_19 : decode cX0_peak 19 = .ok (.iconst 2, 1) := dk_5 (dk_at dksX0_peak_0 19 rfl rfl)
theorem dX0_peak_20 : decode cX0_peak 20 = .ok (.ireturn, 1) := dk_172 (dk_at dksX0_peak_0 20 rfl rfl)
theorem dX0_peak_21 : decode cX0_peak 21 = .ok (.iconst 0, 1) := dk_3 (dk_at dksX0_peak_0 21 rfl rfl)
theorem dX0_peak_22 : decode cX0_peak 22 = .ok (.ireturn, 1) := dk_172 (dk_at dksX0_peak_0 22 rfl rfl)
abbrev cX0_occupancy : ByteArray := method_35_code
def yX0_occupancy : MethodName := ⟨RX0, "occupancy", "(LHallPlan;II[J)I"⟩
def dkwX0_occupancy_0 : List UInt8 := [45, 3, 42, 27, 28, 182, 0, 121, 133, 80, 167, 0, 11, 58, 4, 4, 172, 58, 4, 5, 172, 3, 172]
abbrev dktX0_occupancy_0 : List UInt8 := dkwX0_occupancy_0 ++ []
theorem dksX0_occupancy_0 : cX0_occupancy.data.toList.drop 0 = dktX0_occupancy_0 := by decide +kernel
theorem dX0_occupancy_0 : decode cX0_occupancy 0 = .ok (.aload_n 3, 1) := dk_45 (dk_at dksX0_occupancy_0 0 rfl rfl)
theorem dX0_occupancy_1 : decode cX0_occupancy 1 = .ok (.iconst 0, 1) := dk_3 (dk_at dksX0_occupancy_0 1 rfl rfl)
theorem dX0_occupancy_2 : decode cX0_occupancy 2 = .ok (.aload_n 0, 1) := dk_42 (dk_at dksX0_occupancy_0 2 rfl rfl)
theorem dX0_occupancy_3 : decode cX0_occupancy 3 = .ok (.iload_n 1, 1) := dk_27 (dk_at dksX0_occupancy_0 3 rfl rfl)
theorem dX0_occupancy_4 : decode cX0_occupancy 4 = .ok (.iload_n 2, 1) := dk_28 (dk_at dksX0_occupancy_0 4 rfl rfl)
theorem dX0_occupancy_5 : decode cX0_occupancy 5 = .ok (.invokevirtual 121, 3) := dk_182 0 121 (dk_at dksX0_occupancy_0 5 rfl rfl)
theorem dX0_occupancy_8 : decode cX0_occupancy 8 = .ok (.i2l, 1) := dk_133 (dk_at dksX0_occupancy_0 8 rfl rfl)
theorem dX0_occupancy_9 : decode cX0_occupancy 9 = .ok (.lastore, 1) := dk_80 (dk_at dksX0_occupancy_0 9 rfl rfl)
theorem dX0_occupancy_10 : decode cX0_occupancy 10 = .ok (.goto 11, 3) := dk_167 0 11 (dk_at dksX0_occupancy_0 10 rfl rfl)
theorem dX0_occupancy_13 : decode cX0_occupancy 13 = .ok (.astore 4, 2) := dk_58 4 (dk_at dksX0_occupancy_0 13 rfl rfl)
theorem dX0_occupancy_15 : decode cX0_occupancy 15 = .ok (.iconst 1, 1) := dk_4 (dk_at dksX0_occupancy_0 15 rfl rfl)
theorem dX0_occupancy_16 : decode cX0_occupancy 16 = .ok (.ireturn, 1) := dk_172 (dk_at dksX0_occupancy_0 16 rfl rfl)
theorem dX0_occupancy_17 : decode cX0_occupancy 17 = .ok (.astore 4, 2) := dk_58 4 (dk_at dksX0_occupancy_0 17 rfl rfl)
theorem dX0_occupancy_19 : decode cX0_occupancy 19 = .ok (.iconst 2, 1) := dk_5 (dk_at dksX0_occupancy_0 19 rfl rfl)
theorem dX0_occupancy_20 : decode cX0_occupancy 20 = .ok (.ireturn, 1) := dk_172 (dk_at dksX0_occupancy_0 20 rfl rfl)
theorem dX0_occupancy_21 : decode cX0_occupancy 21 = .ok (.iconst 0, 1) := dk_3 (dk_at dksX0_occupancy_0 21 rfl rfl)
theorem dX0_occupancy_22 : decode cX0_occupancy 22 = .ok (.ireturn, 1) := dk_172 (dk_at dksX0_occupancy_0 22 rfl rfl)
abbrev cX0_setupSum : ByteArray := method_36_code
def yX0_setupSum : MethodName := ⟨RX0, "setupSum", "(LHallPlan;II[J)I"⟩
def dkwX0_setupSum_0 : List UInt8 := [45, 3, 42, 27, 28, 182, 0, 124, 133, 80, 167, 0, 11, 58, 4, 4, 172, 58, 4, 5, 172, 3, 172]
abbrev dktX0_setupSum_0 : List UInt8 := dkwX0_setupSum_0 ++ []
theorem dksX0_setupSum_0 : cX0_setupSum.data.toList.drop 0 = dktX0_setupSum_0 := by decide +kernel
theorem dX0_setupSum_0 : decode cX0_setupSum 0 = .ok (.aload_n 3, 1) := dk_45 (dk_at dksX0_setupSum_0 0 rfl rfl)
theorem dX0_setupSum_1 : decode cX0_setupSum 1 = .ok (.iconst 0, 1) := dk_3 (dk_at dksX0_setupSum_0 1 rfl rfl)
theorem dX0_setupSum_2 : decode cX0_setupSum 2 = .ok (.aload_n 0, 1) := dk_42 (dk_at dksX0_setupSum_0 2 rfl rfl)
theorem dX0_setupSum_3 : decode cX0_setupSum 3 = .ok (.iload_n 1, 1) := dk_27 (dk_at dksX0_setupSum_0 3 rfl rfl)
theorem dX0_setupSum_4 : decode cX0_setupSum 4 = .ok (.iload_n 2, 1) := dk_28 (dk_at dksX0_setupSum_0 4 rfl rfl)
theorem dX0_setupSum_5 : decode cX0_setupSum 5 = .ok (.invokevirtual 124, 3) := dk_182 0 124 (dk_at dksX0_setupSum_0 5 rfl rfl)
theorem dX0_setupSum_8 : decode cX0_setupSum 8 = .ok (.i2l, 1) := dk_133 (dk_at dksX0_setupSum_0 8 rfl rfl)
theorem dX0_setupSum_9 : decode cX0_setupSum 9 = .ok (.lastore, 1) := dk_80 (dk_at dksX0_setupSum_0 9 rfl rfl)
theorem dX0_setupSum_10 : decode cX0_setupSum 10 = .ok (.goto 11, 3) := dk_167 0 11 (dk_at dksX0_setupSum_0 10 rfl rfl)
theorem dX0_setupSum_13 : decode cX0_setupSum 13 = .ok (.astore 4, 2) := dk_58 4 (dk_at dksX0_setupSum_0 13 rfl rfl)
theorem dX0_setupSum_15 : decode cX0_setupSum 15 = .ok (.iconst 1, 1) := dk_4 (dk_at dksX0_setupSum_0 15 rfl rfl)
theorem dX0_setupSum_16 : decode cX0_setupSum 16 = .ok (.ireturn, 1) := dk_172 (dk_at dksX0_setupSum_0 16 rfl rfl)
theorem dX0_setupSum_17 : decode cX0_setupSum 17 = .ok (.astore 4, 2) := dk_58 4 (dk_at dksX0_setupSum_0 17 rfl rfl)
theorem dX0_setupSum_19 : decode cX0_setupSum 19 = .ok (.iconst 2, 1) := dk_5 (dk_at dksX0_setupSum_0 19 rfl rfl)
theorem dX0_setupSum_20 : decode cX0_setupSum 20 = .ok (.ireturn, 1) := dk_172 (dk_at dksX0_setupSum_0 20 rfl rfl)
theorem dX0_setupSum_21 : decode cX0_setupSum 21 = .ok (.iconst 0, 1) := dk_3 (dk_at dksX0_setupSum_0 21 rfl rfl)
theorem dX0_setupSum_22 : decode cX0_setupSum 22 = .ok (.ireturn, 1) := dk_172 (dk_at dksX0_setupSum_0 22 rfl rfl)
abbrev cX0_leastSetup : ByteArray := method_37_code
def yX0_leastSetup : MethodName := ⟨RX0, "leastSetup", "(LHallPlan;II[J)I"⟩
def dkwX0_leastSetup_1 : List UInt8 := [172, 3, 172]
abbrev dktX0_leastSetup_1 : List UInt8 := dkwX0_leastSetup_1 ++ []
def dkwX0_leastSetup_0 : List UInt8 := [45, 3, 42, 27, 28, 182, 0, 127, 133, 80, 167, 0, 15, 58, 4, 4, 172, 58, 4, 5, 172, 58, 4, 6]
abbrev dktX0_leastSetup_0 : List UInt8 := dkwX0_leastSetup_0 ++ dktX0_leastSetup_1
theorem dksX0_leastSetup_0 : cX0_leastSetup.data.toList.drop 0 = dktX0_leastSetup_0 := by decide +kernel
theorem dksX0_leastSetup_1 : cX0_leastSetup.data.toList.drop 24 = dktX0_leastSetup_1 := dk_seg dksX0_leastSetup_0 24 rfl rfl
theorem dX0_leastSetup_0 : decode cX0_leastSetup 0 = .ok (.aload_n 3, 1) := dk_45 (dk_at dksX0_leastSetup_0 0 rfl rfl)
theorem dX0_leastSetup_1 : decode cX0_leastSetup 1 = .ok (.iconst 0, 1) := dk_3 (dk_at dksX0_leastSetup_0 1 rfl rfl)
theorem dX0_leastSetup_2 : decode cX0_leastSetup 2 = .ok (.aload_n 0, 1) := dk_42 (dk_at dksX0_leastSetup_0 2 rfl rfl)
theorem dX0_leastSetup_3 : decode cX0_leastSetup 3 = .ok (.iload_n 1, 1) := dk_27 (dk_at dksX0_leastSetup_0 3 rfl rfl)
theorem dX0_leastSetup_4 : decode cX0_leastSetup 4 = .ok (.iload_n 2, 1) := dk_28 (dk_at dksX0_leastSetup_0 4 rfl rfl)
theorem dX0_leastSetup_5 : decode cX0_leastSetup 5 = .ok (.invokevirtual 127, 3) := dk_182 0 127 (dk_at dksX0_leastSetup_0 5 rfl rfl)
theorem dX0_leastSetup_8 : decode cX0_leastSetup 8 = .ok (.i2l, 1) := dk_133 (dk_at dksX0_leastSetup_0 8 rfl rfl)
theorem dX0_leastSetup_9 : decode cX0_leastSetup 9 = .ok (.lastore, 1) := dk_80 (dk_at dksX0_leastSetup_0 9 rfl rfl)
theorem dX0_leastSetup_10 : decode cX0_leastSetup 10 = .ok (.goto 15, 3) := dk_167 0 15 (dk_at dksX0_leastSetup_0 10 rfl rfl)
theorem dX0_leastSetup_13 : decode cX0_leastSetup 13 = .ok (.astore 4, 2) := dk_58 4 (dk_at dksX0_leastSetup_0 13 rfl rfl)
theorem dX0_leastSetup_15 : decode cX0_leastSetup 15 = .ok (.iconst 1, 1) := dk_4 (dk_at dksX0_leastSetup_0 15 rfl rfl)
theorem dX0_leastSetup_16 : decode cX0_leastSetup 16 = .ok (.ireturn, 1) := dk_172 (dk_at dksX0_leastSetup_0 16 rfl rfl)
theorem dX0_leastSetup_17 : decode cX0_leastSetup 17 = .ok (.astore 4, 2) := dk_58 4 (dk_at dksX0_leastSetup_0 17 rfl rfl)
theorem dX0_leastSetup_19 : decode cX0_leastSetup 19 = .ok (.iconst 2, 1) := dk_5 (dk_at dksX0_leastSetup_0 19 rfl rfl)
theorem dX0_leastSetup_20 : decode cX0_leastSetup 20 = .ok (.ireturn, 1) := dk_172 (dk_at dksX0_leastSetup_0 20 rfl rfl)
theorem dX0_leastSetup_21 : decode cX0_leastSetup 21 = .ok (.astore 4, 2) := dk_58 4 (dk_at dksX0_leastSetup_0 21 rfl rfl)
theorem dX0_leastSetup_23 : decode cX0_leastSetup 23 = .ok (.iconst 3, 1) := dk_6 (dk_at dksX0_leastSetup_0 23 rfl rfl)
theorem dX0_leastSetup_24 : decode cX0_leastSetup 24 = .ok (.ireturn, 1) := dk_172 (dk_at dksX0_leastSetup_1 0 rfl rfl)
theorem dX0_leastSetup_25 : decode cX0_leastSetup 25 = .ok (.iconst 0, 1) := dk_3 (dk_at dksX0_leastSetup_1 1 rfl rfl)
theorem dX0_leastSetup_26 : decode cX0_leastSetup 26 = .ok (.ireturn, 1) := dk_172 (dk_at dksX0_leastSetup_1 2 rfl rfl)
abbrev cX0_nextBooking : ByteArray := method_38_code
def yX0_nextBooking : MethodName := ⟨RX0, "nextBooking", "(LHallPlan;II[J)I"⟩
def dkwX0_nextBooking_1 : List UInt8 := [172, 3, 172]
abbrev dktX0_nextBooking_1 : List UInt8 := dkwX0_nextBooking_1 ++ []
def dkwX0_nextBooking_0 : List UInt8 := [45, 3, 42, 27, 28, 182, 0, 130, 133, 80, 167, 0, 15, 58, 4, 4, 172, 58, 4, 5, 172, 58, 4, 6]
abbrev dktX0_nextBooking_0 : List UInt8 := dkwX0_nextBooking_0 ++ dktX0_nextBooking_1
theorem dksX0_nextBooking_0 : cX0_nextBooking.data.toList.drop 0 = dktX0_nextBooking_0 := by decide +kernel
theorem dksX0_nextBooking_1 : cX0_nextBooking.data.toList.drop 24 = dktX0_nextBooking_1 := dk_seg dksX0_nextBooking_0 24 rfl rfl
theorem dX0_nextBooking_0 : decode cX0_nextBooking 0 = .ok (.aload_n 3, 1) := dk_45 (dk_at dksX0_nextBooking_0 0 rfl rfl)
theorem dX0_nextBooking_1 : decode cX0_nextBooking 1 = .ok (.iconst 0, 1) := dk_3 (dk_at dksX0_nextBooking_0 1 rfl rfl)
theorem dX0_nextBooking_2 : decode cX0_nextBooking 2 = .ok (.aload_n 0, 1) := dk_42 (dk_at dksX0_nextBooking_0 2 rfl rfl)
theorem dX0_nextBooking_3 : decode cX0_nextBooking 3 = .ok (.iload_n 1, 1) := dk_27 (dk_at dksX0_nextBooking_0 3 rfl rfl)
theorem dX0_nextBooking_4 : decode cX0_nextBooking 4 = .ok (.iload_n 2, 1) := dk_28 (dk_at dksX0_nextBooking_0 4 rfl rfl)
theorem dX0_nextBooking_5 : decode cX0_nextBooking 5 = .ok (.invokevirtual 130, 3) := dk_182 0 130 (dk_at dksX0_nextBooking_0 5 rfl rfl)
theorem dX0_nextBooking_8 : decode cX0_nextBooking 8 = .ok (.i2l, 1) := dk_133 (dk_at dksX0_nextBooking_0 8 rfl rfl)
theorem dX0_nextBooking_9 : decode cX0_nextBooking 9 = .ok (.lastore, 1) := dk_80 (dk_at dksX0_nextBooking_0 9 rfl rfl)
theorem dX0_nextBooking_10 : decode cX0_nextBooking 10 = .ok (.goto 15, 3) := dk_167 0 15 (dk_at dksX0_nextBooking_0 10 rfl rfl)
theorem dX0_nextBooking_13 : decode cX0_nextBooking 13 = .ok (.astore 4, 2) := dk_58 4 (dk_at dksX0_nextBooking_0 13 rfl rfl)
theorem dX0_nextBooking_15 : decode cX0_nextBooking 15 = .ok (.iconst 1, 1) := dk_4 (dk_at dksX0_nextBooking_0 15 rfl rfl)
theorem dX0_nextBooking_16 : decode cX0_nextBooking 16 = .ok (.ireturn, 1) := dk_172 (dk_at dksX0_nextBooking_0 16 rfl rfl)
theorem dX0_nextBooking_17 : decode cX0_nextBooking 17 = .ok (.astore 4, 2) := dk_58 4 (dk_at dksX0_nextBooking_0 17 rfl rfl)
theorem dX0_nextBooking_19 : decode cX0_nextBooking 19 = .ok (.iconst 2, 1) := dk_5 (dk_at dksX0_nextBooking_0 19 rfl rfl)
theorem dX0_nextBooking_20 : decode cX0_nextBooking 20 = .ok (.ireturn, 1) := dk_172 (dk_at dksX0_nextBooking_0 20 rfl rfl)
theorem dX0_nextBooking_21 : decode cX0_nextBooking 21 = .ok (.astore 4, 2) := dk_58 4 (dk_at dksX0_nextBooking_0 21 rfl rfl)
theorem dX0_nextBooking_23 : decode cX0_nextBooking 23 = .ok (.iconst 3, 1) := dk_6 (dk_at dksX0_nextBooking_0 23 rfl rfl)
theorem dX0_nextBooking_24 : decode cX0_nextBooking 24 = .ok (.ireturn, 1) := dk_172 (dk_at dksX0_nextBooking_1 0 rfl rfl)
theorem dX0_nextBooking_25 : decode cX0_nextBooking 25 = .ok (.iconst 0, 1) := dk_3 (dk_at dksX0_nextBooking_1 1 rfl rfl)
theorem dX0_nextBooking_26 : decode cX0_nextBooking 26 = .ok (.ireturn, 1) := dk_172 (dk_at dksX0_nextBooking_1 2 rfl rfl)
abbrev cX0_undo : ByteArray := method_39_code
def yX0_undo : MethodName := ⟨RX0, "undo", "(LHallPlan;[J)I"⟩
def dkwX0_undo_0 : List UInt8 := [43, 3, 42, 182, 0, 133, 133, 80, 167, 0, 6, 77, 4, 172, 3, 172]
abbrev dktX0_undo_0 : List UInt8 := dkwX0_undo_0 ++ []
theorem dksX0_undo_0 : cX0_undo.data.toList.drop 0 = dktX0_undo_0 := by decide +kernel
theorem dX0_undo_0 : decode cX0_undo 0 = .ok (.aload_n 1, 1) := dk_43 (dk_at dksX0_undo_0 0 rfl rfl)
theorem dX0_undo_1 : decode cX0_undo 1 = .ok (.iconst 0, 1) := dk_3 (dk_at dksX0_undo_0 1 rfl rfl)
theorem dX0_undo_2 : decode cX0_undo 2 = .ok (.aload_n 0, 1) := dk_42 (dk_at dksX0_undo_0 2 rfl rfl)
theorem dX0_undo_3 : decode cX0_undo 3 = .ok (.invokevirtual 133, 3) := dk_182 0 133 (dk_at dksX0_undo_0 3 rfl rfl)
theorem dX0_undo_6 : decode cX0_undo 6 = .ok (.i2l, 1) := dk_133 (dk_at dksX0_undo_0 6 rfl rfl)
theorem dX0_undo_7 : decode cX0_undo 7 = .ok (.lastore, 1) := dk_80 (dk_at dksX0_undo_0 7 rfl rfl)
theorem dX0_undo_8 : decode cX0_undo 8 = .ok (.goto 6, 3) := dk_167 0 6 (dk_at dksX0_undo_0 8 rfl rfl)
theorem dX0_undo_11 : decode cX0_undo 11 = .ok (.astore_n 2, 1) := dk_77 (dk_at dksX0_undo_0 11 rfl rfl)
theorem dX0_undo_12 : decode cX0_undo 12 = .ok (.iconst 1, 1) := dk_4 (dk_at dksX0_undo_0 12 rfl rfl)
theorem dX0_undo_13 : decode cX0_undo 13 = .ok (.ireturn, 1) := dk_172 (dk_at dksX0_undo_0 13 rfl rfl)
theorem dX0_undo_14 : decode cX0_undo 14 = .ok (.iconst 0, 1) := dk_3 (dk_at dksX0_undo_0 14 rfl rfl)
theorem dX0_undo_15 : decode cX0_undo 15 = .ok (.ireturn, 1) := dk_172 (dk_at dksX0_undo_0 15 rfl rfl)
abbrev cX0_restore : ByteArray := method_40_code
def yX0_restore : MethodName := ⟨RX0, "restore", "(LHallPlan;[J)I"⟩
def dkwX0_restore_0 : List UInt8 := [43, 3, 42, 182, 0, 136, 133, 80, 167, 0, 6, 77, 4, 172, 3, 172]
abbrev dktX0_restore_0 : List UInt8 := dkwX0_restore_0 ++ []
theorem dksX0_restore_0 : cX0_restore.data.toList.drop 0 = dktX0_restore_0 := by decide +kernel
theorem dX0_restore_0 : decode cX0_restore 0 = .ok (.aload_n 1, 1) := dk_43 (dk_at dksX0_restore_0 0 rfl rfl)
theorem dX0_restore_1 : decode cX0_restore 1 = .ok (.iconst 0, 1) := dk_3 (dk_at dksX0_restore_0 1 rfl rfl)
theorem dX0_restore_2 : decode cX0_restore 2 = .ok (.aload_n 0, 1) := dk_42 (dk_at dksX0_restore_0 2 rfl rfl)
theorem dX0_restore_3 : decode cX0_restore 3 = .ok (.invokevirtual 136, 3) := dk_182 0 136 (dk_at dksX0_restore_0 3 rfl rfl)
theorem dX0_restore_6 : decode cX0_restore 6 = .ok (.i2l, 1) := dk_133 (dk_at dksX0_restore_0 6 rfl rfl)
theorem dX0_restore_7 : decode cX0_restore 7 = .ok (.lastore, 1) := dk_80 (dk_at dksX0_restore_0 7 rfl rfl)
theorem dX0_restore_8 : decode cX0_restore 8 = .ok (.goto 6, 3) := dk_167 0 6 (dk_at dksX0_restore_0 8 rfl rfl)
theorem dX0_restore_11 : decode cX0_restore 11 = .ok (.astore_n 2, 1) := dk_77 (dk_at dksX0_restore_0 11 rfl rfl)
theorem dX0_restore_12 : decode cX0_restore 12 = .ok (.iconst 1, 1) := dk_4 (dk_at dksX0_restore_0 12 rfl rfl)
theorem dX0_restore_13 : decode cX0_restore 13 = .ok (.ireturn, 1) := dk_172 (dk_at dksX0_restore_0 13 rfl rfl)
theorem dX0_restore_14 : decode cX0_restore 14 = .ok (.iconst 0, 1) := dk_3 (dk_at dksX0_restore_0 14 rfl rfl)
theorem dX0_restore_15 : decode cX0_restore 15 = .ok (.ireturn, 1) := dk_172 (dk_at dksX0_restore_0 15 rfl rfl)
theorem q141 : (Jvm.Cond.initialized "HallPlanLaw") ∈ lw_all := lw_g (lw_at lw_m1 0 rfl) rfl
theorem q182 : (Jvm.Cond.classLink "HallPlanLaw" (8 : Nat) "HallPlan") ∈ lw_all := lw_g (lw_at lw_m1 41 rfl) rfl
theorem q184 : (Jvm.Cond.methodLink "HallPlanLaw" (139 : Nat) ({ cls := "HallPlan", name := "<init>", desc := "()V" } : Jvm.MethodName)) ∈ lw_all := lw_g (lw_at lw_m1 43 rfl) rfl
theorem q508 : (Jvm.Cond.methodLink "HallPlanLaw" (156 : Nat) ({ cls := "HallPlan", name := "errorPosition", desc := "()I" } : Jvm.MethodName)) ∈ lw_all := lw_g (lw_at lw_m2 127 rfl) rfl
theorem q1251 : (Jvm.Cond.methodLink "HallPlanLaw" (211 : Nat) ({ cls := "HallPlan", name := "now", desc := "()I" } : Jvm.MethodName)) ∈ lw_all := lw_g (lw_at lw_m5 150 rfl) rfl
theorem q1255 : (Jvm.Cond.methodLink "HallPlanLaw" (215 : Nat) ({ cls := "HallPlan", name := "bookingCount", desc := "()I" } : Jvm.MethodName)) ∈ lw_all := lw_g (lw_at lw_m5 154 rfl) rfl
theorem q1259 : (Jvm.Cond.methodLink "HallPlanLaw" (225 : Nat) ({ cls := "HallPlan", name := "requestCount", desc := "()I" } : Jvm.MethodName)) ∈ lw_all := lw_g (lw_at lw_m5 158 rfl) rfl
theorem q1263 : (Jvm.Cond.methodLink "HallPlanLaw" (232 : Nat) ({ cls := "HallPlan", name := "revenue", desc := "()I" } : Jvm.MethodName)) ∈ lw_all := lw_g (lw_at lw_m5 162 rfl) rfl
theorem q1267 : (Jvm.Cond.methodLink "HallPlanLaw" (285 : Nat) ({ cls := "HallPlan", name := "undoCount", desc := "()I" } : Jvm.MethodName)) ∈ lw_all := lw_g (lw_at lw_m5 166 rfl) rfl
theorem q1278 : (Jvm.Cond.methodLink "HallPlanLaw" (289 : Nat) ({ cls := "HallPlan", name := "save", desc := "()I" } : Jvm.MethodName)) ∈ lw_all := lw_g (lw_at lw_m5 177 rfl) rfl
theorem q1332 : (Jvm.Cond.methodLink "HallPlanLaw" (143 : Nat) ({ cls := "HallPlanLaw", name := "append", desc := "(LHallPlan;IIIII[J)I" } : Jvm.MethodName)) ∈ lw_all := lw_g (lw_at lw_m5 231 rfl) rfl
theorem q1333 : (Jvm.Cond.static ({ cls := "HallPlanLaw", name := "append", desc := "(LHallPlan;IIIII[J)I" } : Jvm.MethodName)) ∈ lw_all := lw_g (lw_at lw_m5 232 rfl) rfl
theorem q1334 : (Jvm.Cond.codeWith ({ cls := "HallPlanLaw", name := "append", desc := "(LHallPlan;IIIII[J)I" } : Jvm.MethodName) method_3_code (8 : Nat) (Option.some Jvm.ClassFile.FieldType.int) [((0 : Nat), (16 : Nat), (19 : Nat), (13 : Nat))]) ∈ lw_all := lw_g (lw_at lw_m5 233 rfl) rfl
theorem q1335 : (Jvm.Cond.classLink "HallPlanLaw" (13 : Nat) "java/lang/IllegalStateException") ∈ lw_all := lw_g (lw_at lw_m5 234 rfl) rfl
theorem q1336 : (Jvm.Cond.methodLink "HallPlanLaw" (7 : Nat) ({ cls := "HallPlan", name := "append", desc := "(IIIII)I" } : Jvm.MethodName)) ∈ lw_all := lw_g (lw_at lw_m5 235 rfl) rfl
theorem q1367 : (Jvm.Cond.methodLink "HallPlanLaw" (152 : Nat) ({ cls := "HallPlanLaw", name := "truncate", desc := "(LHallPlan;I[J)I" } : Jvm.MethodName)) ∈ lw_all := lw_g (lw_at lw_m6 26 rfl) rfl
theorem q1368 : (Jvm.Cond.static ({ cls := "HallPlanLaw", name := "truncate", desc := "(LHallPlan;I[J)I" } : Jvm.MethodName)) ∈ lw_all := lw_g (lw_at lw_m6 27 rfl) rfl
theorem q1369 : (Jvm.Cond.codeWith ({ cls := "HallPlanLaw", name := "truncate", desc := "(LHallPlan;I[J)I" } : Jvm.MethodName) method_4_code (4 : Nat) (Option.some Jvm.ClassFile.FieldType.int) [((0 : Nat), (9 : Nat), (12 : Nat), (19 : Nat))]) ∈ lw_all := lw_g (lw_at lw_m6 28 rfl) rfl
theorem q1370 : (Jvm.Cond.classLink "HallPlanLaw" (19 : Nat) "java/lang/IllegalArgumentException") ∈ lw_all := lw_g (lw_at lw_m6 29 rfl) rfl
theorem q1371 : (Jvm.Cond.methodLink "HallPlanLaw" (15 : Nat) ({ cls := "HallPlan", name := "truncate", desc := "(I)I" } : Jvm.MethodName)) ∈ lw_all := lw_g (lw_at lw_m6 30 rfl) rfl
theorem q1384 : (Jvm.Cond.methodLink "HallPlanLaw" (160 : Nat) ({ cls := "HallPlanLaw", name := "load", desc := "(LHallPlan;[J)I" } : Jvm.MethodName)) ∈ lw_all := lw_g (lw_at lw_m6 43 rfl) rfl
theorem q1385 : (Jvm.Cond.static ({ cls := "HallPlanLaw", name := "load", desc := "(LHallPlan;[J)I" } : Jvm.MethodName)) ∈ lw_all := lw_g (lw_at lw_m6 44 rfl) rfl
theorem q1386 : (Jvm.Cond.codeWith ({ cls := "HallPlanLaw", name := "load", desc := "(LHallPlan;[J)I" } : Jvm.MethodName) method_5_code (3 : Nat) (Option.some Jvm.ClassFile.FieldType.int) [((0 : Nat), (8 : Nat), (11 : Nat), (19 : Nat))]) ∈ lw_all := lw_g (lw_at lw_m6 45 rfl) rfl
theorem q1387 : (Jvm.Cond.methodLink "HallPlanLaw" (21 : Nat) ({ cls := "HallPlan", name := "load", desc := "()I" } : Jvm.MethodName)) ∈ lw_all := lw_g (lw_at lw_m6 46 rfl) rfl
theorem q1410 : (Jvm.Cond.methodLink "HallPlanLaw" (164 : Nat) ({ cls := "HallPlanLaw", name := "draft", desc := "(LHallPlan;III[J)I" } : Jvm.MethodName)) ∈ lw_all := lw_g (lw_at lw_m6 69 rfl) rfl
theorem q1411 : (Jvm.Cond.static ({ cls := "HallPlanLaw", name := "draft", desc := "(LHallPlan;III[J)I" } : Jvm.MethodName)) ∈ lw_all := lw_g (lw_at lw_m6 70 rfl) rfl
theorem q1412 : (Jvm.Cond.codeWith ({ cls := "HallPlanLaw", name := "draft", desc := "(LHallPlan;III[J)I" } : Jvm.MethodName) method_6_code (6 : Nat) (Option.some Jvm.ClassFile.FieldType.int) [((0 : Nat), (12 : Nat), (15 : Nat), (29 : Nat)), ((0 : Nat), (12 : Nat), (19 : Nat), (19 : Nat))]) ∈ lw_all := lw_g (lw_at lw_m6 71 rfl) rfl
theorem q1413 : (Jvm.Cond.classLink "HallPlanLaw" (29 : Nat) "java/lang/IndexOutOfBoundsException") ∈ lw_all := lw_g (lw_at lw_m6 72 rfl) rfl
theorem q1432 : (Jvm.Cond.methodLink "HallPlanLaw" (25 : Nat) ({ cls := "HallPlan", name := "draft", desc := "(III)I" } : Jvm.MethodName)) ∈ lw_all := lw_g (lw_at lw_m6 91 rfl) rfl
theorem q1459 : (Jvm.Cond.methodLink "HallPlanLaw" (168 : Nat) ({ cls := "HallPlanLaw", name := "need", desc := "(LHallPlan;II[J)I" } : Jvm.MethodName)) ∈ lw_all := lw_g (lw_at lw_m6 118 rfl) rfl
theorem q1460 : (Jvm.Cond.static ({ cls := "HallPlanLaw", name := "need", desc := "(LHallPlan;II[J)I" } : Jvm.MethodName)) ∈ lw_all := lw_g (lw_at lw_m6 119 rfl) rfl
theorem q1461 : (Jvm.Cond.codeWith ({ cls := "HallPlanLaw", name := "need", desc := "(LHallPlan;II[J)I" } : Jvm.MethodName) method_7_code (5 : Nat) (Option.some Jvm.ClassFile.FieldType.int) [((0 : Nat), (10 : Nat), (13 : Nat), (29 : Nat)), ((0 : Nat), (10 : Nat), (17 : Nat), (19 : Nat))]) ∈ lw_all := lw_g (lw_at lw_m6 120 rfl) rfl
theorem q1462 : (Jvm.Cond.methodLink "HallPlanLaw" (31 : Nat) ({ cls := "HallPlan", name := "need", desc := "(II)I" } : Jvm.MethodName)) ∈ lw_all := lw_g (lw_at lw_m6 121 rfl) rfl
theorem q1475 : (Jvm.Cond.methodLink "HallPlanLaw" (172 : Nat) ({ cls := "HallPlanLaw", name := "book", desc := "(LHallPlan;II[J)I" } : Jvm.MethodName)) ∈ lw_all := lw_g (lw_at lw_m6 134 rfl) rfl
theorem q1476 : (Jvm.Cond.static ({ cls := "HallPlanLaw", name := "book", desc := "(LHallPlan;II[J)I" } : Jvm.MethodName)) ∈ lw_all := lw_g (lw_at lw_m6 135 rfl) rfl
theorem q1477 : (Jvm.Cond.codeWith ({ cls := "HallPlanLaw", name := "book", desc := "(LHallPlan;II[J)I" } : Jvm.MethodName) method_8_code (5 : Nat) (Option.some Jvm.ClassFile.FieldType.int) [((0 : Nat), (10 : Nat), (13 : Nat), (29 : Nat)), ((0 : Nat), (10 : Nat), (17 : Nat), (19 : Nat)), ((0 : Nat), (10 : Nat), (21 : Nat), (13 : Nat))]) ∈ lw_all := lw_g (lw_at lw_m6 136 rfl) rfl
theorem q1478 : (Jvm.Cond.methodLink "HallPlanLaw" (35 : Nat) ({ cls := "HallPlan", name := "book", desc := "(II)I" } : Jvm.MethodName)) ∈ lw_all := lw_g (lw_at lw_m6 137 rfl) rfl
theorem q1574 : (Jvm.Cond.methodLink "HallPlanLaw" (175 : Nat) ({ cls := "HallPlanLaw", name := "cancel", desc := "(LHallPlan;I[J)I" } : Jvm.MethodName)) ∈ lw_all := lw_g (lw_at lw_m6 233 rfl) rfl
theorem q1575 : (Jvm.Cond.static ({ cls := "HallPlanLaw", name := "cancel", desc := "(LHallPlan;I[J)I" } : Jvm.MethodName)) ∈ lw_all := lw_g (lw_at lw_m6 234 rfl) rfl
theorem q1576 : (Jvm.Cond.codeWith ({ cls := "HallPlanLaw", name := "cancel", desc := "(LHallPlan;I[J)I" } : Jvm.MethodName) method_9_code (4 : Nat) (Option.some Jvm.ClassFile.FieldType.int) [((0 : Nat), (9 : Nat), (12 : Nat), (29 : Nat)), ((0 : Nat), (9 : Nat), (15 : Nat), (13 : Nat))]) ∈ lw_all := lw_g (lw_at lw_m6 235 rfl) rfl
theorem q1577 : (Jvm.Cond.methodLink "HallPlanLaw" (38 : Nat) ({ cls := "HallPlan", name := "cancel", desc := "(I)I" } : Jvm.MethodName)) ∈ lw_all := lw_g (lw_at lw_m6 236 rfl) rfl
theorem q1698 : (Jvm.Cond.methodLink "HallPlanLaw" (178 : Nat) ({ cls := "HallPlanLaw", name := "move", desc := "(LHallPlan;III[J)I" } : Jvm.MethodName)) ∈ lw_all := lw_g (lw_at lw_m7 117 rfl) rfl
theorem q1699 : (Jvm.Cond.static ({ cls := "HallPlanLaw", name := "move", desc := "(LHallPlan;III[J)I" } : Jvm.MethodName)) ∈ lw_all := lw_g (lw_at lw_m7 118 rfl) rfl
theorem q1700 : (Jvm.Cond.codeWith ({ cls := "HallPlanLaw", name := "move", desc := "(LHallPlan;III[J)I" } : Jvm.MethodName) method_10_code (6 : Nat) (Option.some Jvm.ClassFile.FieldType.int) [((0 : Nat), (12 : Nat), (15 : Nat), (29 : Nat)), ((0 : Nat), (12 : Nat), (19 : Nat), (19 : Nat)), ((0 : Nat), (12 : Nat), (23 : Nat), (13 : Nat))]) ∈ lw_all := lw_g (lw_at lw_m7 119 rfl) rfl
theorem q1701 : (Jvm.Cond.methodLink "HallPlanLaw" (41 : Nat) ({ cls := "HallPlan", name := "move", desc := "(III)I" } : Jvm.MethodName)) ∈ lw_all := lw_g (lw_at lw_m7 120 rfl) rfl
theorem q1721 : (Jvm.Cond.methodLink "HallPlanLaw" (181 : Nat) ({ cls := "HallPlanLaw", name := "moveByChain", desc := "(LHallPlan;III[J)I" } : Jvm.MethodName)) ∈ lw_all := lw_g (lw_at lw_m7 140 rfl) rfl
theorem q1722 : (Jvm.Cond.static ({ cls := "HallPlanLaw", name := "moveByChain", desc := "(LHallPlan;III[J)I" } : Jvm.MethodName)) ∈ lw_all := lw_g (lw_at lw_m7 141 rfl) rfl
theorem q1723 : (Jvm.Cond.codeWith ({ cls := "HallPlanLaw", name := "moveByChain", desc := "(LHallPlan;III[J)I" } : Jvm.MethodName) method_11_code (6 : Nat) (Option.some Jvm.ClassFile.FieldType.int) [((0 : Nat), (12 : Nat), (15 : Nat), (29 : Nat)), ((0 : Nat), (12 : Nat), (19 : Nat), (19 : Nat)), ((0 : Nat), (12 : Nat), (23 : Nat), (13 : Nat))]) ∈ lw_all := lw_g (lw_at lw_m7 142 rfl) rfl
theorem q1724 : (Jvm.Cond.methodLink "HallPlanLaw" (44 : Nat) ({ cls := "HallPlan", name := "moveByChain", desc := "(III)I" } : Jvm.MethodName)) ∈ lw_all := lw_g (lw_at lw_m7 143 rfl) rfl
theorem q1736 : (Jvm.Cond.methodLink "HallPlanLaw" (184 : Nat) ({ cls := "HallPlanLaw", name := "swap", desc := "(LHallPlan;II[J)I" } : Jvm.MethodName)) ∈ lw_all := lw_g (lw_at lw_m7 155 rfl) rfl
theorem q1737 : (Jvm.Cond.static ({ cls := "HallPlanLaw", name := "swap", desc := "(LHallPlan;II[J)I" } : Jvm.MethodName)) ∈ lw_all := lw_g (lw_at lw_m7 156 rfl) rfl
theorem q1738 : (Jvm.Cond.codeWith ({ cls := "HallPlanLaw", name := "swap", desc := "(LHallPlan;II[J)I" } : Jvm.MethodName) method_12_code (5 : Nat) (Option.some Jvm.ClassFile.FieldType.int) [((0 : Nat), (10 : Nat), (13 : Nat), (29 : Nat)), ((0 : Nat), (10 : Nat), (17 : Nat), (19 : Nat)), ((0 : Nat), (10 : Nat), (21 : Nat), (13 : Nat))]) ∈ lw_all := lw_g (lw_at lw_m7 157 rfl) rfl
theorem q1739 : (Jvm.Cond.methodLink "HallPlanLaw" (47 : Nat) ({ cls := "HallPlan", name := "swap", desc := "(II)I" } : Jvm.MethodName)) ∈ lw_all := lw_g (lw_at lw_m7 158 rfl) rfl
theorem q1797 : (Jvm.Cond.methodLink "HallPlanLaw" (187 : Nat) ({ cls := "HallPlanLaw", name := "enqueue", desc := "(LHallPlan;II[J)I" } : Jvm.MethodName)) ∈ lw_all := lw_g (lw_at lw_m7 216 rfl) rfl
theorem q1798 : (Jvm.Cond.static ({ cls := "HallPlanLaw", name := "enqueue", desc := "(LHallPlan;II[J)I" } : Jvm.MethodName)) ∈ lw_all := lw_g (lw_at lw_m7 217 rfl) rfl
theorem q1799 : (Jvm.Cond.codeWith ({ cls := "HallPlanLaw", name := "enqueue", desc := "(LHallPlan;II[J)I" } : Jvm.MethodName) method_13_code (5 : Nat) (Option.some Jvm.ClassFile.FieldType.int) [((0 : Nat), (10 : Nat), (13 : Nat), (29 : Nat)), ((0 : Nat), (10 : Nat), (17 : Nat), (19 : Nat)), ((0 : Nat), (10 : Nat), (21 : Nat), (13 : Nat))]) ∈ lw_all := lw_g (lw_at lw_m7 218 rfl) rfl
theorem q1800 : (Jvm.Cond.methodLink "HallPlanLaw" (50 : Nat) ({ cls := "HallPlan", name := "enqueue", desc := "(II)I" } : Jvm.MethodName)) ∈ lw_all := lw_g (lw_at lw_m7 219 rfl) rfl
theorem q1822 : (Jvm.Cond.methodLink "HallPlanLaw" (190 : Nat) ({ cls := "HallPlanLaw", name := "dequeue", desc := "(LHallPlan;I[J)I" } : Jvm.MethodName)) ∈ lw_all := lw_g (lw_at lw_m8 1 rfl) rfl
theorem q1823 : (Jvm.Cond.static ({ cls := "HallPlanLaw", name := "dequeue", desc := "(LHallPlan;I[J)I" } : Jvm.MethodName)) ∈ lw_all := lw_g (lw_at lw_m8 2 rfl) rfl
theorem q1824 : (Jvm.Cond.codeWith ({ cls := "HallPlanLaw", name := "dequeue", desc := "(LHallPlan;I[J)I" } : Jvm.MethodName) method_14_code (4 : Nat) (Option.some Jvm.ClassFile.FieldType.int) [((0 : Nat), (9 : Nat), (12 : Nat), (29 : Nat))]) ∈ lw_all := lw_g (lw_at lw_m8 3 rfl) rfl
theorem q1825 : (Jvm.Cond.methodLink "HallPlanLaw" (53 : Nat) ({ cls := "HallPlan", name := "dequeue", desc := "(I)I" } : Jvm.MethodName)) ∈ lw_all := lw_g (lw_at lw_m8 4 rfl) rfl
theorem q1836 : (Jvm.Cond.methodLink "HallPlanLaw" (193 : Nat) ({ cls := "HallPlanLaw", name := "close", desc := "(LHallPlan;III[J)I" } : Jvm.MethodName)) ∈ lw_all := lw_g (lw_at lw_m8 15 rfl) rfl
theorem q1837 : (Jvm.Cond.static ({ cls := "HallPlanLaw", name := "close", desc := "(LHallPlan;III[J)I" } : Jvm.MethodName)) ∈ lw_all := lw_g (lw_at lw_m8 16 rfl) rfl
theorem q1838 : (Jvm.Cond.codeWith ({ cls := "HallPlanLaw", name := "close", desc := "(LHallPlan;III[J)I" } : Jvm.MethodName) method_15_code (6 : Nat) (Option.some Jvm.ClassFile.FieldType.int) [((0 : Nat), (12 : Nat), (15 : Nat), (29 : Nat)), ((0 : Nat), (12 : Nat), (19 : Nat), (19 : Nat)), ((0 : Nat), (12 : Nat), (23 : Nat), (13 : Nat))]) ∈ lw_all := lw_g (lw_at lw_m8 17 rfl) rfl
theorem q1839 : (Jvm.Cond.methodLink "HallPlanLaw" (56 : Nat) ({ cls := "HallPlan", name := "close", desc := "(III)I" } : Jvm.MethodName)) ∈ lw_all := lw_g (lw_at lw_m8 18 rfl) rfl
theorem q1849 : (Jvm.Cond.methodLink "HallPlanLaw" (196 : Nat) ({ cls := "HallPlanLaw", name := "advance", desc := "(LHallPlan;I[J)I" } : Jvm.MethodName)) ∈ lw_all := lw_g (lw_at lw_m8 28 rfl) rfl
theorem q1850 : (Jvm.Cond.static ({ cls := "HallPlanLaw", name := "advance", desc := "(LHallPlan;I[J)I" } : Jvm.MethodName)) ∈ lw_all := lw_g (lw_at lw_m8 29 rfl) rfl
theorem q1851 : (Jvm.Cond.codeWith ({ cls := "HallPlanLaw", name := "advance", desc := "(LHallPlan;I[J)I" } : Jvm.MethodName) method_16_code (4 : Nat) (Option.some Jvm.ClassFile.FieldType.int) [((0 : Nat), (9 : Nat), (12 : Nat), (19 : Nat))]) ∈ lw_all := lw_g (lw_at lw_m8 30 rfl) rfl
theorem q1852 : (Jvm.Cond.methodLink "HallPlanLaw" (59 : Nat) ({ cls := "HallPlan", name := "advance", desc := "(I)I" } : Jvm.MethodName)) ∈ lw_all := lw_g (lw_at lw_m8 31 rfl) rfl
theorem q1856 : (Jvm.Cond.methodLink "HallPlanLaw" (199 : Nat) ({ cls := "HallPlanLaw", name := "setup", desc := "(LHallPlan;I[J)I" } : Jvm.MethodName)) ∈ lw_all := lw_g (lw_at lw_m8 35 rfl) rfl
theorem q1857 : (Jvm.Cond.static ({ cls := "HallPlanLaw", name := "setup", desc := "(LHallPlan;I[J)I" } : Jvm.MethodName)) ∈ lw_all := lw_g (lw_at lw_m8 36 rfl) rfl
theorem q1858 : (Jvm.Cond.codeWith ({ cls := "HallPlanLaw", name := "setup", desc := "(LHallPlan;I[J)I" } : Jvm.MethodName) method_17_code (4 : Nat) (Option.some Jvm.ClassFile.FieldType.int) [((0 : Nat), (9 : Nat), (12 : Nat), (19 : Nat))]) ∈ lw_all := lw_g (lw_at lw_m8 37 rfl) rfl
theorem q1859 : (Jvm.Cond.methodLink "HallPlanLaw" (62 : Nat) ({ cls := "HallPlan", name := "setup", desc := "(I)I" } : Jvm.MethodName)) ∈ lw_all := lw_g (lw_at lw_m8 38 rfl) rfl
theorem q1863 : (Jvm.Cond.methodLink "HallPlanLaw" (202 : Nat) ({ cls := "HallPlanLaw", name := "setupTime", desc := "(LHallPlan;II[J)I" } : Jvm.MethodName)) ∈ lw_all := lw_g (lw_at lw_m8 42 rfl) rfl
theorem q1864 : (Jvm.Cond.static ({ cls := "HallPlanLaw", name := "setupTime", desc := "(LHallPlan;II[J)I" } : Jvm.MethodName)) ∈ lw_all := lw_g (lw_at lw_m8 43 rfl) rfl
theorem q1865 : (Jvm.Cond.codeWith ({ cls := "HallPlanLaw", name := "setupTime", desc := "(LHallPlan;II[J)I" } : Jvm.MethodName) method_18_code (5 : Nat) (Option.some Jvm.ClassFile.FieldType.int) [((0 : Nat), (10 : Nat), (13 : Nat), (29 : Nat))]) ∈ lw_all := lw_g (lw_at lw_m8 44 rfl) rfl
theorem q1866 : (Jvm.Cond.methodLink "HallPlanLaw" (65 : Nat) ({ cls := "HallPlan", name := "setupTime", desc := "(II)I" } : Jvm.MethodName)) ∈ lw_all := lw_g (lw_at lw_m8 45 rfl) rfl
theorem q1870 : (Jvm.Cond.methodLink "HallPlanLaw" (205 : Nat) ({ cls := "HallPlanLaw", name := "isClosed", desc := "(LHallPlan;II[J)I" } : Jvm.MethodName)) ∈ lw_all := lw_g (lw_at lw_m8 49 rfl) rfl
theorem q1871 : (Jvm.Cond.static ({ cls := "HallPlanLaw", name := "isClosed", desc := "(LHallPlan;II[J)I" } : Jvm.MethodName)) ∈ lw_all := lw_g (lw_at lw_m8 50 rfl) rfl
theorem q1872 : (Jvm.Cond.codeWith ({ cls := "HallPlanLaw", name := "isClosed", desc := "(LHallPlan;II[J)I" } : Jvm.MethodName) method_19_code (5 : Nat) (Option.some Jvm.ClassFile.FieldType.int) [((0 : Nat), (17 : Nat), (20 : Nat), (29 : Nat)), ((0 : Nat), (17 : Nat), (24 : Nat), (19 : Nat))]) ∈ lw_all := lw_g (lw_at lw_m8 51 rfl) rfl
theorem q1873 : (Jvm.Cond.methodLink "HallPlanLaw" (68 : Nat) ({ cls := "HallPlan", name := "isClosed", desc := "(II)Z" } : Jvm.MethodName)) ∈ lw_all := lw_g (lw_at lw_m8 52 rfl) rfl
theorem q1881 : (Jvm.Cond.methodLink "HallPlanLaw" (208 : Nat) ({ cls := "HallPlanLaw", name := "feePercent", desc := "(LHallPlan;I[J)I" } : Jvm.MethodName)) ∈ lw_all := lw_g (lw_at lw_m8 60 rfl) rfl
theorem q1882 : (Jvm.Cond.static ({ cls := "HallPlanLaw", name := "feePercent", desc := "(LHallPlan;I[J)I" } : Jvm.MethodName)) ∈ lw_all := lw_g (lw_at lw_m8 61 rfl) rfl
theorem q1883 : (Jvm.Cond.codeWith ({ cls := "HallPlanLaw", name := "feePercent", desc := "(LHallPlan;I[J)I" } : Jvm.MethodName) method_20_code (4 : Nat) (Option.some Jvm.ClassFile.FieldType.int) [((0 : Nat), (9 : Nat), (12 : Nat), (19 : Nat))]) ∈ lw_all := lw_g (lw_at lw_m8 62 rfl) rfl
theorem q1884 : (Jvm.Cond.methodLink "HallPlanLaw" (72 : Nat) ({ cls := "HallPlan", name := "feePercent", desc := "(I)I" } : Jvm.MethodName)) ∈ lw_all := lw_g (lw_at lw_m8 63 rfl) rfl
theorem q1888 : (Jvm.Cond.methodLink "HallPlanLaw" (219 : Nat) ({ cls := "HallPlanLaw", name := "booking", desc := "(LHallPlan;II[J)I" } : Jvm.MethodName)) ∈ lw_all := lw_g (lw_at lw_m8 67 rfl) rfl
theorem q1889 : (Jvm.Cond.static ({ cls := "HallPlanLaw", name := "booking", desc := "(LHallPlan;II[J)I" } : Jvm.MethodName)) ∈ lw_all := lw_g (lw_at lw_m8 68 rfl) rfl
theorem q1890 : (Jvm.Cond.codeWith ({ cls := "HallPlanLaw", name := "booking", desc := "(LHallPlan;II[J)I" } : Jvm.MethodName) method_21_code (5 : Nat) (Option.some Jvm.ClassFile.FieldType.int) [((0 : Nat), (10 : Nat), (13 : Nat), (29 : Nat)), ((0 : Nat), (10 : Nat), (17 : Nat), (19 : Nat))]) ∈ lw_all := lw_g (lw_at lw_m8 69 rfl) rfl
theorem q1891 : (Jvm.Cond.methodLink "HallPlanLaw" (75 : Nat) ({ cls := "HallPlan", name := "booking", desc := "(II)I" } : Jvm.MethodName)) ∈ lw_all := lw_g (lw_at lw_m8 70 rfl) rfl
theorem q1900 : (Jvm.Cond.methodLink "HallPlanLaw" (222 : Nat) ({ cls := "HallPlanLaw", name := "bookedNeed", desc := "(LHallPlan;II[J)I" } : Jvm.MethodName)) ∈ lw_all := lw_g (lw_at lw_m8 79 rfl) rfl
theorem q1901 : (Jvm.Cond.static ({ cls := "HallPlanLaw", name := "bookedNeed", desc := "(LHallPlan;II[J)I" } : Jvm.MethodName)) ∈ lw_all := lw_g (lw_at lw_m8 80 rfl) rfl
theorem q1902 : (Jvm.Cond.codeWith ({ cls := "HallPlanLaw", name := "bookedNeed", desc := "(LHallPlan;II[J)I" } : Jvm.MethodName) method_22_code (5 : Nat) (Option.some Jvm.ClassFile.FieldType.int) [((0 : Nat), (10 : Nat), (13 : Nat), (29 : Nat))]) ∈ lw_all := lw_g (lw_at lw_m8 81 rfl) rfl
theorem q1903 : (Jvm.Cond.methodLink "HallPlanLaw" (78 : Nat) ({ cls := "HallPlan", name := "bookedNeed", desc := "(II)I" } : Jvm.MethodName)) ∈ lw_all := lw_g (lw_at lw_m8 82 rfl) rfl
theorem q1907 : (Jvm.Cond.methodLink "HallPlanLaw" (229 : Nat) ({ cls := "HallPlanLaw", name := "request", desc := "(LHallPlan;II[J)I" } : Jvm.MethodName)) ∈ lw_all := lw_g (lw_at lw_m8 86 rfl) rfl
theorem q1908 : (Jvm.Cond.static ({ cls := "HallPlanLaw", name := "request", desc := "(LHallPlan;II[J)I" } : Jvm.MethodName)) ∈ lw_all := lw_g (lw_at lw_m8 87 rfl) rfl
theorem q1909 : (Jvm.Cond.codeWith ({ cls := "HallPlanLaw", name := "request", desc := "(LHallPlan;II[J)I" } : Jvm.MethodName) method_23_code (5 : Nat) (Option.some Jvm.ClassFile.FieldType.int) [((0 : Nat), (10 : Nat), (13 : Nat), (29 : Nat)), ((0 : Nat), (10 : Nat), (17 : Nat), (19 : Nat))]) ∈ lw_all := lw_g (lw_at lw_m8 88 rfl) rfl
theorem q1910 : (Jvm.Cond.methodLink "HallPlanLaw" (81 : Nat) ({ cls := "HallPlan", name := "request", desc := "(II)I" } : Jvm.MethodName)) ∈ lw_all := lw_g (lw_at lw_m8 89 rfl) rfl
theorem q1914 : (Jvm.Cond.methodLink "HallPlanLaw" (236 : Nat) ({ cls := "HallPlanLaw", name := "problem", desc := "(LHallPlan;II[J)I" } : Jvm.MethodName)) ∈ lw_all := lw_g (lw_at lw_m8 93 rfl) rfl
theorem q1915 : (Jvm.Cond.static ({ cls := "HallPlanLaw", name := "problem", desc := "(LHallPlan;II[J)I" } : Jvm.MethodName)) ∈ lw_all := lw_g (lw_at lw_m8 94 rfl) rfl
theorem q1916 : (Jvm.Cond.codeWith ({ cls := "HallPlanLaw", name := "problem", desc := "(LHallPlan;II[J)I" } : Jvm.MethodName) method_24_code (5 : Nat) (Option.some Jvm.ClassFile.FieldType.int) [((0 : Nat), (10 : Nat), (13 : Nat), (29 : Nat)), ((0 : Nat), (10 : Nat), (17 : Nat), (19 : Nat)), ((0 : Nat), (10 : Nat), (21 : Nat), (13 : Nat))]) ∈ lw_all := lw_g (lw_at lw_m8 95 rfl) rfl
theorem q1917 : (Jvm.Cond.methodLink "HallPlanLaw" (84 : Nat) ({ cls := "HallPlan", name := "problem", desc := "(II)I" } : Jvm.MethodName)) ∈ lw_all := lw_g (lw_at lw_m8 96 rfl) rfl
theorem q1921 : (Jvm.Cond.methodLink "HallPlanLaw" (239 : Nat) ({ cls := "HallPlanLaw", name := "price", desc := "(LHallPlan;II[J)I" } : Jvm.MethodName)) ∈ lw_all := lw_g (lw_at lw_m8 100 rfl) rfl
theorem q1922 : (Jvm.Cond.static ({ cls := "HallPlanLaw", name := "price", desc := "(LHallPlan;II[J)I" } : Jvm.MethodName)) ∈ lw_all := lw_g (lw_at lw_m8 101 rfl) rfl
theorem q1923 : (Jvm.Cond.codeWith ({ cls := "HallPlanLaw", name := "price", desc := "(LHallPlan;II[J)I" } : Jvm.MethodName) method_25_code (5 : Nat) (Option.some Jvm.ClassFile.FieldType.int) [((0 : Nat), (10 : Nat), (13 : Nat), (29 : Nat)), ((0 : Nat), (10 : Nat), (17 : Nat), (19 : Nat))]) ∈ lw_all := lw_g (lw_at lw_m8 102 rfl) rfl
theorem q1924 : (Jvm.Cond.methodLink "HallPlanLaw" (87 : Nat) ({ cls := "HallPlan", name := "price", desc := "(II)I" } : Jvm.MethodName)) ∈ lw_all := lw_g (lw_at lw_m8 103 rfl) rfl
theorem q1928 : (Jvm.Cond.methodLink "HallPlanLaw" (242 : Nat) ({ cls := "HallPlanLaw", name := "earliest", desc := "(LHallPlan;II[J)I" } : Jvm.MethodName)) ∈ lw_all := lw_g (lw_at lw_m8 107 rfl) rfl
theorem q1929 : (Jvm.Cond.static ({ cls := "HallPlanLaw", name := "earliest", desc := "(LHallPlan;II[J)I" } : Jvm.MethodName)) ∈ lw_all := lw_g (lw_at lw_m8 108 rfl) rfl
theorem q1930 : (Jvm.Cond.codeWith ({ cls := "HallPlanLaw", name := "earliest", desc := "(LHallPlan;II[J)I" } : Jvm.MethodName) method_26_code (5 : Nat) (Option.some Jvm.ClassFile.FieldType.int) [((0 : Nat), (10 : Nat), (13 : Nat), (29 : Nat)), ((0 : Nat), (10 : Nat), (17 : Nat), (19 : Nat)), ((0 : Nat), (10 : Nat), (21 : Nat), (13 : Nat)), ((0 : Nat), (10 : Nat), (25 : Nat), (93 : Nat))]) ∈ lw_all := lw_g (lw_at lw_m8 109 rfl) rfl
theorem q1931 : (Jvm.Cond.classLink "HallPlanLaw" (93 : Nat) "java/util/NoSuchElementException") ∈ lw_all := lw_g (lw_at lw_m8 110 rfl) rfl
theorem q1932 : (Jvm.Cond.methodLink "HallPlanLaw" (90 : Nat) ({ cls := "HallPlan", name := "earliest", desc := "(II)I" } : Jvm.MethodName)) ∈ lw_all := lw_g (lw_at lw_m8 111 rfl) rfl
theorem q1945 : (Jvm.Cond.methodLink "HallPlanLaw" (245 : Nat) ({ cls := "HallPlanLaw", name := "earliestHall", desc := "(LHallPlan;I[J)I" } : Jvm.MethodName)) ∈ lw_all := lw_g (lw_at lw_m8 124 rfl) rfl
theorem q1946 : (Jvm.Cond.static ({ cls := "HallPlanLaw", name := "earliestHall", desc := "(LHallPlan;I[J)I" } : Jvm.MethodName)) ∈ lw_all := lw_g (lw_at lw_m8 125 rfl) rfl
theorem q1947 : (Jvm.Cond.codeWith ({ cls := "HallPlanLaw", name := "earliestHall", desc := "(LHallPlan;I[J)I" } : Jvm.MethodName) method_27_code (4 : Nat) (Option.some Jvm.ClassFile.FieldType.int) [((0 : Nat), (9 : Nat), (12 : Nat), (19 : Nat)), ((0 : Nat), (9 : Nat), (15 : Nat), (13 : Nat)), ((0 : Nat), (9 : Nat), (18 : Nat), (93 : Nat))]) ∈ lw_all := lw_g (lw_at lw_m8 126 rfl) rfl
theorem q1948 : (Jvm.Cond.methodLink "HallPlanLaw" (95 : Nat) ({ cls := "HallPlan", name := "earliestHall", desc := "(I)I" } : Jvm.MethodName)) ∈ lw_all := lw_g (lw_at lw_m8 127 rfl) rfl
theorem q1952 : (Jvm.Cond.methodLink "HallPlanLaw" (248 : Nat) ({ cls := "HallPlanLaw", name := "conflicts", desc := "(LHallPlan;II[J)I" } : Jvm.MethodName)) ∈ lw_all := lw_g (lw_at lw_m8 131 rfl) rfl
theorem q1953 : (Jvm.Cond.static ({ cls := "HallPlanLaw", name := "conflicts", desc := "(LHallPlan;II[J)I" } : Jvm.MethodName)) ∈ lw_all := lw_g (lw_at lw_m8 132 rfl) rfl
theorem q1954 : (Jvm.Cond.codeWith ({ cls := "HallPlanLaw", name := "conflicts", desc := "(LHallPlan;II[J)I" } : Jvm.MethodName) method_28_code (5 : Nat) (Option.some Jvm.ClassFile.FieldType.int) [((0 : Nat), (9 : Nat), (12 : Nat), (29 : Nat)), ((0 : Nat), (9 : Nat), (16 : Nat), (19 : Nat)), ((0 : Nat), (9 : Nat), (20 : Nat), (13 : Nat))]) ∈ lw_all := lw_g (lw_at lw_m8 133 rfl) rfl
theorem q1955 : (Jvm.Cond.methodLink "HallPlanLaw" (98 : Nat) ({ cls := "HallPlan", name := "conflicts", desc := "(II)J" } : Jvm.MethodName)) ∈ lw_all := lw_g (lw_at lw_m8 134 rfl) rfl
theorem q1959 : (Jvm.Cond.methodLink "HallPlanLaw" (251 : Nat) ({ cls := "HallPlanLaw", name := "moveProblem", desc := "(LHallPlan;III[J)I" } : Jvm.MethodName)) ∈ lw_all := lw_g (lw_at lw_m8 138 rfl) rfl
theorem q1960 : (Jvm.Cond.static ({ cls := "HallPlanLaw", name := "moveProblem", desc := "(LHallPlan;III[J)I" } : Jvm.MethodName)) ∈ lw_all := lw_g (lw_at lw_m8 139 rfl) rfl
theorem q1961 : (Jvm.Cond.codeWith ({ cls := "HallPlanLaw", name := "moveProblem", desc := "(LHallPlan;III[J)I" } : Jvm.MethodName) method_29_code (6 : Nat) (Option.some Jvm.ClassFile.FieldType.int) [((0 : Nat), (12 : Nat), (15 : Nat), (29 : Nat)), ((0 : Nat), (12 : Nat), (19 : Nat), (19 : Nat)), ((0 : Nat), (12 : Nat), (23 : Nat), (13 : Nat))]) ∈ lw_all := lw_g (lw_at lw_m8 140 rfl) rfl
theorem q1962 : (Jvm.Cond.methodLink "HallPlanLaw" (102 : Nat) ({ cls := "HallPlan", name := "moveProblem", desc := "(III)I" } : Jvm.MethodName)) ∈ lw_all := lw_g (lw_at lw_m8 141 rfl) rfl
theorem q1966 : (Jvm.Cond.methodLink "HallPlanLaw" (254 : Nat) ({ cls := "HallPlanLaw", name := "chain", desc := "(LHallPlan;IIII[J)I" } : Jvm.MethodName)) ∈ lw_all := lw_g (lw_at lw_m8 145 rfl) rfl
theorem q1967 : (Jvm.Cond.static ({ cls := "HallPlanLaw", name := "chain", desc := "(LHallPlan;IIII[J)I" } : Jvm.MethodName)) ∈ lw_all := lw_g (lw_at lw_m8 146 rfl) rfl
theorem q1968 : (Jvm.Cond.codeWith ({ cls := "HallPlanLaw", name := "chain", desc := "(LHallPlan;IIII[J)I" } : Jvm.MethodName) method_30_code (7 : Nat) (Option.some Jvm.ClassFile.FieldType.int) [((0 : Nat), (14 : Nat), (17 : Nat), (29 : Nat)), ((0 : Nat), (14 : Nat), (21 : Nat), (19 : Nat)), ((0 : Nat), (14 : Nat), (25 : Nat), (13 : Nat)), ((0 : Nat), (14 : Nat), (29 : Nat), (93 : Nat))]) ∈ lw_all := lw_g (lw_at lw_m8 147 rfl) rfl
theorem q1969 : (Jvm.Cond.methodLink "HallPlanLaw" (105 : Nat) ({ cls := "HallPlan", name := "chain", desc := "(IIII)I" } : Jvm.MethodName)) ∈ lw_all := lw_g (lw_at lw_m8 148 rfl) rfl
theorem q1975 : (Jvm.Cond.methodLink "HallPlanLaw" (258 : Nat) ({ cls := "HallPlanLaw", name := "swapProblem", desc := "(LHallPlan;II[J)I" } : Jvm.MethodName)) ∈ lw_all := lw_g (lw_at lw_m8 154 rfl) rfl
theorem q1976 : (Jvm.Cond.static ({ cls := "HallPlanLaw", name := "swapProblem", desc := "(LHallPlan;II[J)I" } : Jvm.MethodName)) ∈ lw_all := lw_g (lw_at lw_m8 155 rfl) rfl
theorem q1977 : (Jvm.Cond.codeWith ({ cls := "HallPlanLaw", name := "swapProblem", desc := "(LHallPlan;II[J)I" } : Jvm.MethodName) method_31_code (5 : Nat) (Option.some Jvm.ClassFile.FieldType.int) [((0 : Nat), (10 : Nat), (13 : Nat), (29 : Nat)), ((0 : Nat), (10 : Nat), (17 : Nat), (19 : Nat)), ((0 : Nat), (10 : Nat), (21 : Nat), (13 : Nat))]) ∈ lw_all := lw_g (lw_at lw_m8 156 rfl) rfl
theorem q1978 : (Jvm.Cond.methodLink "HallPlanLaw" (109 : Nat) ({ cls := "HallPlan", name := "swapProblem", desc := "(II)I" } : Jvm.MethodName)) ∈ lw_all := lw_g (lw_at lw_m8 157 rfl) rfl
theorem q1988 : (Jvm.Cond.methodLink "HallPlanLaw" (261 : Nat) ({ cls := "HallPlanLaw", name := "feeNow", desc := "(LHallPlan;I[J)I" } : Jvm.MethodName)) ∈ lw_all := lw_g (lw_at lw_m8 167 rfl) rfl
theorem q1989 : (Jvm.Cond.static ({ cls := "HallPlanLaw", name := "feeNow", desc := "(LHallPlan;I[J)I" } : Jvm.MethodName)) ∈ lw_all := lw_g (lw_at lw_m8 168 rfl) rfl
theorem q1990 : (Jvm.Cond.codeWith ({ cls := "HallPlanLaw", name := "feeNow", desc := "(LHallPlan;I[J)I" } : Jvm.MethodName) method_32_code (4 : Nat) (Option.some Jvm.ClassFile.FieldType.int) [((0 : Nat), (9 : Nat), (12 : Nat), (29 : Nat)), ((0 : Nat), (9 : Nat), (15 : Nat), (13 : Nat))]) ∈ lw_all := lw_g (lw_at lw_m8 169 rfl) rfl
theorem q1991 : (Jvm.Cond.methodLink "HallPlanLaw" (112 : Nat) ({ cls := "HallPlan", name := "feeNow", desc := "(I)I" } : Jvm.MethodName)) ∈ lw_all := lw_g (lw_at lw_m8 170 rfl) rfl
theorem q1995 : (Jvm.Cond.methodLink "HallPlanLaw" (264 : Nat) ({ cls := "HallPlanLaw", name := "inUse", desc := "(LHallPlan;II[J)I" } : Jvm.MethodName)) ∈ lw_all := lw_g (lw_at lw_m8 174 rfl) rfl
theorem q1996 : (Jvm.Cond.static ({ cls := "HallPlanLaw", name := "inUse", desc := "(LHallPlan;II[J)I" } : Jvm.MethodName)) ∈ lw_all := lw_g (lw_at lw_m8 175 rfl) rfl
theorem q1997 : (Jvm.Cond.codeWith ({ cls := "HallPlanLaw", name := "inUse", desc := "(LHallPlan;II[J)I" } : Jvm.MethodName) method_33_code (5 : Nat) (Option.some Jvm.ClassFile.FieldType.int) [((0 : Nat), (10 : Nat), (13 : Nat), (29 : Nat)), ((0 : Nat), (10 : Nat), (17 : Nat), (19 : Nat))]) ∈ lw_all := lw_g (lw_at lw_m8 176 rfl) rfl
theorem q1998 : (Jvm.Cond.methodLink "HallPlanLaw" (115 : Nat) ({ cls := "HallPlan", name := "inUse", desc := "(II)I" } : Jvm.MethodName)) ∈ lw_all := lw_g (lw_at lw_m8 177 rfl) rfl
theorem q2011 : (Jvm.Cond.methodLink "HallPlanLaw" (267 : Nat) ({ cls := "HallPlanLaw", name := "peak", desc := "(LHallPlan;II[J)I" } : Jvm.MethodName)) ∈ lw_all := lw_g (lw_at lw_m8 190 rfl) rfl
theorem q2012 : (Jvm.Cond.static ({ cls := "HallPlanLaw", name := "peak", desc := "(LHallPlan;II[J)I" } : Jvm.MethodName)) ∈ lw_all := lw_g (lw_at lw_m8 191 rfl) rfl
theorem q2013 : (Jvm.Cond.codeWith ({ cls := "HallPlanLaw", name := "peak", desc := "(LHallPlan;II[J)I" } : Jvm.MethodName) method_34_code (5 : Nat) (Option.some Jvm.ClassFile.FieldType.int) [((0 : Nat), (10 : Nat), (13 : Nat), (29 : Nat)), ((0 : Nat), (10 : Nat), (17 : Nat), (19 : Nat))]) ∈ lw_all := lw_g (lw_at lw_m8 192 rfl) rfl
theorem q2014 : (Jvm.Cond.methodLink "HallPlanLaw" (118 : Nat) ({ cls := "HallPlan", name := "peak", desc := "(II)I" } : Jvm.MethodName)) ∈ lw_all := lw_g (lw_at lw_m8 193 rfl) rfl
theorem q2021 : (Jvm.Cond.methodLink "HallPlanLaw" (270 : Nat) ({ cls := "HallPlanLaw", name := "occupancy", desc := "(LHallPlan;II[J)I" } : Jvm.MethodName)) ∈ lw_all := lw_g (lw_at lw_m8 200 rfl) rfl
theorem q2022 : (Jvm.Cond.static ({ cls := "HallPlanLaw", name := "occupancy", desc := "(LHallPlan;II[J)I" } : Jvm.MethodName)) ∈ lw_all := lw_g (lw_at lw_m8 201 rfl) rfl
theorem q2023 : (Jvm.Cond.codeWith ({ cls := "HallPlanLaw", name := "occupancy", desc := "(LHallPlan;II[J)I" } : Jvm.MethodName) method_35_code (5 : Nat) (Option.some Jvm.ClassFile.FieldType.int) [((0 : Nat), (10 : Nat), (13 : Nat), (29 : Nat)), ((0 : Nat), (10 : Nat), (17 : Nat), (19 : Nat))]) ∈ lw_all := lw_g (lw_at lw_m8 202 rfl) rfl
theorem q2024 : (Jvm.Cond.methodLink "HallPlanLaw" (121 : Nat) ({ cls := "HallPlan", name := "occupancy", desc := "(II)I" } : Jvm.MethodName)) ∈ lw_all := lw_g (lw_at lw_m8 203 rfl) rfl
theorem q2064 : (Jvm.Cond.methodLink "HallPlanLaw" (273 : Nat) ({ cls := "HallPlanLaw", name := "setupSum", desc := "(LHallPlan;II[J)I" } : Jvm.MethodName)) ∈ lw_all := lw_g (lw_at lw_m9 3 rfl) rfl
theorem q2065 : (Jvm.Cond.static ({ cls := "HallPlanLaw", name := "setupSum", desc := "(LHallPlan;II[J)I" } : Jvm.MethodName)) ∈ lw_all := lw_g (lw_at lw_m9 4 rfl) rfl
theorem q2066 : (Jvm.Cond.codeWith ({ cls := "HallPlanLaw", name := "setupSum", desc := "(LHallPlan;II[J)I" } : Jvm.MethodName) method_36_code (5 : Nat) (Option.some Jvm.ClassFile.FieldType.int) [((0 : Nat), (10 : Nat), (13 : Nat), (29 : Nat)), ((0 : Nat), (10 : Nat), (17 : Nat), (19 : Nat))]) ∈ lw_all := lw_g (lw_at lw_m9 5 rfl) rfl
theorem q2067 : (Jvm.Cond.methodLink "HallPlanLaw" (124 : Nat) ({ cls := "HallPlan", name := "setupSum", desc := "(II)I" } : Jvm.MethodName)) ∈ lw_all := lw_g (lw_at lw_m9 6 rfl) rfl
theorem q2071 : (Jvm.Cond.methodLink "HallPlanLaw" (276 : Nat) ({ cls := "HallPlanLaw", name := "leastSetup", desc := "(LHallPlan;II[J)I" } : Jvm.MethodName)) ∈ lw_all := lw_g (lw_at lw_m9 10 rfl) rfl
theorem q2072 : (Jvm.Cond.static ({ cls := "HallPlanLaw", name := "leastSetup", desc := "(LHallPlan;II[J)I" } : Jvm.MethodName)) ∈ lw_all := lw_g (lw_at lw_m9 11 rfl) rfl
theorem q2073 : (Jvm.Cond.codeWith ({ cls := "HallPlanLaw", name := "leastSetup", desc := "(LHallPlan;II[J)I" } : Jvm.MethodName) method_37_code (5 : Nat) (Option.some Jvm.ClassFile.FieldType.int) [((0 : Nat), (10 : Nat), (13 : Nat), (29 : Nat)), ((0 : Nat), (10 : Nat), (17 : Nat), (19 : Nat)), ((0 : Nat), (10 : Nat), (21 : Nat), (13 : Nat))]) ∈ lw_all := lw_g (lw_at lw_m9 12 rfl) rfl
theorem q2074 : (Jvm.Cond.methodLink "HallPlanLaw" (127 : Nat) ({ cls := "HallPlan", name := "leastSetup", desc := "(II)I" } : Jvm.MethodName)) ∈ lw_all := lw_g (lw_at lw_m9 13 rfl) rfl
theorem q2079 : (Jvm.Cond.methodLink "HallPlanLaw" (279 : Nat) ({ cls := "HallPlanLaw", name := "nextBooking", desc := "(LHallPlan;II[J)I" } : Jvm.MethodName)) ∈ lw_all := lw_g (lw_at lw_m9 18 rfl) rfl
theorem q2080 : (Jvm.Cond.static ({ cls := "HallPlanLaw", name := "nextBooking", desc := "(LHallPlan;II[J)I" } : Jvm.MethodName)) ∈ lw_all := lw_g (lw_at lw_m9 19 rfl) rfl
theorem q2081 : (Jvm.Cond.codeWith ({ cls := "HallPlanLaw", name := "nextBooking", desc := "(LHallPlan;II[J)I" } : Jvm.MethodName) method_38_code (5 : Nat) (Option.some Jvm.ClassFile.FieldType.int) [((0 : Nat), (10 : Nat), (13 : Nat), (29 : Nat)), ((0 : Nat), (10 : Nat), (17 : Nat), (19 : Nat)), ((0 : Nat), (10 : Nat), (21 : Nat), (93 : Nat))]) ∈ lw_all := lw_g (lw_at lw_m9 20 rfl) rfl
theorem q2082 : (Jvm.Cond.methodLink "HallPlanLaw" (130 : Nat) ({ cls := "HallPlan", name := "nextBooking", desc := "(II)I" } : Jvm.MethodName)) ∈ lw_all := lw_g (lw_at lw_m9 21 rfl) rfl
theorem q2086 : (Jvm.Cond.methodLink "HallPlanLaw" (282 : Nat) ({ cls := "HallPlanLaw", name := "undo", desc := "(LHallPlan;[J)I" } : Jvm.MethodName)) ∈ lw_all := lw_g (lw_at lw_m9 25 rfl) rfl
theorem q2087 : (Jvm.Cond.static ({ cls := "HallPlanLaw", name := "undo", desc := "(LHallPlan;[J)I" } : Jvm.MethodName)) ∈ lw_all := lw_g (lw_at lw_m9 26 rfl) rfl
theorem q2088 : (Jvm.Cond.codeWith ({ cls := "HallPlanLaw", name := "undo", desc := "(LHallPlan;[J)I" } : Jvm.MethodName) method_39_code (3 : Nat) (Option.some Jvm.ClassFile.FieldType.int) [((0 : Nat), (8 : Nat), (11 : Nat), (13 : Nat))]) ∈ lw_all := lw_g (lw_at lw_m9 27 rfl) rfl
theorem q2089 : (Jvm.Cond.methodLink "HallPlanLaw" (133 : Nat) ({ cls := "HallPlan", name := "undo", desc := "()I" } : Jvm.MethodName)) ∈ lw_all := lw_g (lw_at lw_m9 28 rfl) rfl
theorem q2108 : (Jvm.Cond.methodLink "HallPlanLaw" (293 : Nat) ({ cls := "HallPlanLaw", name := "restore", desc := "(LHallPlan;[J)I" } : Jvm.MethodName)) ∈ lw_all := lw_g (lw_at lw_m9 47 rfl) rfl
theorem q2109 : (Jvm.Cond.static ({ cls := "HallPlanLaw", name := "restore", desc := "(LHallPlan;[J)I" } : Jvm.MethodName)) ∈ lw_all := lw_g (lw_at lw_m9 48 rfl) rfl
theorem q2110 : (Jvm.Cond.codeWith ({ cls := "HallPlanLaw", name := "restore", desc := "(LHallPlan;[J)I" } : Jvm.MethodName) method_40_code (3 : Nat) (Option.some Jvm.ClassFile.FieldType.int) [((0 : Nat), (8 : Nat), (11 : Nat), (13 : Nat))]) ∈ lw_all := lw_g (lw_at lw_m9 49 rfl) rfl
theorem q2111 : (Jvm.Cond.methodLink "HallPlanLaw" (136 : Nat) ({ cls := "HallPlan", name := "restore", desc := "()I" } : Jvm.MethodName)) ∈ lw_all := lw_g (lw_at lw_m9 50 rfl) rfl
theorem q2115 : (Jvm.Cond.methodLink "HallPlanLaw" (149 : Nat) ({ cls := "HallPlanModel", name := "thrown", desc := "()I" } : Jvm.MethodName)) ∈ lw_all := lw_g (lw_at lw_m9 54 rfl) rfl
theorem q2119 : (Jvm.Cond.classLink "HallPlanLaw" (140 : Nat) "HallPlanModel") ∈ lw_all := lw_g (lw_at lw_m9 58 rfl) rfl
theorem q2121 : (Jvm.Cond.methodLink "HallPlanLaw" (142 : Nat) ({ cls := "HallPlanModel", name := "<init>", desc := "()V" } : Jvm.MethodName)) ∈ lw_all := lw_g (lw_at lw_m9 60 rfl) rfl
theorem q2212 : (Jvm.Cond.methodLink "HallPlanLaw" (148 : Nat) ({ cls := "HallPlanModel", name := "append", desc := "(IIIII)I" } : Jvm.MethodName)) ∈ lw_all := lw_g (lw_at lw_m9 151 rfl) rfl
theorem q2227 : (Jvm.Cond.methodLink "HallPlanLaw" (155 : Nat) ({ cls := "HallPlanModel", name := "truncate", desc := "(I)I" } : Jvm.MethodName)) ∈ lw_all := lw_g (lw_at lw_m9 166 rfl) rfl
theorem q2234 : (Jvm.Cond.methodLink "HallPlanLaw" (159 : Nat) ({ cls := "HallPlanModel", name := "errorPosition", desc := "()I" } : Jvm.MethodName)) ∈ lw_all := lw_g (lw_at lw_m9 173 rfl) rfl
theorem q2363 : (Jvm.Cond.methodLink "HallPlanLaw" (163 : Nat) ({ cls := "HallPlanModel", name := "load", desc := "()I" } : Jvm.MethodName)) ∈ lw_all := lw_g (lw_at lw_m10 62 rfl) rfl
theorem q2367 : (Jvm.Cond.methodLink "HallPlanLaw" (167 : Nat) ({ cls := "HallPlanModel", name := "draft", desc := "(III)I" } : Jvm.MethodName)) ∈ lw_all := lw_g (lw_at lw_m10 66 rfl) rfl
theorem q2378 : (Jvm.Cond.methodLink "HallPlanLaw" (171 : Nat) ({ cls := "HallPlanModel", name := "need", desc := "(II)I" } : Jvm.MethodName)) ∈ lw_all := lw_g (lw_at lw_m10 77 rfl) rfl
theorem q2386 : (Jvm.Cond.methodLink "HallPlanLaw" (174 : Nat) ({ cls := "HallPlanModel", name := "book", desc := "(II)I" } : Jvm.MethodName)) ∈ lw_all := lw_g (lw_at lw_m10 85 rfl) rfl
theorem q2475 : (Jvm.Cond.methodLink "HallPlanLaw" (177 : Nat) ({ cls := "HallPlanModel", name := "cancel", desc := "(I)I" } : Jvm.MethodName)) ∈ lw_all := lw_g (lw_at lw_m10 174 rfl) rfl
theorem q2514 : (Jvm.Cond.methodLink "HallPlanLaw" (180 : Nat) ({ cls := "HallPlanModel", name := "move", desc := "(III)I" } : Jvm.MethodName)) ∈ lw_all := lw_g (lw_at lw_m10 213 rfl) rfl
theorem q2526 : (Jvm.Cond.methodLink "HallPlanLaw" (183 : Nat) ({ cls := "HallPlanModel", name := "moveByChain", desc := "(III)I" } : Jvm.MethodName)) ∈ lw_all := lw_g (lw_at lw_m10 225 rfl) rfl
theorem q2550 : (Jvm.Cond.methodLink "HallPlanLaw" (186 : Nat) ({ cls := "HallPlanModel", name := "swap", desc := "(II)I" } : Jvm.MethodName)) ∈ lw_all := lw_g (lw_at lw_m11 9 rfl) rfl
theorem q2562 : (Jvm.Cond.methodLink "HallPlanLaw" (189 : Nat) ({ cls := "HallPlanModel", name := "enqueue", desc := "(II)I" } : Jvm.MethodName)) ∈ lw_all := lw_g (lw_at lw_m11 21 rfl) rfl
theorem q2566 : (Jvm.Cond.methodLink "HallPlanLaw" (192 : Nat) ({ cls := "HallPlanModel", name := "dequeue", desc := "(I)I" } : Jvm.MethodName)) ∈ lw_all := lw_g (lw_at lw_m11 25 rfl) rfl
theorem q2570 : (Jvm.Cond.methodLink "HallPlanLaw" (195 : Nat) ({ cls := "HallPlanModel", name := "close", desc := "(III)I" } : Jvm.MethodName)) ∈ lw_all := lw_g (lw_at lw_m11 29 rfl) rfl
theorem q2579 : (Jvm.Cond.methodLink "HallPlanLaw" (198 : Nat) ({ cls := "HallPlanModel", name := "advance", desc := "(I)I" } : Jvm.MethodName)) ∈ lw_all := lw_g (lw_at lw_m11 38 rfl) rfl
theorem q2584 : (Jvm.Cond.methodLink "HallPlanLaw" (201 : Nat) ({ cls := "HallPlanModel", name := "setup", desc := "(I)I" } : Jvm.MethodName)) ∈ lw_all := lw_g (lw_at lw_m11 43 rfl) rfl
theorem q2588 : (Jvm.Cond.methodLink "HallPlanLaw" (204 : Nat) ({ cls := "HallPlanModel", name := "setupTime", desc := "(II)I" } : Jvm.MethodName)) ∈ lw_all := lw_g (lw_at lw_m11 47 rfl) rfl
theorem q2592 : (Jvm.Cond.methodLink "HallPlanLaw" (207 : Nat) ({ cls := "HallPlanModel", name := "isClosed", desc := "(II)Z" } : Jvm.MethodName)) ∈ lw_all := lw_g (lw_at lw_m11 51 rfl) rfl
theorem q2597 : (Jvm.Cond.methodLink "HallPlanLaw" (210 : Nat) ({ cls := "HallPlanModel", name := "feePercent", desc := "(I)I" } : Jvm.MethodName)) ∈ lw_all := lw_g (lw_at lw_m11 56 rfl) rfl
theorem q2602 : (Jvm.Cond.methodLink "HallPlanLaw" (214 : Nat) ({ cls := "HallPlanModel", name := "now", desc := "()I" } : Jvm.MethodName)) ∈ lw_all := lw_g (lw_at lw_m11 61 rfl) rfl
theorem q2606 : (Jvm.Cond.methodLink "HallPlanLaw" (218 : Nat) ({ cls := "HallPlanModel", name := "bookingCount", desc := "()I" } : Jvm.MethodName)) ∈ lw_all := lw_g (lw_at lw_m11 65 rfl) rfl
theorem q2610 : (Jvm.Cond.methodLink "HallPlanLaw" (221 : Nat) ({ cls := "HallPlanModel", name := "booking", desc := "(II)I" } : Jvm.MethodName)) ∈ lw_all := lw_g (lw_at lw_m11 69 rfl) rfl
theorem q2614 : (Jvm.Cond.methodLink "HallPlanLaw" (224 : Nat) ({ cls := "HallPlanModel", name := "bookedNeed", desc := "(II)I" } : Jvm.MethodName)) ∈ lw_all := lw_g (lw_at lw_m11 73 rfl) rfl
theorem q2618 : (Jvm.Cond.methodLink "HallPlanLaw" (228 : Nat) ({ cls := "HallPlanModel", name := "requestCount", desc := "()I" } : Jvm.MethodName)) ∈ lw_all := lw_g (lw_at lw_m11 77 rfl) rfl
theorem q2622 : (Jvm.Cond.methodLink "HallPlanLaw" (231 : Nat) ({ cls := "HallPlanModel", name := "request", desc := "(II)I" } : Jvm.MethodName)) ∈ lw_all := lw_g (lw_at lw_m11 81 rfl) rfl
theorem q2626 : (Jvm.Cond.methodLink "HallPlanLaw" (235 : Nat) ({ cls := "HallPlanModel", name := "revenue", desc := "()I" } : Jvm.MethodName)) ∈ lw_all := lw_g (lw_at lw_m11 85 rfl) rfl
theorem q2630 : (Jvm.Cond.methodLink "HallPlanLaw" (238 : Nat) ({ cls := "HallPlanModel", name := "problem", desc := "(II)I" } : Jvm.MethodName)) ∈ lw_all := lw_g (lw_at lw_m11 89 rfl) rfl
theorem q2638 : (Jvm.Cond.methodLink "HallPlanLaw" (241 : Nat) ({ cls := "HallPlanModel", name := "price", desc := "(II)I" } : Jvm.MethodName)) ∈ lw_all := lw_g (lw_at lw_m11 97 rfl) rfl
theorem q2642 : (Jvm.Cond.methodLink "HallPlanLaw" (244 : Nat) ({ cls := "HallPlanModel", name := "earliest", desc := "(II)I" } : Jvm.MethodName)) ∈ lw_all := lw_g (lw_at lw_m11 101 rfl) rfl
theorem q2650 : (Jvm.Cond.methodLink "HallPlanLaw" (247 : Nat) ({ cls := "HallPlanModel", name := "earliestHall", desc := "(I)I" } : Jvm.MethodName)) ∈ lw_all := lw_g (lw_at lw_m11 109 rfl) rfl
theorem q2654 : (Jvm.Cond.methodLink "HallPlanLaw" (250 : Nat) ({ cls := "HallPlanModel", name := "conflicts", desc := "(II)J" } : Jvm.MethodName)) ∈ lw_all := lw_g (lw_at lw_m11 113 rfl) rfl
theorem q2658 : (Jvm.Cond.methodLink "HallPlanLaw" (253 : Nat) ({ cls := "HallPlanModel", name := "moveProblem", desc := "(III)I" } : Jvm.MethodName)) ∈ lw_all := lw_g (lw_at lw_m11 117 rfl) rfl
theorem q2662 : (Jvm.Cond.methodLink "HallPlanLaw" (257 : Nat) ({ cls := "HallPlanModel", name := "chain", desc := "(IIII)I" } : Jvm.MethodName)) ∈ lw_all := lw_g (lw_at lw_m11 121 rfl) rfl
theorem q2667 : (Jvm.Cond.methodLink "HallPlanLaw" (260 : Nat) ({ cls := "HallPlanModel", name := "swapProblem", desc := "(II)I" } : Jvm.MethodName)) ∈ lw_all := lw_g (lw_at lw_m11 126 rfl) rfl
theorem q2671 : (Jvm.Cond.methodLink "HallPlanLaw" (263 : Nat) ({ cls := "HallPlanModel", name := "feeNow", desc := "(I)I" } : Jvm.MethodName)) ∈ lw_all := lw_g (lw_at lw_m11 130 rfl) rfl
theorem q2675 : (Jvm.Cond.methodLink "HallPlanLaw" (266 : Nat) ({ cls := "HallPlanModel", name := "inUse", desc := "(II)I" } : Jvm.MethodName)) ∈ lw_all := lw_g (lw_at lw_m11 134 rfl) rfl
theorem q2683 : (Jvm.Cond.methodLink "HallPlanLaw" (269 : Nat) ({ cls := "HallPlanModel", name := "peak", desc := "(II)I" } : Jvm.MethodName)) ∈ lw_all := lw_g (lw_at lw_m11 142 rfl) rfl
theorem q2692 : (Jvm.Cond.methodLink "HallPlanLaw" (272 : Nat) ({ cls := "HallPlanModel", name := "occupancy", desc := "(II)I" } : Jvm.MethodName)) ∈ lw_all := lw_g (lw_at lw_m11 151 rfl) rfl
theorem q2704 : (Jvm.Cond.methodLink "HallPlanLaw" (275 : Nat) ({ cls := "HallPlanModel", name := "setupSum", desc := "(II)I" } : Jvm.MethodName)) ∈ lw_all := lw_g (lw_at lw_m11 163 rfl) rfl
theorem q2712 : (Jvm.Cond.methodLink "HallPlanLaw" (278 : Nat) ({ cls := "HallPlanModel", name := "leastSetup", desc := "(II)I" } : Jvm.MethodName)) ∈ lw_all := lw_g (lw_at lw_m11 171 rfl) rfl
theorem q2725 : (Jvm.Cond.methodLink "HallPlanLaw" (281 : Nat) ({ cls := "HallPlanModel", name := "nextBooking", desc := "(II)I" } : Jvm.MethodName)) ∈ lw_all := lw_g (lw_at lw_m11 184 rfl) rfl
theorem q2729 : (Jvm.Cond.methodLink "HallPlanLaw" (284 : Nat) ({ cls := "HallPlanModel", name := "undo", desc := "()I" } : Jvm.MethodName)) ∈ lw_all := lw_g (lw_at lw_m11 188 rfl) rfl
theorem q2733 : (Jvm.Cond.methodLink "HallPlanLaw" (288 : Nat) ({ cls := "HallPlanModel", name := "undoCount", desc := "()I" } : Jvm.MethodName)) ∈ lw_all := lw_g (lw_at lw_m11 192 rfl) rfl
theorem q2737 : (Jvm.Cond.methodLink "HallPlanLaw" (292 : Nat) ({ cls := "HallPlanModel", name := "save", desc := "()I" } : Jvm.MethodName)) ∈ lw_all := lw_g (lw_at lw_m11 196 rfl) rfl
theorem q2741 : (Jvm.Cond.methodLink "HallPlanLaw" (295 : Nat) ({ cls := "HallPlanModel", name := "restore", desc := "()I" } : Jvm.MethodName)) ∈ lw_all := lw_g (lw_at lw_m11 200 rfl) rfl

/-! BorrowedLuckLaw -/
set_option maxRecDepth 100000
def RX0 : String := "BorrowedLuckLaw"
abbrev cX0_coast : ByteArray := method_3_code
def yX0_coast : MethodName := ⟨RX0, "coast", "(LBorrowedLuck;[J)I"⟩
def dkwX0_coast_0 : List UInt8 := [43, 3, 42, 182, 0, 7, 133, 80, 167, 0, 9, 77, 4, 172, 77, 5, 172, 3, 172]
abbrev dktX0_coast_0 : List UInt8 := dkwX0_coast_0 ++ []
theorem dksX0_coast_0 : cX0_coast.data.toList.drop 0 = dktX0_coast_0 := by decide +kernel
theorem dX0_coast_0 : decode cX0_coast 0 = .ok (.aload_n 1, 1) := dk_43 (dk_at dksX0_coast_0 0 rfl rfl)
theorem dX0_coast_1 : decode cX0_coast 1 = .ok (.iconst 0, 1) := dk_3 (dk_at dksX0_coast_0 1 rfl rfl)
theorem dX0_coast_2 : decode cX0_coast 2 = .ok (.aload_n 0, 1) := dk_42 (dk_at dksX0_coast_0 2 rfl rfl)
theorem dX0_coast_3 : decode cX0_coast 3 = .ok (.invokevirtual 7, 3) := dk_182 0 7 (dk_at dksX0_coast_0 3 rfl rfl)
theorem dX0_coast_6 : decode cX0_coast 6 = .ok (.i2l, 1) := dk_133 (dk_at dksX0_coast_0 6 rfl rfl)
theorem dX0_coast_7 : decode cX0_coast 7 = .ok (.lastore, 1) := dk_80 (dk_at dksX0_coast_0 7 rfl rfl)
theorem dX0_coast_8 : decode cX0_coast 8 = .ok (.goto 9, 3) := dk_167 0 9 (dk_at dksX0_coast_0 8 rfl rfl)
theorem dX0_coast_11 : decode cX0_coast 11 = .ok (.astore_n 2, 1) := dk_77 (dk_at dksX0_coast_0 11 rfl rfl)
theorem dX0_coast_12 : decode cX0_coast 12 = .ok (.iconst 1, 1) := dk_4 (dk_at dksX0_coast_0 12 rfl rfl)
theorem dX0_coast_13 : decode cX0_coast 13 = .ok (.ireturn, 1) := dk_172 (dk_at dksX0_coast_0 13 rfl rfl)
theorem dX0_coast_14 : decode cX0_coast 14 = .ok (.astore_n 2, 1) := dk_77 (dk_at dksX0_coast_0 14 rfl rfl)
theorem dX0_coast_15 : decode cX0_coast 15 = .ok (.iconst 2, 1) := dk_5 (dk_at dksX0_coast_0 15 rfl rfl)
theorem dX0_coast_16 : decode cX0_coast 16 = .ok (.ireturn, 1) := dk_172 (dk_at dksX0_coast_0 16 rfl rfl)
theorem dX0_coast_17 : decode cX0_coast 17 = .ok (.iconst 0, 1) := dk_3 (dk_at dksX0_coast_0 17 rfl rfl)
theorem dX0_coast_18 : decode cX0_coast 18 = .ok (.ireturn, 1) := dk_172 (dk_at dksX0_coast_0 18 rfl rfl)
abbrev cX0_law : ByteArray := method_4_code
def yX0_law : MethodName := ⟨RX0, "law", "(LBorrowedLuck;[J)I"⟩
def dkwX0_law_0 : List UInt8 := [43, 3, 42, 182, 0, 17, 133, 80, 167, 0, 6, 77, 4, 172, 3, 172]
abbrev dktX0_law_0 : List UInt8 := dkwX0_law_0 ++ []
theorem dksX0_law_0 : cX0_law.data.toList.drop 0 = dktX0_law_0 := by decide +kernel
theorem dX0_law_0 : decode cX0_law 0 = .ok (.aload_n 1, 1) := dk_43 (dk_at dksX0_law_0 0 rfl rfl)
theorem dX0_law_1 : decode cX0_law 1 = .ok (.iconst 0, 1) := dk_3 (dk_at dksX0_law_0 1 rfl rfl)
theorem dX0_law_2 : decode cX0_law 2 = .ok (.aload_n 0, 1) := dk_42 (dk_at dksX0_law_0 2 rfl rfl)
theorem dX0_law_3 : decode cX0_law 3 = .ok (.invokevirtual 17, 3) := dk_182 0 17 (dk_at dksX0_law_0 3 rfl rfl)
theorem dX0_law_6 : decode cX0_law 6 = .ok (.i2l, 1) := dk_133 (dk_at dksX0_law_0 6 rfl rfl)
theorem dX0_law_7 : decode cX0_law 7 = .ok (.lastore, 1) := dk_80 (dk_at dksX0_law_0 7 rfl rfl)
theorem dX0_law_8 : decode cX0_law 8 = .ok (.goto 6, 3) := dk_167 0 6 (dk_at dksX0_law_0 8 rfl rfl)
theorem dX0_law_11 : decode cX0_law 11 = .ok (.astore_n 2, 1) := dk_77 (dk_at dksX0_law_0 11 rfl rfl)
theorem dX0_law_12 : decode cX0_law 12 = .ok (.iconst 1, 1) := dk_4 (dk_at dksX0_law_0 12 rfl rfl)
theorem dX0_law_13 : decode cX0_law 13 = .ok (.ireturn, 1) := dk_172 (dk_at dksX0_law_0 13 rfl rfl)
theorem dX0_law_14 : decode cX0_law 14 = .ok (.iconst 0, 1) := dk_3 (dk_at dksX0_law_0 14 rfl rfl)
theorem dX0_law_15 : decode cX0_law 15 = .ok (.ireturn, 1) := dk_172 (dk_at dksX0_law_0 15 rfl rfl)
abbrev cX0_woman : ByteArray := method_5_code
def yX0_woman : MethodName := ⟨RX0, "woman", "(LBorrowedLuck;II[J)I"⟩
def dkwX0_woman_0 : List UInt8 := [45, 3, 42, 27, 28, 182, 0, 20, 133, 80, 167, 0, 11, 58, 4, 4, 172, 58, 4, 5, 172, 3, 172]
abbrev dktX0_woman_0 : List UInt8 := dkwX0_woman_0 ++ []
theorem dksX0_woman_0 : cX0_woman.data.toList.drop 0 = dktX0_woman_0 := by decide +kernel
theorem dX0_woman_0 : decode cX0_woman 0 = .ok (.aload_n 3, 1) := dk_45 (dk_at dksX0_woman_0 0 rfl rfl)
theorem dX0_woman_1 : decode cX0_woman 1 = .ok (.iconst 0, 1) := dk_3 (dk_at dksX0_woman_0 1 rfl rfl)
theorem dX0_woman_2 : decode cX0_woman 2 = .ok (.aload_n 0, 1) := dk_42 (dk_at dksX0_woman_0 2 rfl rfl)
theorem dX0_woman_3 : decode cX0_woman 3 = .ok (.iload_n 1, 1) := dk_27 (dk_at dksX0_woman_0 3 rfl rfl)
theorem dX0_woman_4 : decode cX0_woman 4 = .ok (.iload_n 2, 1) := dk_28 (dk_at dksX0_woman_0 4 rfl rfl)
theorem dX0_woman_5 : decode cX0_woman 5 = .ok (.invokevirtual 20, 3) := dk_182 0 20 (dk_at dksX0_woman_0 5 rfl rfl)
theorem dX0_woman_8 : decode cX0_woman 8 = .ok (.i2l, 1) := dk_133 (dk_at dksX0_woman_0 8 rfl rfl)
theorem dX0_woman_9 : decode cX0_woman 9 = .ok (.lastore, 1) := dk_80 (dk_at dksX0_woman_0 9 rfl rfl)
theorem dX0_woman_10 : decode cX0_woman 10 = .ok (.goto 11, 3) := dk_167 0 11 (dk_at dksX0_woman_0 10 rfl rfl)
theorem dX0_woman_13 : decode cX0_woman 13 = .ok (.astore 4, 2) := dk_58 4 (dk_at dksX0_woman_0 13 rfl rfl)
theorem dX0_woman_15 : decode cX0_woman 15 = .ok (.iconst 1, 1) := dk_4 (dk_at dksX0_woman_0 15 rfl rfl)
theorem dX0_woman_16 : decode cX0_woman 16 = .ok (.ireturn, 1) := dk_172 (dk_at dksX0_woman_0 16 rfl rfl)
theorem dX0_woman_17 : decode cX0_woman 17 = .ok (.astore 4, 2) := dk_58 4 (dk_at dksX0_woman_0 17 rfl rfl)
theorem dX0_woman_19 : decode cX0_woman 19 = .ok (.iconst 2, 1) := dk_5 (dk_at dksX0_woman_0 19 rfl rfl)
theorem dX0_woman_20 : decode cX0_woman 20 = .ok (.ireturn, 1) := dk_172 (dk_at dksX0_woman_0 20 rfl rfl)
theorem dX0_woman_21 : decode cX0_woman 21 = .ok (.iconst 0, 1) := dk_3 (dk_at dksX0_woman_0 21 rfl rfl)
theorem dX0_woman_22 : decode cX0_woman 22 = .ok (.ireturn, 1) := dk_172 (dk_at dksX0_woman_0 22 rfl rfl)
abbrev cX0_thing : ByteArray := method_6_code
def yX0_thing : MethodName := ⟨RX0, "thing", "(LBorrowedLuck;II[J)I"⟩
def dkwX0_thing_0 : List UInt8 := [45, 3, 42, 27, 28, 182, 0, 28, 133, 80, 167, 0, 11, 58, 4, 4, 172, 58, 4, 5, 172, 3, 172]
abbrev dktX0_thing_0 : List UInt8 := dkwX0_thing_0 ++ []
theorem dksX0_thing_0 : cX0_thing.data.toList.drop 0 = dktX0_thing_0 := by decide +kernel
theorem dX0_thing_0 : decode cX0_thing 0 = .ok (.aload_n 3, 1) := dk_45 (dk_at dksX0_thing_0 0 rfl rfl)
theorem dX0_thing_1 : decode cX0_thing 1 = .ok (.iconst 0, 1) := dk_3 (dk_at dksX0_thing_0 1 rfl rfl)
theorem dX0_thing_2 : decode cX0_thing 2 = .ok (.aload_n 0, 1) := dk_42 (dk_at dksX0_thing_0 2 rfl rfl)
theorem dX0_thing_3 : decode cX0_thing 3 = .ok (.iload_n 1, 1) := dk_27 (dk_at dksX0_thing_0 3 rfl rfl)
theorem dX0_thing_4 : decode cX0_thing 4 = .ok (.iload_n 2, 1) := dk_28 (dk_at dksX0_thing_0 4 rfl rfl)
theorem dX0_thing_5 : decode cX0_thing 5 = .ok (.invokevirtual 28, 3) := dk_182 0 28 (dk_at dksX0_thing_0 5 rfl rfl)
theorem dX0_thing_8 : decode cX0_thing 8 = .ok (.i2l, 1) := dk_133 (dk_at dksX0_thing_0 8 rfl rfl)
theorem dX0_thing_9 : decode cX0_thing 9 = .ok (.lastore, 1) := dk_80 (dk_at dksX0_thing_0 9 rfl rfl)
theorem dX0_thing_10 : decode cX0_thing 10 = .ok (.goto 11, 3) := dk_167 0 11 (dk_at dksX0_thing_0 10 rfl rfl)
theorem dX0_thing_13 : decode cX0_thing 13 = .ok (.astore 4, 2) := dk_58 4 (dk_at dksX0_thing_0 13 rfl rfl)
theorem dX0_thing_15 : decode cX0_thing 15 = .ok (.iconst 1, 1) := dk_4 (dk_at dksX0_thing_0 15 rfl rfl)
theorem dX0_thing_16 : decode cX0_thing 16 = .ok (.ireturn, 1) := dk_172 (dk_at dksX0_thing_0 16 rfl rfl)
theorem dX0_thing_17 : decode cX0_thing 17 = .ok (.astore 4, 2) := dk_58 4 (dk_at dksX0_thing_0 17 rfl rfl)
theorem dX0_thing_19 : decode cX0_thing 19 = .ok (.iconst 2, 1) := dk_5 (dk_at dksX0_thing_0 19 rfl rfl)
theorem dX0_thing_20 : decode cX0_thing 20 = .ok (.ireturn, 1) := dk_172 (dk_at dksX0_thing_0 20 rfl rfl)
theorem dX0_thing_21 : decode cX0_thing 21 = .ok (.iconst 0, 1) := dk_3 (dk_at dksX0_thing_0 21 rfl rfl)
theorem dX0_thing_22 : decode cX0_thing 22 = .ok (.ireturn, 1) := dk_172 (dk_at dksX0_thing_0 22 rfl rfl)
abbrev cX0_gain : ByteArray := method_7_code
def yX0_gain : MethodName := ⟨RX0, "gain", "(LBorrowedLuck;II[J)I"⟩
def dkwX0_gain_0 : List UInt8 := [45, 3, 42, 27, 28, 182, 0, 31, 133, 80, 167, 0, 7, 58, 4, 4, 172, 3, 172]
abbrev dktX0_gain_0 : List UInt8 := dkwX0_gain_0 ++ []
theorem dksX0_gain_0 : cX0_gain.data.toList.drop 0 = dktX0_gain_0 := by decide +kernel
theorem dX0_gain_0 : decode cX0_gain 0 = .ok (.aload_n 3, 1) := dk_45 (dk_at dksX0_gain_0 0 rfl rfl)
theorem dX0_gain_1 : decode cX0_gain 1 = .ok (.iconst 0, 1) := dk_3 (dk_at dksX0_gain_0 1 rfl rfl)
theorem dX0_gain_2 : decode cX0_gain 2 = .ok (.aload_n 0, 1) := dk_42 (dk_at dksX0_gain_0 2 rfl rfl)
theorem dX0_gain_3 : decode cX0_gain 3 = .ok (.iload_n 1, 1) := dk_27 (dk_at dksX0_gain_0 3 rfl rfl)
theorem dX0_gain_4 : decode cX0_gain 4 = .ok (.iload_n 2, 1) := dk_28 (dk_at dksX0_gain_0 4 rfl rfl)
theorem dX0_gain_5 : decode cX0_gain 5 = .ok (.invokevirtual 31, 3) := dk_182 0 31 (dk_at dksX0_gain_0 5 rfl rfl)
theorem dX0_gain_8 : decode cX0_gain 8 = .ok (.i2l, 1) := dk_133 (dk_at dksX0_gain_0 8 rfl rfl)
theorem dX0_gain_9 : decode cX0_gain 9 = .ok (.lastore, 1) := dk_80 (dk_at dksX0_gain_0 9 rfl rfl)
theorem dX0_gain_10 : decode cX0_gain 10 = .ok (.goto 7, 3) := dk_167 0 7 (dk_at dksX0_gain_0 10 rfl rfl)
theorem dX0_gain_13 : decode cX0_gain 13 = .ok (.astore 4, 2) := dk_58 4 (dk_at dksX0_gain_0 13 rfl rfl)
theorem dX0_gain_15 : decode cX0_gain 15 = .ok (.iconst 1, 1) := dk_4 (dk_at dksX0_gain_0 15 rfl rfl)
theorem dX0_gain_16 : decode cX0_gain 16 = .ok (.ireturn, 1) := dk_172 (dk_at dksX0_gain_0 16 rfl rfl)
theorem dX0_gain_17 : decode cX0_gain 17 = .ok (.iconst 0, 1) := dk_3 (dk_at dksX0_gain_0 17 rfl rfl)
theorem dX0_gain_18 : decode cX0_gain 18 = .ok (.ireturn, 1) := dk_172 (dk_at dksX0_gain_0 18 rfl rfl)
abbrev cX0_flows : ByteArray := method_8_code
def yX0_flows : MethodName := ⟨RX0, "flows", "(LBorrowedLuck;III[J)I"⟩
def dkwX0_flows_0 : List UInt8 := [25, 4, 3, 42, 27, 28, 29, 182, 0, 34, 133, 80, 167, 0, 7, 58, 5, 4, 172, 3, 172]
abbrev dktX0_flows_0 : List UInt8 := dkwX0_flows_0 ++ []
theorem dksX0_flows_0 : cX0_flows.data.toList.drop 0 = dktX0_flows_0 := by decide +kernel
theorem dX0_flows_0 : decode cX0_flows 0 = .ok (.aload 4, 2) := dk_25 4 (dk_at dksX0_flows_0 0 rfl rfl)
theorem dX0_flows_2 : decode cX0_flows 2 = .ok (.iconst 0, 1) := dk_3 (dk_at dksX0_flows_0 2 rfl rfl)
theorem dX0_flows_3 : decode cX0_flows 3 = .ok (.aload_n 0, 1) := dk_42 (dk_at dksX0_flows_0 3 rfl rfl)
theorem dX0_flows_4 : decode cX0_flows 4 = .ok (.iload_n 1, 1) := dk_27 (dk_at dksX0_flows_0 4 rfl rfl)
theorem dX0_flows_5 : decode cX0_flows 5 = .ok (.iload_n 2, 1) := dk_28 (dk_at dksX0_flows_0 5 rfl rfl)
theorem dX0_flows_6 : decode cX0_flows 6 = .ok (.iload_n 3, 1) := dk_29 (dk_at dksX0_flows_0 6 rfl rfl)
theorem dX0_flows_7 : decode cX0_flows 7 = .ok (.invokevirtual 34, 3) := dk_182 0 34 (dk_at dksX0_flows_0 7 rfl rfl)
theorem dX0_flows_10 : decode cX0_flows 10 = .ok (.i2l, 1) := dk_133 (dk_at dksX0_flows_0 10 rfl rfl)
theorem dX0_flows_11 : decode cX0_flows 11 = .ok (.lastore, 1) := dk_80 (dk_at dksX0_flows_0 11 rfl rfl)
theorem dX0_flows_12 : decode cX0_flows 12 = .ok (.goto 7, 3) := dk_167 0 7 (dk_at dksX0_flows_0 12 rfl rfl)
theorem dX0_flows_15 : decode cX0_flows 15 = .ok (.astore 5, 2) := dk_58 5 (dk_at dksX0_flows_0 15 rfl rfl)
theorem dX0_flows_17 : decode cX0_flows 17 = .ok (.iconst 1, 1) := dk_4 (dk_at dksX0_flows_0 17 rfl rfl)
theorem dX0_flows_18 : decode cX0_flows 18 = .ok (.ireturn, 1) := dk_172 (dk_at dksX0_flows_0 18 rfl rfl)
theorem dX0_flows_19 : decode cX0_flows 19 = .ok (.iconst 0, 1) := dk_3 (dk_at dksX0_flows_0 19 rfl rfl)
theorem dX0_flows_20 : decode cX0_flows 20 = .ok (.ireturn, 1) := dk_172 (dk_at dksX0_flows_0 20 rfl rfl)
abbrev cX0_lend : ByteArray := method_9_code
def yX0_lend : MethodName := ⟨RX0, "lend", "(LBorrowedLuck;II[J)I"⟩
def dkwX0_lend_1 : List UInt8 := [172, 3, 172]
abbrev dktX0_lend_1 : List UInt8 := dkwX0_lend_1 ++ []
def dkwX0_lend_0 : List UInt8 := [45, 3, 42, 27, 28, 182, 0, 38, 133, 80, 167, 0, 15, 58, 4, 4, 172, 58, 4, 5, 172, 58, 4, 6]
abbrev dktX0_lend_0 : List UInt8 := dkwX0_lend_0 ++ dktX0_lend_1
theorem dksX0_lend_0 : cX0_lend.data.toList.drop 0 = dktX0_lend_0 := by decide +kernel
theorem dksX0_lend_1 : cX0_lend.data.toList.drop 24 = dktX0_lend_1 := dk_seg dksX0_lend_0 24 rfl rfl
theorem dX0_lend_0 : decode cX0_lend 0 = .ok (.aload_n 3, 1) := dk_45 (dk_at dksX0_lend_0 0 rfl rfl)
theorem dX0_lend_1 : decode cX0_lend 1 = .ok (.iconst 0, 1) := dk_3 (dk_at dksX0_lend_0 1 rfl rfl)
theorem dX0_lend_2 : decode cX0_lend 2 = .ok (.aload_n 0, 1) := dk_42 (dk_at dksX0_lend_0 2 rfl rfl)
theorem dX0_lend_3 : decode cX0_lend 3 = .ok (.iload_n 1, 1) := dk_27 (dk_at dksX0_lend_0 3 rfl rfl)
theorem dX0_lend_4 : decode cX0_lend 4 = .ok (.iload_n 2, 1) := dk_28 (dk_at dksX0_lend_0 4 rfl rfl)
theorem dX0_lend_5 : decode cX0_lend 5 = .ok (.invokevirtual 38, 3) := dk_182 0 38 (dk_at dksX0_lend_0 5 rfl rfl)
theorem dX0_lend_8 : decode cX0_lend 8 = .ok (.i2l, 1) := dk_133 (dk_at dksX0_lend_0 8 rfl rfl)
theorem dX0_lend_9 : decode cX0_lend 9 = .ok (.lastore, 1) := dk_80 (dk_at dksX0_lend_0 9 rfl rfl)
theorem dX0_lend_10 : decode cX0_lend 10 = .ok (.goto 15, 3) := dk_167 0 15 (dk_at dksX0_lend_0 10 rfl rfl)
theorem dX0_lend_13 : decode cX0_lend 13 = .ok (.astore 4, 2) := dk_58 4 (dk_at dksX0_lend_0 13 rfl rfl)
theorem dX0_lend_15 : decode cX0_lend 15 = .ok (.iconst 1, 1) := dk_4 (dk_at dksX0_lend_0 15 rfl rfl)
theorem dX0_lend_16 : decode cX0_lend 16 = .ok (.ireturn, 1) := dk_172 (dk_at dksX0_lend_0 16 rfl rfl)
theorem dX0_lend_17 : decode cX0_lend 17 = .ok (.astore 4, 2) := dk_58 4 (dk_at dksX0_lend_0 17 rfl rfl)
theorem dX0_lend_19 : decode cX0_lend 19 = .ok (.iconst 2, 1) := dk_5 (dk_at dksX0_lend_0 19 rfl rfl)
theorem dX0_lend_20 : decode cX0_lend 20 = .ok (.ireturn, 1) := dk_172 (dk_at dksX0_lend_0 20 rfl rfl)
theorem dX0_lend_21 : decode cX0_lend 21 = .ok (.astore 4, 2) := dk_58 4 (dk_at dksX0_lend_0 21 rfl rfl)
theorem dX0_lend_23 : decode cX0_lend 23 = .ok (.iconst 3, 1) := dk_6 (dk_at dksX0_lend_0 23 rfl rfl)
theorem dX0_lend_24 : decode cX0_lend 24 = .ok (.ireturn, 1) := dk_172 (dk_at dksX0_lend_1 0 rfl rfl)
theorem dX0_lend_25 : decode cX0_lend 25 = .ok (.iconst 0, 1) := dk_3 (dk_at dksX0_lend_1 1 rfl rfl)
theorem dX0_lend_26 : decode cX0_lend 26 = .ok (.ireturn, 1) := dk_172 (dk_at dksX0_lend_1 2 rfl rfl)
abbrev cX0_wed : ByteArray := method_10_code
def yX0_wed : MethodName := ⟨RX0, "wed", "(LBorrowedLuck;II[J)I"⟩
def dkwX0_wed_0 : List UInt8 := [45, 3, 42, 27, 28, 182, 0, 43, 133, 80, 167, 0, 11, 58, 4, 4, 172, 58, 4, 5, 172, 3, 172]
abbrev dktX0_wed_0 : List UInt8 := dkwX0_wed_0 ++ []
theorem dksX0_wed_0 : cX0_wed.data.toList.drop 0 = dktX0_wed_0 := by decide +kernel
theorem dX0_wed_0 : decode cX0_wed 0 = .ok (.aload_n 3, 1) := dk_45 (dk_at dksX0_wed_0 0 rfl rfl)
theorem dX0_wed_1 : decode cX0_wed 1 = .ok (.iconst 0, 1) := dk_3 (dk_at dksX0_wed_0 1 rfl rfl)
theorem dX0_wed_2 : decode cX0_wed 2 = .ok (.aload_n 0, 1) := dk_42 (dk_at dksX0_wed_0 2 rfl rfl)
theorem dX0_wed_3 : decode cX0_wed 3 = .ok (.iload_n 1, 1) := dk_27 (dk_at dksX0_wed_0 3 rfl rfl)
theorem dX0_wed_4 : decode cX0_wed 4 = .ok (.iload_n 2, 1) := dk_28 (dk_at dksX0_wed_0 4 rfl rfl)
theorem dX0_wed_5 : decode cX0_wed 5 = .ok (.invokevirtual 43, 3) := dk_182 0 43 (dk_at dksX0_wed_0 5 rfl rfl)
theorem dX0_wed_8 : decode cX0_wed 8 = .ok (.i2l, 1) := dk_133 (dk_at dksX0_wed_0 8 rfl rfl)
theorem dX0_wed_9 : decode cX0_wed 9 = .ok (.lastore, 1) := dk_80 (dk_at dksX0_wed_0 9 rfl rfl)
theorem dX0_wed_10 : decode cX0_wed 10 = .ok (.goto 11, 3) := dk_167 0 11 (dk_at dksX0_wed_0 10 rfl rfl)
theorem dX0_wed_13 : decode cX0_wed 13 = .ok (.astore 4, 2) := dk_58 4 (dk_at dksX0_wed_0 13 rfl rfl)
theorem dX0_wed_15 : decode cX0_wed 15 = .ok (.iconst 1, 1) := dk_4 (dk_at dksX0_wed_0 15 rfl rfl)
theorem dX0_wed_16 : decode cX0_wed 16 = .ok (.ireturn, 1) := dk_172 (dk_at dksX0_wed_0 16 rfl rfl)
theorem dX0_wed_17 : decode cX0_wed 17 = .ok (.astore 4, 2) := dk_58 4 (dk_at dksX0_wed_0 17 rfl rfl)
theorem dX0_wed_19 : decode cX0_wed 19 = .ok (.iconst 2, 1) := dk_5 (dk_at dksX0_wed_0 19 rfl rfl)
theorem dX0_wed_20 : decode cX0_wed 20 = .ok (.ireturn, 1) := dk_172 (dk_at dksX0_wed_0 20 rfl rfl)
theorem dX0_wed_21 : decode cX0_wed 21 = .ok (.iconst 0, 1) := dk_3 (dk_at dksX0_wed_0 21 rfl rfl)
theorem dX0_wed_22 : decode cX0_wed 22 = .ok (.ireturn, 1) := dk_172 (dk_at dksX0_wed_0 22 rfl rfl)
abbrev cX0_pawn : ByteArray := method_11_code
def yX0_pawn : MethodName := ⟨RX0, "pawn", "(LBorrowedLuck;I[J)I"⟩
def dkwX0_pawn_0 : List UInt8 := [44, 3, 42, 27, 182, 0, 46, 133, 80, 167, 0, 9, 78, 4, 172, 78, 5, 172, 3, 172]
abbrev dktX0_pawn_0 : List UInt8 := dkwX0_pawn_0 ++ []
theorem dksX0_pawn_0 : cX0_pawn.data.toList.drop 0 = dktX0_pawn_0 := by decide +kernel
theorem dX0_pawn_0 : decode cX0_pawn 0 = .ok (.aload_n 2, 1) := dk_44 (dk_at dksX0_pawn_0 0 rfl rfl)
theorem dX0_pawn_1 : decode cX0_pawn 1 = .ok (.iconst 0, 1) := dk_3 (dk_at dksX0_pawn_0 1 rfl rfl)
theorem dX0_pawn_2 : decode cX0_pawn 2 = .ok (.aload_n 0, 1) := dk_42 (dk_at dksX0_pawn_0 2 rfl rfl)
theorem dX0_pawn_3 : decode cX0_pawn 3 = .ok (.iload_n 1, 1) := dk_27 (dk_at dksX0_pawn_0 3 rfl rfl)
theorem dX0_pawn_4 : decode cX0_pawn 4 = .ok (.invokevirtual 46, 3) := dk_182 0 46 (dk_at dksX0_pawn_0 4 rfl rfl)
theorem dX0_pawn_7 : decode cX0_pawn 7 = .ok (.i2l, 1) := dk_133 (dk_at dksX0_pawn_0 7 rfl rfl)
theorem dX0_pawn_8 : decode cX0_pawn 8 = .ok (.lastore, 1) := dk_80 (dk_at dksX0_pawn_0 8 rfl rfl)
theorem dX0_pawn_9 : decode cX0_pawn 9 = .ok (.goto 9, 3) := dk_167 0 9 (dk_at dksX0_pawn_0 9 rfl rfl)
theorem dX0_pawn_12 : decode cX0_pawn 12 = .ok (.astore_n 3, 1) := dk_78 (dk_at dksX0_pawn_0 12 rfl rfl)
theorem dX0_pawn_13 : decode cX0_pawn 13 = .ok (.iconst 1, 1) := dk_4 (dk_at dksX0_pawn_0 13 rfl rfl)
theorem dX0_pawn_14 : decode cX0_pawn 14 = .ok (.ireturn, 1) := dk_172 (dk_at dksX0_pawn_0 14 rfl rfl)
theorem dX0_pawn_15 : decode cX0_pawn 15 = .ok (.astore_n 3, 1) := dk_78 (dk_at dksX0_pawn_0 15 rfl rfl)
theorem dX0_pawn_16 : decode cX0_pawn 16 = .ok (.iconst 2, 1) := dk_5 (dk_at dksX0_pawn_0 16 rfl rfl)
theorem dX0_pawn_17 : decode cX0_pawn 17 = .ok (.ireturn, 1) := dk_172 (dk_at dksX0_pawn_0 17 rfl rfl)
theorem dX0_pawn_18 : decode cX0_pawn 18 = .ok (.iconst 0, 1) := dk_3 (dk_at dksX0_pawn_0 18 rfl rfl)
theorem dX0_pawn_19 : decode cX0_pawn 19 = .ok (.ireturn, 1) := dk_172 (dk_at dksX0_pawn_0 19 rfl rfl)
abbrev cX0_redeem : ByteArray := method_12_code
def yX0_redeem : MethodName := ⟨RX0, "redeem", "(LBorrowedLuck;I[J)I"⟩
def dkwX0_redeem_0 : List UInt8 := [44, 3, 42, 27, 182, 0, 50, 133, 80, 167, 0, 9, 78, 4, 172, 78, 5, 172, 3, 172]
abbrev dktX0_redeem_0 : List UInt8 := dkwX0_redeem_0 ++ []
theorem dksX0_redeem_0 : cX0_redeem.data.toList.drop 0 = dktX0_redeem_0 := by decide +kernel
theorem dX0_redeem_0 : decode cX0_redeem 0 = .ok (.aload_n 2, 1) := dk_44 (dk_at dksX0_redeem_0 0 rfl rfl)
theorem dX0_redeem_1 : decode cX0_redeem 1 = .ok (.iconst 0, 1) := dk_3 (dk_at dksX0_redeem_0 1 rfl rfl)
theorem dX0_redeem_2 : decode cX0_redeem 2 = .ok (.aload_n 0, 1) := dk_42 (dk_at dksX0_redeem_0 2 rfl rfl)
theorem dX0_redeem_3 : decode cX0_redeem 3 = .ok (.iload_n 1, 1) := dk_27 (dk_at dksX0_redeem_0 3 rfl rfl)
theorem dX0_redeem_4 : decode cX0_redeem 4 = .ok (.invokevirtual 50, 3) := dk_182 0 50 (dk_at dksX0_redeem_0 4 rfl rfl)
theorem dX0_redeem_7 : decode cX0_redeem 7 = .ok (.i2l, 1) := dk_133 (dk_at dksX0_redeem_0 7 rfl rfl)
theorem dX0_redeem_8 : decode cX0_redeem 8 = .ok (.lastore, 1) := dk_80 (dk_at dksX0_redeem_0 8 rfl rfl)
theorem dX0_redeem_9 : decode cX0_redeem 9 = .ok (.goto 9, 3) := dk_167 0 9 (dk_at dksX0_redeem_0 9 rfl rfl)
theorem dX0_redeem_12 : decode cX0_redeem 12 = .ok (.astore_n 3, 1) := dk_78 (dk_at dksX0_redeem_0 12 rfl rfl)
theorem dX0_redeem_13 : decode cX0_redeem 13 = .ok (.iconst 1, 1) := dk_4 (dk_at dksX0_redeem_0 13 rfl rfl)
theorem dX0_redeem_14 : decode cX0_redeem 14 = .ok (.ireturn, 1) := dk_172 (dk_at dksX0_redeem_0 14 rfl rfl)
theorem dX0_redeem_15 : decode cX0_redeem 15 = .ok (.astore_n 3, 1) := dk_78 (dk_at dksX0_redeem_0 15 rfl rfl)
theorem dX0_redeem_16 : decode cX0_redeem 16 = .ok (.iconst 2, 1) := dk_5 (dk_at dksX0_redeem_0 16 rfl rfl)
theorem dX0_redeem_17 : decode cX0_redeem 17 = .ok (.ireturn, 1) := dk_172 (dk_at dksX0_redeem_0 17 rfl rfl)
theorem dX0_redeem_18 : decode cX0_redeem 18 = .ok (.iconst 0, 1) := dk_3 (dk_at dksX0_redeem_0 18 rfl rfl)
theorem dX0_redeem_19 : decode cX0_redeem 19 = .ok (.ireturn, 1) := dk_172 (dk_at dksX0_redeem_0 19 rfl rfl)
abbrev cX0_cut : ByteArray := method_13_code
def yX0_cut : MethodName := ⟨RX0, "cut", "(LBorrowedLuck;I[J)I"⟩
def dkwX0_cut_0 : List UInt8 := [44, 3, 42, 27, 182, 0, 53, 133, 80, 167, 0, 9, 78, 4, 172, 78, 5, 172, 3, 172]
abbrev dktX0_cut_0 : List UInt8 := dkwX0_cut_0 ++ []
theorem dksX0_cut_0 : cX0_cut.data.toList.drop 0 = dktX0_cut_0 := by decide +kernel
theorem dX0_cut_0 : decode cX0_cut 0 = .ok (.aload_n 2, 1) := dk_44 (dk_at dksX0_cut_0 0 rfl rfl)
theorem dX0_cut_1 : decode cX0_cut 1 = .ok (.iconst 0, 1) := dk_3 (dk_at dksX0_cut_0 1 rfl rfl)
theorem dX0_cut_2 : decode cX0_cut 2 = .ok (.aload_n 0, 1) := dk_42 (dk_at dksX0_cut_0 2 rfl rfl)
theorem dX0_cut_3 : decode cX0_cut 3 = .ok (.iload_n 1, 1) := dk_27 (dk_at dksX0_cut_0 3 rfl rfl)
theorem dX0_cut_4 : decode cX0_cut 4 = .ok (.invokevirtual 53, 3) := dk_182 0 53 (dk_at dksX0_cut_0 4 rfl rfl)
theorem dX0_cut_7 : decode cX0_cut 7 = .ok (.i2l, 1) := dk_133 (dk_at dksX0_cut_0 7 rfl rfl)
theorem dX0_cut_8 : decode cX0_cut 8 = .ok (.lastore, 1) := dk_80 (dk_at dksX0_cut_0 8 rfl rfl)
theorem dX0_cut_9 : decode cX0_cut 9 = .ok (.goto 9, 3) := dk_167 0 9 (dk_at dksX0_cut_0 9 rfl rfl)
theorem dX0_cut_12 : decode cX0_cut 12 = .ok (.astore_n 3, 1) := dk_78 (dk_at dksX0_cut_0 12 rfl rfl)
theorem dX0_cut_13 : decode cX0_cut 13 = .ok (.iconst 1, 1) := dk_4 (dk_at dksX0_cut_0 13 rfl rfl)
theorem dX0_cut_14 : decode cX0_cut 14 = .ok (.ireturn, 1) := dk_172 (dk_at dksX0_cut_0 14 rfl rfl)
theorem dX0_cut_15 : decode cX0_cut 15 = .ok (.astore_n 3, 1) := dk_78 (dk_at dksX0_cut_0 15 rfl rfl)
theorem dX0_cut_16 : decode cX0_cut 16 = .ok (.iconst 2, 1) := dk_5 (dk_at dksX0_cut_0 16 rfl rfl)
theorem dX0_cut_17 : decode cX0_cut 17 = .ok (.ireturn, 1) := dk_172 (dk_at dksX0_cut_0 17 rfl rfl)
theorem dX0_cut_18 : decode cX0_cut 18 = .ok (.iconst 0, 1) := dk_3 (dk_at dksX0_cut_0 18 rfl rfl)
theorem dX0_cut_19 : decode cX0_cut 19 = .ok (.ireturn, 1) := dk_172 (dk_at dksX0_cut_0 19 rfl rfl)
abbrev cX0_widow : ByteArray := method_14_code
def yX0_widow : MethodName := ⟨RX0, "widow", "(LBorrowedLuck;IZ[J)I"⟩
def dkwX0_widow_1 : List UInt8 := [3, 172]
abbrev dktX0_widow_1 : List UInt8 := dkwX0_widow_1 ++ []
def dkwX0_widow_0 : List UInt8 := [45, 3, 42, 27, 28, 182, 0, 56, 153, 0, 7, 10, 167, 0, 4, 9, 80, 167, 0, 7, 58, 4, 4, 172]
abbrev dktX0_widow_0 : List UInt8 := dkwX0_widow_0 ++ dktX0_widow_1
theorem dksX0_widow_0 : cX0_widow.data.toList.drop 0 = dktX0_widow_0 := by decide +kernel
theorem dksX0_widow_1 : cX0_widow.data.toList.drop 24 = dktX0_widow_1 := dk_seg dksX0_widow_0 24 rfl rfl
theorem dX0_widow_0 : decode cX0_widow 0 = .ok (.aload_n 3, 1) := dk_45 (dk_at dksX0_widow_0 0 rfl rfl)
theorem dX0_widow_1 : decode cX0_widow 1 = .ok (.iconst 0, 1) := dk_3 (dk_at dksX0_widow_0 1 rfl rfl)
theorem dX0_widow_2 : decode cX0_widow 2 = .ok (.aload_n 0, 1) := dk_42 (dk_at dksX0_widow_0 2 rfl rfl)
theorem dX0_widow_3 : decode cX0_widow 3 = .ok (.iload_n 1, 1) := dk_27 (dk_at dksX0_widow_0 3 rfl rfl)
theorem dX0_widow_4 : decode cX0_widow 4 = .ok (.iload_n 2, 1) := dk_28 (dk_at dksX0_widow_0 4 rfl rfl)
theorem dX0_widow_5 : decode cX0_widow 5 = .ok (.invokevirtual 56, 3) := dk_182 0 56 (dk_at dksX0_widow_0 5 rfl rfl)
theorem dX0_widow_8 : decode cX0_widow 8 = .ok (.ifCond .eq 7, 3) := dk_153 0 7 (dk_at dksX0_widow_0 8 rfl rfl)
theorem dX0_widow_11 : decode cX0_widow 11 = .ok (.lconst 1, 1) := dk_10 (dk_at dksX0_widow_0 11 rfl rfl)
theorem dX0_widow_12 : decode cX0_widow 12 = .ok (.goto 4, 3) := dk_167 0 4 (dk_at dksX0_widow_0 12 rfl rfl)
theorem dX0_widow_15 : decode cX0_widow 15 = .ok (.lconst 0, 1) := dk_9 (dk_at dksX0_widow_0 15 rfl rfl)
theorem dX0_widow_16 : decode cX0_widow 16 = .ok (.lastore, 1) := dk_80 (dk_at dksX0_widow_0 16 rfl rfl)
theorem dX0_widow_17 : decode cX0_widow 17 = .ok (.goto 7, 3) := dk_167 0 7 (dk_at dksX0_widow_0 17 rfl rfl)
theorem dX0_widow_20 : decode cX0_widow 20 = .ok (.astore 4, 2) := dk_58 4 (dk_at dksX0_widow_0 20 rfl rfl)
theorem dX0_widow_22 : decode cX0_widow 22 = .ok (.iconst 1, 1) := dk_4 (dk_at dksX0_widow_0 22 rfl rfl)
theorem dX0_widow_23 : decode cX0_widow 23 = .ok (.ireturn, 1) := dk_172 (dk_at dksX0_widow_0 23 rfl rfl)
theorem dX0_widow_24 : decode cX0_widow 24 = .ok (.iconst 0, 1) := dk_3 (dk_at dksX0_widow_1 0 rfl rfl)
theorem dX0_widow_25 : decode cX0_widow 25 = .ok (.ireturn, 1) := dk_172 (dk_at dksX0_widow_1 1 rfl rfl)
abbrev cX0_days : ByteArray := method_15_code
def yX0_days : MethodName := ⟨RX0, "days", "(LBorrowedLuck;I[J)I"⟩
def dkwX0_days_0 : List UInt8 := [44, 3, 42, 27, 182, 0, 60, 133, 80, 167, 0, 6, 78, 4, 172, 3, 172]
abbrev dktX0_days_0 : List UInt8 := dkwX0_days_0 ++ []
theorem dksX0_days_0 : cX0_days.data.toList.drop 0 = dktX0_days_0 := by decide +kernel
theorem dX0_days_0 : decode cX0_days 0 = .ok (.aload_n 2, 1) := dk_44 (dk_at dksX0_days_0 0 rfl rfl)
theorem dX0_days_1 : decode cX0_days 1 = .ok (.iconst 0, 1) := dk_3 (dk_at dksX0_days_0 1 rfl rfl)
theorem dX0_days_2 : decode cX0_days 2 = .ok (.aload_n 0, 1) := dk_42 (dk_at dksX0_days_0 2 rfl rfl)
theorem dX0_days_3 : decode cX0_days 3 = .ok (.iload_n 1, 1) := dk_27 (dk_at dksX0_days_0 3 rfl rfl)
theorem dX0_days_4 : decode cX0_days 4 = .ok (.invokevirtual 60, 3) := dk_182 0 60 (dk_at dksX0_days_0 4 rfl rfl)
theorem dX0_days_7 : decode cX0_days 7 = .ok (.i2l, 1) := dk_133 (dk_at dksX0_days_0 7 rfl rfl)
theorem dX0_days_8 : decode cX0_days 8 = .ok (.lastore, 1) := dk_80 (dk_at dksX0_days_0 8 rfl rfl)
theorem dX0_days_9 : decode cX0_days 9 = .ok (.goto 6, 3) := dk_167 0 6 (dk_at dksX0_days_0 9 rfl rfl)
theorem dX0_days_12 : decode cX0_days 12 = .ok (.astore_n 3, 1) := dk_78 (dk_at dksX0_days_0 12 rfl rfl)
theorem dX0_days_13 : decode cX0_days 13 = .ok (.iconst 1, 1) := dk_4 (dk_at dksX0_days_0 13 rfl rfl)
theorem dX0_days_14 : decode cX0_days 14 = .ok (.ireturn, 1) := dk_172 (dk_at dksX0_days_0 14 rfl rfl)
theorem dX0_days_15 : decode cX0_days 15 = .ok (.iconst 0, 1) := dk_3 (dk_at dksX0_days_0 15 rfl rfl)
theorem dX0_days_16 : decode cX0_days 16 = .ok (.ireturn, 1) := dk_172 (dk_at dksX0_days_0 16 rfl rfl)
abbrev cX0_best : ByteArray := method_16_code
def yX0_best : MethodName := ⟨RX0, "best", "(LBorrowedLuck;I[J)I"⟩
def dkwX0_best_0 : List UInt8 := [44, 3, 42, 27, 182, 0, 63, 133, 80, 167, 0, 6, 78, 4, 172, 3, 172]
abbrev dktX0_best_0 : List UInt8 := dkwX0_best_0 ++ []
theorem dksX0_best_0 : cX0_best.data.toList.drop 0 = dktX0_best_0 := by decide +kernel
theorem dX0_best_0 : decode cX0_best 0 = .ok (.aload_n 2, 1) := dk_44 (dk_at dksX0_best_0 0 rfl rfl)
theorem dX0_best_1 : decode cX0_best 1 = .ok (.iconst 0, 1) := dk_3 (dk_at dksX0_best_0 1 rfl rfl)
theorem dX0_best_2 : decode cX0_best 2 = .ok (.aload_n 0, 1) := dk_42 (dk_at dksX0_best_0 2 rfl rfl)
theorem dX0_best_3 : decode cX0_best 3 = .ok (.iload_n 1, 1) := dk_27 (dk_at dksX0_best_0 3 rfl rfl)
theorem dX0_best_4 : decode cX0_best 4 = .ok (.invokevirtual 63, 3) := dk_182 0 63 (dk_at dksX0_best_0 4 rfl rfl)
theorem dX0_best_7 : decode cX0_best 7 = .ok (.i2l, 1) := dk_133 (dk_at dksX0_best_0 7 rfl rfl)
theorem dX0_best_8 : decode cX0_best 8 = .ok (.lastore, 1) := dk_80 (dk_at dksX0_best_0 8 rfl rfl)
theorem dX0_best_9 : decode cX0_best 9 = .ok (.goto 6, 3) := dk_167 0 6 (dk_at dksX0_best_0 9 rfl rfl)
theorem dX0_best_12 : decode cX0_best 12 = .ok (.astore_n 3, 1) := dk_78 (dk_at dksX0_best_0 12 rfl rfl)
theorem dX0_best_13 : decode cX0_best 13 = .ok (.iconst 1, 1) := dk_4 (dk_at dksX0_best_0 13 rfl rfl)
theorem dX0_best_14 : decode cX0_best 14 = .ok (.ireturn, 1) := dk_172 (dk_at dksX0_best_0 14 rfl rfl)
theorem dX0_best_15 : decode cX0_best 15 = .ok (.iconst 0, 1) := dk_3 (dk_at dksX0_best_0 15 rfl rfl)
theorem dX0_best_16 : decode cX0_best 16 = .ok (.ireturn, 1) := dk_172 (dk_at dksX0_best_0 16 rfl rfl)
abbrev cX0_order : ByteArray := method_17_code
def yX0_order : MethodName := ⟨RX0, "order", "(LBorrowedLuck;III[J)I"⟩
def dkwX0_order_1 : List UInt8 := [172]
abbrev dktX0_order_1 : List UInt8 := dkwX0_order_1 ++ []
def dkwX0_order_0 : List UInt8 := [25, 4, 3, 42, 27, 28, 29, 182, 0, 66, 133, 80, 167, 0, 11, 58, 5, 4, 172, 58, 5, 5, 172, 3]
abbrev dktX0_order_0 : List UInt8 := dkwX0_order_0 ++ dktX0_order_1
theorem dksX0_order_0 : cX0_order.data.toList.drop 0 = dktX0_order_0 := by decide +kernel
theorem dksX0_order_1 : cX0_order.data.toList.drop 24 = dktX0_order_1 := dk_seg dksX0_order_0 24 rfl rfl
theorem dX0_order_0 : decode cX0_order 0 = .ok (.aload 4, 2) := dk_25 4 (dk_at dksX0_order_0 0 rfl rfl)
theorem dX0_order_2 : decode cX0_order 2 = .ok (.iconst 0, 1) := dk_3 (dk_at dksX0_order_0 2 rfl rfl)
theorem dX0_order_3 : decode cX0_order 3 = .ok (.aload_n 0, 1) := dk_42 (dk_at dksX0_order_0 3 rfl rfl)
theorem dX0_order_4 : decode cX0_order 4 = .ok (.iload_n 1, 1) := dk_27 (dk_at dksX0_order_0 4 rfl rfl)
theorem dX0_order_5 : decode cX0_order 5 = .ok (.iload_n 2, 1) := dk_28 (dk_at dksX0_order_0 5 rfl rfl)
theorem dX0_order_6 : decode cX0_order 6 = .ok (.iload_n 3, 1) := dk_29 (dk_at dksX0_order_0 6 rfl rfl)
theorem dX0_order_7 : decode cX0_order 7 = .ok (.invokevirtual 66, 3) := dk_182 0 66 (dk_at dksX0_order_0 7 rfl rfl)
theorem dX0_order_10 : decode cX0_order 10 = .ok (.i2l, 1) := dk_133 (dk_at dksX0_order_0 10 rfl rfl)
theorem dX0_order_11 : decode cX0_order 11 = .ok (.lastore, 1) := dk_80 (dk_at dksX0_order_0 11 rfl rfl)
theorem dX0_order_12 : decode cX0_order 12 = .ok (.goto 11, 3) := dk_167 0 11 (dk_at dksX0_order_0 12 rfl rfl)
theorem dX0_order_15 : decode cX0_order 15 = .ok (.astore 5, 2) := dk_58 5 (dk_at dksX0_order_0 15 rfl rfl)
theorem dX0_order_17 : decode cX0_order 17 = .ok (.iconst 1, 1) := dk_4 (dk_at dksX0_order_0 17 rfl rfl)
theorem dX0_order_18 : decode cX0_order 18 = .ok (.ireturn, 1) := dk_172 (dk_at dksX0_order_0 18 rfl rfl)
theorem dX0_order_19 : decode cX0_order 19 = .ok (.astore 5, 2) := dk_58 5 (dk_at dksX0_order_0 19 rfl rfl)
theorem dX0_order_21 : decode cX0_order 21 = .ok (.iconst 2, 1) := dk_5 (dk_at dksX0_order_0 21 rfl rfl)
theorem dX0_order_22 : decode cX0_order 22 = .ok (.ireturn, 1) := dk_172 (dk_at dksX0_order_0 22 rfl rfl)
theorem dX0_order_23 : decode cX0_order 23 = .ok (.iconst 0, 1) := dk_3 (dk_at dksX0_order_0 23 rfl rfl)
theorem dX0_order_24 : decode cX0_order 24 = .ok (.ireturn, 1) := dk_172 (dk_at dksX0_order_1 0 rfl rfl)
abbrev cX0_lowest : ByteArray := method_18_code
def yX0_lowest : MethodName := ⟨RX0, "lowest", "(LBorrowedLuck;II[J)I"⟩
def dkwX0_lowest_0 : List UInt8 := [45, 3, 42, 27, 28, 182, 0, 69, 133, 80, 167, 0, 11, 58, 4, 4, 172, 58, 4, 5, 172, 3, 172]
abbrev dktX0_lowest_0 : List UInt8 := dkwX0_lowest_0 ++ []
theorem dksX0_lowest_0 : cX0_lowest.data.toList.drop 0 = dktX0_lowest_0 := by decide +kernel
theorem dX0_lowest_0 : decode cX0_lowest 0 = .ok (.aload_n 3, 1) := dk_45 (dk_at dksX0_lowest_0 0 rfl rfl)
theorem dX0_lowest_1 : decode cX0_lowest 1 = .ok (.iconst 0, 1) := dk_3 (dk_at dksX0_lowest_0 1 rfl rfl)
theorem dX0_lowest_2 : decode cX0_lowest 2 = .ok (.aload_n 0, 1) := dk_42 (dk_at dksX0_lowest_0 2 rfl rfl)
theorem dX0_lowest_3 : decode cX0_lowest 3 = .ok (.iload_n 1, 1) := dk_27 (dk_at dksX0_lowest_0 3 rfl rfl)
theorem dX0_lowest_4 : decode cX0_lowest 4 = .ok (.iload_n 2, 1) := dk_28 (dk_at dksX0_lowest_0 4 rfl rfl)
theorem dX0_lowest_5 : decode cX0_lowest 5 = .ok (.invokevirtual 69, 3) := dk_182 0 69 (dk_at dksX0_lowest_0 5 rfl rfl)
theorem dX0_lowest_8 : decode cX0_lowest 8 = .ok (.i2l, 1) := dk_133 (dk_at dksX0_lowest_0 8 rfl rfl)
theorem dX0_lowest_9 : decode cX0_lowest 9 = .ok (.lastore, 1) := dk_80 (dk_at dksX0_lowest_0 9 rfl rfl)
theorem dX0_lowest_10 : decode cX0_lowest 10 = .ok (.goto 11, 3) := dk_167 0 11 (dk_at dksX0_lowest_0 10 rfl rfl)
theorem dX0_lowest_13 : decode cX0_lowest 13 = .ok (.astore 4, 2) := dk_58 4 (dk_at dksX0_lowest_0 13 rfl rfl)
theorem dX0_lowest_15 : decode cX0_lowest 15 = .ok (.iconst 1, 1) := dk_4 (dk_at dksX0_lowest_0 15 rfl rfl)
theorem dX0_lowest_16 : decode cX0_lowest 16 = .ok (.ireturn, 1) := dk_172 (dk_at dksX0_lowest_0 16 rfl rfl)
theorem dX0_lowest_17 : decode cX0_lowest 17 = .ok (.astore 4, 2) := dk_58 4 (dk_at dksX0_lowest_0 17 rfl rfl)
theorem dX0_lowest_19 : decode cX0_lowest 19 = .ok (.iconst 2, 1) := dk_5 (dk_at dksX0_lowest_0 19 rfl rfl)
theorem dX0_lowest_20 : decode cX0_lowest 20 = .ok (.ireturn, 1) := dk_172 (dk_at dksX0_lowest_0 20 rfl rfl)
theorem dX0_lowest_21 : decode cX0_lowest 21 = .ok (.iconst 0, 1) := dk_3 (dk_at dksX0_lowest_0 21 rfl rfl)
theorem dX0_lowest_22 : decode cX0_lowest 22 = .ok (.ireturn, 1) := dk_172 (dk_at dksX0_lowest_0 22 rfl rfl)
abbrev cX0_reach : ByteArray := method_19_code
def yX0_reach : MethodName := ⟨RX0, "reach", "(LBorrowedLuck;IIII[J)I"⟩
def dkwX0_reach_1 : List UInt8 := [172, 3, 172]
abbrev dktX0_reach_1 : List UInt8 := dkwX0_reach_1 ++ []
def dkwX0_reach_0 : List UInt8 := [25, 5, 3, 42, 27, 28, 29, 21, 4, 182, 0, 72, 133, 80, 167, 0, 11, 58, 6, 4, 172, 58, 6, 5]
abbrev dktX0_reach_0 : List UInt8 := dkwX0_reach_0 ++ dktX0_reach_1
theorem dksX0_reach_0 : cX0_reach.data.toList.drop 0 = dktX0_reach_0 := by decide +kernel
theorem dksX0_reach_1 : cX0_reach.data.toList.drop 24 = dktX0_reach_1 := dk_seg dksX0_reach_0 24 rfl rfl
theorem dX0_reach_0 : decode cX0_reach 0 = .ok (.aload 5, 2) := dk_25 5 (dk_at dksX0_reach_0 0 rfl rfl)
theorem dX0_reach_2 : decode cX0_reach 2 = .ok (.iconst 0, 1) := dk_3 (dk_at dksX0_reach_0 2 rfl rfl)
theorem dX0_reach_3 : decode cX0_reach 3 = .ok (.aload_n 0, 1) := dk_42 (dk_at dksX0_reach_0 3 rfl rfl)
theorem dX0_reach_4 : decode cX0_reach 4 = .ok (.iload_n 1, 1) := dk_27 (dk_at dksX0_reach_0 4 rfl rfl)
theorem dX0_reach_5 : decode cX0_reach 5 = .ok (.iload_n 2, 1) := dk_28 (dk_at dksX0_reach_0 5 rfl rfl)
theorem dX0_reach_6 : decode cX0_reach 6 = .ok (.iload_n 3, 1) := dk_29 (dk_at dksX0_reach_0 6 rfl rfl)
theorem dX0_reach_7 : decode cX0_reach 7 = .ok (.iload 4, 2) := dk_21 4 (dk_at dksX0_reach_0 7 rfl rfl)
theorem dX0_reach_9 : decode cX0_reach 9 = .ok (.invokevirtual 72, 3) := dk_182 0 72 (dk_at dksX0_reach_0 9 rfl rfl)
theorem dX0_reach_12 : decode cX0_reach 12 = .ok (.i2l, 1) := dk_133 (dk_at dksX0_reach_0 12 rfl rfl)
theorem dX0_reach_13 : decode cX0_reach 13 = .ok (.lastore, 1) := dk_80 (dk_at dksX0_reach_0 13 rfl rfl)
theorem dX0_reach_14 : decode cX0_reach 14 = .ok (.goto 11, 3) := dk_167 0 11 (dk_at dksX0_reach_0 14 rfl rfl)
theorem dX0_reach_17 : decode cX0_reach 17 = .ok (.astore 6, 2) := dk_58 6 (dk_at dksX0_reach_0 17 rfl rfl)
theorem dX0_reach_19 : decode cX0_reach 19 = .ok (.iconst 1, 1) := dk_4 (dk_at dksX0_reach_0 19 rfl rfl)
theorem dX0_reach_20 : decode cX0_reach 20 = .ok (.ireturn, 1) := dk_172 (dk_at dksX0_reach_0 20 rfl rfl)
theorem dX0_reach_21 : decode cX0_reach 21 = .ok (.astore 6, 2) := dk_58 6 (dk_at dksX0_reach_0 21 rfl rfl)
theorem dX0_reach_23 : decode cX0_reach 23 = .ok (.iconst 2, 1) := dk_5 (dk_at dksX0_reach_0 23 rfl rfl)
theorem dX0_reach_24 : decode cX0_reach 24 = .ok (.ireturn, 1) := dk_172 (dk_at dksX0_reach_1 0 rfl rfl)
theorem dX0_reach_25 : decode cX0_reach 25 = .ok (.iconst 0, 1) := dk_3 (dk_at dksX0_reach_1 1 rfl rfl)
theorem dX0_reach_26 : decode cX0_reach 26 = .ok (.ireturn, 1) := dk_172 (dk_at dksX0_reach_1 2 rfl rfl)
abbrev cX0_chain : ByteArray := method_20_code
def yX0_chain : MethodName := ⟨RX0, "chain", "(LBorrowedLuck;I[J)I"⟩
def dkwX0_chain_0 : List UInt8 := [44, 3, 42, 27, 182, 0, 76, 133, 80, 167, 0, 6, 78, 4, 172, 3, 172]
abbrev dktX0_chain_0 : List UInt8 := dkwX0_chain_0 ++ []
theorem dksX0_chain_0 : cX0_chain.data.toList.drop 0 = dktX0_chain_0 := by decide +kernel
theorem dX0_chain_0 : decode cX0_chain 0 = .ok (.aload_n 2, 1) := dk_44 (dk_at dksX0_chain_0 0 rfl rfl)
theorem dX0_chain_1 : decode cX0_chain 1 = .ok (.iconst 0, 1) := dk_3 (dk_at dksX0_chain_0 1 rfl rfl)
theorem dX0_chain_2 : decode cX0_chain 2 = .ok (.aload_n 0, 1) := dk_42 (dk_at dksX0_chain_0 2 rfl rfl)
theorem dX0_chain_3 : decode cX0_chain 3 = .ok (.iload_n 1, 1) := dk_27 (dk_at dksX0_chain_0 3 rfl rfl)
theorem dX0_chain_4 : decode cX0_chain 4 = .ok (.invokevirtual 76, 3) := dk_182 0 76 (dk_at dksX0_chain_0 4 rfl rfl)
theorem dX0_chain_7 : decode cX0_chain 7 = .ok (.i2l, 1) := dk_133 (dk_at dksX0_chain_0 7 rfl rfl)
theorem dX0_chain_8 : decode cX0_chain 8 = .ok (.lastore, 1) := dk_80 (dk_at dksX0_chain_0 8 rfl rfl)
theorem dX0_chain_9 : decode cX0_chain 9 = .ok (.goto 6, 3) := dk_167 0 6 (dk_at dksX0_chain_0 9 rfl rfl)
theorem dX0_chain_12 : decode cX0_chain 12 = .ok (.astore_n 3, 1) := dk_78 (dk_at dksX0_chain_0 12 rfl rfl)
theorem dX0_chain_13 : decode cX0_chain 13 = .ok (.iconst 1, 1) := dk_4 (dk_at dksX0_chain_0 13 rfl rfl)
theorem dX0_chain_14 : decode cX0_chain 14 = .ok (.ireturn, 1) := dk_172 (dk_at dksX0_chain_0 14 rfl rfl)
theorem dX0_chain_15 : decode cX0_chain 15 = .ok (.iconst 0, 1) := dk_3 (dk_at dksX0_chain_0 15 rfl rfl)
theorem dX0_chain_16 : decode cX0_chain 16 = .ok (.ireturn, 1) := dk_172 (dk_at dksX0_chain_0 16 rfl rfl)
abbrev cX0_since : ByteArray := method_21_code
def yX0_since : MethodName := ⟨RX0, "since", "(LBorrowedLuck;II[J)I"⟩
def dkwX0_since_0 : List UInt8 := [45, 3, 42, 27, 28, 182, 0, 79, 133, 80, 167, 0, 11, 58, 4, 4, 172, 58, 4, 5, 172, 3, 172]
abbrev dktX0_since_0 : List UInt8 := dkwX0_since_0 ++ []
theorem dksX0_since_0 : cX0_since.data.toList.drop 0 = dktX0_since_0 := by decide +kernel
theorem dX0_since_0 : decode cX0_since 0 = .ok (.aload_n 3, 1) := dk_45 (dk_at dksX0_since_0 0 rfl rfl)
theorem dX0_since_1 : decode cX0_since 1 = .ok (.iconst 0, 1) := dk_3 (dk_at dksX0_since_0 1 rfl rfl)
theorem dX0_since_2 : decode cX0_since 2 = .ok (.aload_n 0, 1) := dk_42 (dk_at dksX0_since_0 2 rfl rfl)
theorem dX0_since_3 : decode cX0_since 3 = .ok (.iload_n 1, 1) := dk_27 (dk_at dksX0_since_0 3 rfl rfl)
theorem dX0_since_4 : decode cX0_since 4 = .ok (.iload_n 2, 1) := dk_28 (dk_at dksX0_since_0 4 rfl rfl)
theorem dX0_since_5 : decode cX0_since 5 = .ok (.invokevirtual 79, 3) := dk_182 0 79 (dk_at dksX0_since_0 5 rfl rfl)
theorem dX0_since_8 : decode cX0_since 8 = .ok (.i2l, 1) := dk_133 (dk_at dksX0_since_0 8 rfl rfl)
theorem dX0_since_9 : decode cX0_since 9 = .ok (.lastore, 1) := dk_80 (dk_at dksX0_since_0 9 rfl rfl)
theorem dX0_since_10 : decode cX0_since 10 = .ok (.goto 11, 3) := dk_167 0 11 (dk_at dksX0_since_0 10 rfl rfl)
theorem dX0_since_13 : decode cX0_since 13 = .ok (.astore 4, 2) := dk_58 4 (dk_at dksX0_since_0 13 rfl rfl)
theorem dX0_since_15 : decode cX0_since 15 = .ok (.iconst 1, 1) := dk_4 (dk_at dksX0_since_0 15 rfl rfl)
theorem dX0_since_16 : decode cX0_since 16 = .ok (.ireturn, 1) := dk_172 (dk_at dksX0_since_0 16 rfl rfl)
theorem dX0_since_17 : decode cX0_since 17 = .ok (.astore 4, 2) := dk_58 4 (dk_at dksX0_since_0 17 rfl rfl)
theorem dX0_since_19 : decode cX0_since 19 = .ok (.iconst 2, 1) := dk_5 (dk_at dksX0_since_0 19 rfl rfl)
theorem dX0_since_20 : decode cX0_since 20 = .ok (.ireturn, 1) := dk_172 (dk_at dksX0_since_0 20 rfl rfl)
theorem dX0_since_21 : decode cX0_since 21 = .ok (.iconst 0, 1) := dk_3 (dk_at dksX0_since_0 21 rfl rfl)
theorem dX0_since_22 : decode cX0_since 22 = .ok (.ireturn, 1) := dk_172 (dk_at dksX0_since_0 22 rfl rfl)
abbrev cX0_whose : ByteArray := method_22_code
def yX0_whose : MethodName := ⟨RX0, "whose", "(LBorrowedLuck;[J)I"⟩
def dkwX0_whose_0 : List UInt8 := [43, 3, 42, 182, 0, 82, 133, 80, 167, 0, 6, 77, 4, 172, 3, 172]
abbrev dktX0_whose_0 : List UInt8 := dkwX0_whose_0 ++ []
theorem dksX0_whose_0 : cX0_whose.data.toList.drop 0 = dktX0_whose_0 := by decide +kernel
theorem dX0_whose_0 : decode cX0_whose 0 = .ok (.aload_n 1, 1) := dk_43 (dk_at dksX0_whose_0 0 rfl rfl)
theorem dX0_whose_1 : decode cX0_whose 1 = .ok (.iconst 0, 1) := dk_3 (dk_at dksX0_whose_0 1 rfl rfl)
theorem dX0_whose_2 : decode cX0_whose 2 = .ok (.aload_n 0, 1) := dk_42 (dk_at dksX0_whose_0 2 rfl rfl)
theorem dX0_whose_3 : decode cX0_whose 3 = .ok (.invokevirtual 82, 3) := dk_182 0 82 (dk_at dksX0_whose_0 3 rfl rfl)
theorem dX0_whose_6 : decode cX0_whose 6 = .ok (.i2l, 1) := dk_133 (dk_at dksX0_whose_0 6 rfl rfl)
theorem dX0_whose_7 : decode cX0_whose 7 = .ok (.lastore, 1) := dk_80 (dk_at dksX0_whose_0 7 rfl rfl)
theorem dX0_whose_8 : decode cX0_whose 8 = .ok (.goto 6, 3) := dk_167 0 6 (dk_at dksX0_whose_0 8 rfl rfl)
theorem dX0_whose_11 : decode cX0_whose 11 = .ok (.astore_n 2, 1) := dk_77 (dk_at dksX0_whose_0 11 rfl rfl)
theorem dX0_whose_12 : decode cX0_whose 12 = .ok (.iconst 1, 1) := dk_4 (dk_at dksX0_whose_0 12 rfl rfl)
theorem dX0_whose_13 : decode cX0_whose 13 = .ok (.ireturn, 1) := dk_172 (dk_at dksX0_whose_0 13 rfl rfl)
theorem dX0_whose_14 : decode cX0_whose 14 = .ok (.iconst 0, 1) := dk_3 (dk_at dksX0_whose_0 14 rfl rfl)
theorem dX0_whose_15 : decode cX0_whose 15 = .ok (.ireturn, 1) := dk_172 (dk_at dksX0_whose_0 15 rfl rfl)
abbrev cX0_next : ByteArray := method_23_code
def yX0_next : MethodName := ⟨RX0, "next", "(LBorrowedLuck;[J)I"⟩
def dkwX0_next_0 : List UInt8 := [43, 3, 42, 182, 0, 85, 133, 80, 167, 0, 6, 77, 4, 172, 3, 172]
abbrev dktX0_next_0 : List UInt8 := dkwX0_next_0 ++ []
theorem dksX0_next_0 : cX0_next.data.toList.drop 0 = dktX0_next_0 := by decide +kernel
theorem dX0_next_0 : decode cX0_next 0 = .ok (.aload_n 1, 1) := dk_43 (dk_at dksX0_next_0 0 rfl rfl)
theorem dX0_next_1 : decode cX0_next 1 = .ok (.iconst 0, 1) := dk_3 (dk_at dksX0_next_0 1 rfl rfl)
theorem dX0_next_2 : decode cX0_next 2 = .ok (.aload_n 0, 1) := dk_42 (dk_at dksX0_next_0 2 rfl rfl)
theorem dX0_next_3 : decode cX0_next 3 = .ok (.invokevirtual 85, 3) := dk_182 0 85 (dk_at dksX0_next_0 3 rfl rfl)
theorem dX0_next_6 : decode cX0_next 6 = .ok (.i2l, 1) := dk_133 (dk_at dksX0_next_0 6 rfl rfl)
theorem dX0_next_7 : decode cX0_next 7 = .ok (.lastore, 1) := dk_80 (dk_at dksX0_next_0 7 rfl rfl)
theorem dX0_next_8 : decode cX0_next 8 = .ok (.goto 6, 3) := dk_167 0 6 (dk_at dksX0_next_0 8 rfl rfl)
theorem dX0_next_11 : decode cX0_next 11 = .ok (.astore_n 2, 1) := dk_77 (dk_at dksX0_next_0 11 rfl rfl)
theorem dX0_next_12 : decode cX0_next 12 = .ok (.iconst 1, 1) := dk_4 (dk_at dksX0_next_0 12 rfl rfl)
theorem dX0_next_13 : decode cX0_next 13 = .ok (.ireturn, 1) := dk_172 (dk_at dksX0_next_0 13 rfl rfl)
theorem dX0_next_14 : decode cX0_next 14 = .ok (.iconst 0, 1) := dk_3 (dk_at dksX0_next_0 14 rfl rfl)
theorem dX0_next_15 : decode cX0_next 15 = .ok (.ireturn, 1) := dk_172 (dk_at dksX0_next_0 15 rfl rfl)
abbrev cX0_match : ByteArray := method_24_code
def yX0_match : MethodName := ⟨RX0, "match", "(LBorrowedLuck;II[J)I"⟩
def dkwX0_match_0 : List UInt8 := [45, 3, 42, 27, 28, 182, 0, 88, 133, 80, 167, 0, 7, 58, 4, 4, 172, 3, 172]
abbrev dktX0_match_0 : List UInt8 := dkwX0_match_0 ++ []
theorem dksX0_match_0 : cX0_match.data.toList.drop 0 = dktX0_match_0 := by decide +kernel
theorem dX0_match_0 : decode cX0_match 0 = .ok (.aload_n 3, 1) := dk_45 (dk_at dksX0_match_0 0 rfl rfl)
theorem dX0_match_1 : decode cX0_match 1 = .ok (.iconst 0, 1) := dk_3 (dk_at dksX0_match_0 1 rfl rfl)
theorem dX0_match_2 : decode cX0_match 2 = .ok (.aload_n 0, 1) := dk_42 (dk_at dksX0_match_0 2 rfl rfl)
theorem dX0_match_3 : decode cX0_match 3 = .ok (.iload_n 1, 1) := dk_27 (dk_at dksX0_match_0 3 rfl rfl)
theorem dX0_match_4 : decode cX0_match 4 = .ok (.iload_n 2, 1) := dk_28 (dk_at dksX0_match_0 4 rfl rfl)
theorem dX0_match_5 : decode cX0_match 5 = .ok (.invokevirtual 88, 3) := dk_182 0 88 (dk_at dksX0_match_0 5 rfl rfl)
theorem dX0_match_8 : decode cX0_match 8 = .ok (.i2l, 1) := dk_133 (dk_at dksX0_match_0 8 rfl rfl)
theorem dX0_match_9 : decode cX0_match 9 = .ok (.lastore, 1) := dk_80 (dk_at dksX0_match_0 9 rfl rfl)
theorem dX0_match_10 : decode cX0_match 10 = .ok (.goto 7, 3) := dk_167 0 7 (dk_at dksX0_match_0 10 rfl rfl)
theorem dX0_match_13 : decode cX0_match 13 = .ok (.astore 4, 2) := dk_58 4 (dk_at dksX0_match_0 13 rfl rfl)
theorem dX0_match_15 : decode cX0_match 15 = .ok (.iconst 1, 1) := dk_4 (dk_at dksX0_match_0 15 rfl rfl)
theorem dX0_match_16 : decode cX0_match 16 = .ok (.ireturn, 1) := dk_172 (dk_at dksX0_match_0 16 rfl rfl)
theorem dX0_match_17 : decode cX0_match 17 = .ok (.iconst 0, 1) := dk_3 (dk_at dksX0_match_0 17 rfl rfl)
theorem dX0_match_18 : decode cX0_match 18 = .ok (.ireturn, 1) := dk_172 (dk_at dksX0_match_0 18 rfl rfl)
abbrev cX0_rests : ByteArray := method_25_code
def yX0_rests : MethodName := ⟨RX0, "rests", "(LBorrowedLuck;III[J)I"⟩
def dkwX0_rests_1 : List UInt8 := [172]
abbrev dktX0_rests_1 : List UInt8 := dkwX0_rests_1 ++ []
def dkwX0_rests_0 : List UInt8 := [25, 4, 3, 42, 27, 28, 29, 182, 0, 91, 133, 80, 167, 0, 11, 58, 5, 4, 172, 58, 5, 5, 172, 3]
abbrev dktX0_rests_0 : List UInt8 := dkwX0_rests_0 ++ dktX0_rests_1
theorem dksX0_rests_0 : cX0_rests.data.toList.drop 0 = dktX0_rests_0 := by decide +kernel
theorem dksX0_rests_1 : cX0_rests.data.toList.drop 24 = dktX0_rests_1 := dk_seg dksX0_rests_0 24 rfl rfl
theorem dX0_rests_0 : decode cX0_rests 0 = .ok (.aload 4, 2) := dk_25 4 (dk_at dksX0_rests_0 0 rfl rfl)
theorem dX0_rests_2 : decode cX0_rests 2 = .ok (.iconst 0, 1) := dk_3 (dk_at dksX0_rests_0 2 rfl rfl)
theorem dX0_rests_3 : decode cX0_rests 3 = .ok (.aload_n 0, 1) := dk_42 (dk_at dksX0_rests_0 3 rfl rfl)
theorem dX0_rests_4 : decode cX0_rests 4 = .ok (.iload_n 1, 1) := dk_27 (dk_at dksX0_rests_0 4 rfl rfl)
theorem dX0_rests_5 : decode cX0_rests 5 = .ok (.iload_n 2, 1) := dk_28 (dk_at dksX0_rests_0 5 rfl rfl)
theorem dX0_rests_6 : decode cX0_rests 6 = .ok (.iload_n 3, 1) := dk_29 (dk_at dksX0_rests_0 6 rfl rfl)
theorem dX0_rests_7 : decode cX0_rests 7 = .ok (.invokevirtual 91, 3) := dk_182 0 91 (dk_at dksX0_rests_0 7 rfl rfl)
theorem dX0_rests_10 : decode cX0_rests 10 = .ok (.i2l, 1) := dk_133 (dk_at dksX0_rests_0 10 rfl rfl)
theorem dX0_rests_11 : decode cX0_rests 11 = .ok (.lastore, 1) := dk_80 (dk_at dksX0_rests_0 11 rfl rfl)
theorem dX0_rests_12 : decode cX0_rests 12 = .ok (.goto 11, 3) := dk_167 0 11 (dk_at dksX0_rests_0 12 rfl rfl)
theorem dX0_rests_15 : decode cX0_rests 15 = .ok (.astore 5, 2) := dk_58 5 (dk_at dksX0_rests_0 15 rfl rfl)
theorem dX0_rests_17 : decode cX0_rests 17 = .ok (.iconst 1, 1) := dk_4 (dk_at dksX0_rests_0 17 rfl rfl)
theorem dX0_rests_18 : decode cX0_rests 18 = .ok (.ireturn, 1) := dk_172 (dk_at dksX0_rests_0 18 rfl rfl)
theorem dX0_rests_19 : decode cX0_rests 19 = .ok (.astore 5, 2) := dk_58 5 (dk_at dksX0_rests_0 19 rfl rfl)
theorem dX0_rests_21 : decode cX0_rests 21 = .ok (.iconst 2, 1) := dk_5 (dk_at dksX0_rests_0 21 rfl rfl)
theorem dX0_rests_22 : decode cX0_rests 22 = .ok (.ireturn, 1) := dk_172 (dk_at dksX0_rests_0 22 rfl rfl)
theorem dX0_rests_23 : decode cX0_rests 23 = .ok (.iconst 0, 1) := dk_3 (dk_at dksX0_rests_0 23 rfl rfl)
theorem dX0_rests_24 : decode cX0_rests 24 = .ok (.ireturn, 1) := dk_172 (dk_at dksX0_rests_1 0 rfl rfl)
abbrev cX0_sells : ByteArray := method_26_code
def yX0_sells : MethodName := ⟨RX0, "sells", "(LBorrowedLuck;I[J)I"⟩
def dkwX0_sells_0 : List UInt8 := [44, 3, 42, 27, 182, 0, 94, 133, 80, 167, 0, 6, 78, 4, 172, 3, 172]
abbrev dktX0_sells_0 : List UInt8 := dkwX0_sells_0 ++ []
theorem dksX0_sells_0 : cX0_sells.data.toList.drop 0 = dktX0_sells_0 := by decide +kernel
theorem dX0_sells_0 : decode cX0_sells 0 = .ok (.aload_n 2, 1) := dk_44 (dk_at dksX0_sells_0 0 rfl rfl)
theorem dX0_sells_1 : decode cX0_sells 1 = .ok (.iconst 0, 1) := dk_3 (dk_at dksX0_sells_0 1 rfl rfl)
theorem dX0_sells_2 : decode cX0_sells 2 = .ok (.aload_n 0, 1) := dk_42 (dk_at dksX0_sells_0 2 rfl rfl)
theorem dX0_sells_3 : decode cX0_sells 3 = .ok (.iload_n 1, 1) := dk_27 (dk_at dksX0_sells_0 3 rfl rfl)
theorem dX0_sells_4 : decode cX0_sells 4 = .ok (.invokevirtual 94, 3) := dk_182 0 94 (dk_at dksX0_sells_0 4 rfl rfl)
theorem dX0_sells_7 : decode cX0_sells 7 = .ok (.i2l, 1) := dk_133 (dk_at dksX0_sells_0 7 rfl rfl)
theorem dX0_sells_8 : decode cX0_sells 8 = .ok (.lastore, 1) := dk_80 (dk_at dksX0_sells_0 8 rfl rfl)
theorem dX0_sells_9 : decode cX0_sells 9 = .ok (.goto 6, 3) := dk_167 0 6 (dk_at dksX0_sells_0 9 rfl rfl)
theorem dX0_sells_12 : decode cX0_sells 12 = .ok (.astore_n 3, 1) := dk_78 (dk_at dksX0_sells_0 12 rfl rfl)
theorem dX0_sells_13 : decode cX0_sells 13 = .ok (.iconst 1, 1) := dk_4 (dk_at dksX0_sells_0 13 rfl rfl)
theorem dX0_sells_14 : decode cX0_sells 14 = .ok (.ireturn, 1) := dk_172 (dk_at dksX0_sells_0 14 rfl rfl)
theorem dX0_sells_15 : decode cX0_sells 15 = .ok (.iconst 0, 1) := dk_3 (dk_at dksX0_sells_0 15 rfl rfl)
theorem dX0_sells_16 : decode cX0_sells 16 = .ok (.ireturn, 1) := dk_172 (dk_at dksX0_sells_0 16 rfl rfl)
abbrev cX0_luckiest : ByteArray := method_27_code
def yX0_luckiest : MethodName := ⟨RX0, "luckiest", "(LBorrowedLuck;I[J)I"⟩
def dkwX0_luckiest_0 : List UInt8 := [44, 3, 42, 27, 182, 0, 97, 133, 80, 167, 0, 6, 78, 4, 172, 3, 172]
abbrev dktX0_luckiest_0 : List UInt8 := dkwX0_luckiest_0 ++ []
theorem dksX0_luckiest_0 : cX0_luckiest.data.toList.drop 0 = dktX0_luckiest_0 := by decide +kernel
theorem dX0_luckiest_0 : decode cX0_luckiest 0 = .ok (.aload_n 2, 1) := dk_44 (dk_at dksX0_luckiest_0 0 rfl rfl)
theorem dX0_luckiest_1 : decode cX0_luckiest 1 = .ok (.iconst 0, 1) := dk_3 (dk_at dksX0_luckiest_0 1 rfl rfl)
theorem dX0_luckiest_2 : decode cX0_luckiest 2 = .ok (.aload_n 0, 1) := dk_42 (dk_at dksX0_luckiest_0 2 rfl rfl)
theorem dX0_luckiest_3 : decode cX0_luckiest 3 = .ok (.iload_n 1, 1) := dk_27 (dk_at dksX0_luckiest_0 3 rfl rfl)
theorem dX0_luckiest_4 : decode cX0_luckiest 4 = .ok (.invokevirtual 97, 3) := dk_182 0 97 (dk_at dksX0_luckiest_0 4 rfl rfl)
theorem dX0_luckiest_7 : decode cX0_luckiest 7 = .ok (.i2l, 1) := dk_133 (dk_at dksX0_luckiest_0 7 rfl rfl)
theorem dX0_luckiest_8 : decode cX0_luckiest 8 = .ok (.lastore, 1) := dk_80 (dk_at dksX0_luckiest_0 8 rfl rfl)
theorem dX0_luckiest_9 : decode cX0_luckiest 9 = .ok (.goto 6, 3) := dk_167 0 6 (dk_at dksX0_luckiest_0 9 rfl rfl)
theorem dX0_luckiest_12 : decode cX0_luckiest 12 = .ok (.astore_n 3, 1) := dk_78 (dk_at dksX0_luckiest_0 12 rfl rfl)
theorem dX0_luckiest_13 : decode cX0_luckiest 13 = .ok (.iconst 1, 1) := dk_4 (dk_at dksX0_luckiest_0 13 rfl rfl)
theorem dX0_luckiest_14 : decode cX0_luckiest 14 = .ok (.ireturn, 1) := dk_172 (dk_at dksX0_luckiest_0 14 rfl rfl)
theorem dX0_luckiest_15 : decode cX0_luckiest 15 = .ok (.iconst 0, 1) := dk_3 (dk_at dksX0_luckiest_0 15 rfl rfl)
theorem dX0_luckiest_16 : decode cX0_luckiest 16 = .ok (.ireturn, 1) := dk_172 (dk_at dksX0_luckiest_0 16 rfl rfl)
abbrev cX0_ring : ByteArray := method_28_code
def yX0_ring : MethodName := ⟨RX0, "ring", "(LBorrowedLuck;I[J)I"⟩
def dkwX0_ring_0 : List UInt8 := [44, 3, 42, 27, 182, 0, 100, 153, 0, 7, 10, 167, 0, 4, 9, 80, 167, 0, 6, 78, 4, 172, 3, 172]
abbrev dktX0_ring_0 : List UInt8 := dkwX0_ring_0 ++ []
theorem dksX0_ring_0 : cX0_ring.data.toList.drop 0 = dktX0_ring_0 := by decide +kernel
theorem dX0_ring_0 : decode cX0_ring 0 = .ok (.aload_n 2, 1) := dk_44 (dk_at dksX0_ring_0 0 rfl rfl)
theorem dX0_ring_1 : decode cX0_ring 1 = .ok (.iconst 0, 1) := dk_3 (dk_at dksX0_ring_0 1 rfl rfl)
theorem dX0_ring_2 : decode cX0_ring 2 = .ok (.aload_n 0, 1) := dk_42 (dk_at dksX0_ring_0 2 rfl rfl)
theorem dX0_ring_3 : decode cX0_ring 3 = .ok (.iload_n 1, 1) := dk_27 (dk_at dksX0_ring_0 3 rfl rfl)
theorem dX0_ring_4 : decode cX0_ring 4 = .ok (.invokevirtual 100, 3) := dk_182 0 100 (dk_at dksX0_ring_0 4 rfl rfl)
theorem dX0_ring_7 : decode cX0_ring 7 = .ok (.ifCond .eq 7, 3) := dk_153 0 7 (dk_at dksX0_ring_0 7 rfl rfl)
theorem dX0_ring_10 : decode cX0_ring 10 = .ok (.lconst 1, 1) := dk_10 (dk_at dksX0_ring_0 10 rfl rfl)
theorem dX0_ring_11 : decode cX0_ring 11 = .ok (.goto 4, 3) := dk_167 0 4 (dk_at dksX0_ring_0 11 rfl rfl)
theorem dX0_ring_14 : decode cX0_ring 14 = .ok (.lconst 0, 1) := dk_9 (dk_at dksX0_ring_0 14 rfl rfl)
theorem dX0_ring_15 : decode cX0_ring 15 = .ok (.lastore, 1) := dk_80 (dk_at dksX0_ring_0 15 rfl rfl)
theorem dX0_ring_16 : decode cX0_ring 16 = .ok (.goto 6, 3) := dk_167 0 6 (dk_at dksX0_ring_0 16 rfl rfl)
theorem dX0_ring_19 : decode cX0_ring 19 = .ok (.astore_n 3, 1) := dk_78 (dk_at dksX0_ring_0 19 rfl rfl)
theorem dX0_ring_20 : decode cX0_ring 20 = .ok (.iconst 1, 1) := dk_4 (dk_at dksX0_ring_0 20 rfl rfl)
theorem dX0_ring_21 : decode cX0_ring 21 = .ok (.ireturn, 1) := dk_172 (dk_at dksX0_ring_0 21 rfl rfl)
theorem dX0_ring_22 : decode cX0_ring 22 = .ok (.iconst 0, 1) := dk_3 (dk_at dksX0_ring_0 22 rfl rfl)
theorem dX0_ring_23 : decode cX0_ring 23 = .ok (.ireturn, 1) := dk_172 (dk_at dksX0_ring_0 23 rfl rfl)
abbrev cX0_runs : ByteArray := method_29_code
def yX0_runs : MethodName := ⟨RX0, "runs", "(LBorrowedLuck;II[J)I"⟩
def dkwX0_runs_0 : List UInt8 := [45, 3, 42, 27, 28, 182, 0, 104, 133, 80, 167, 0, 11, 58, 4, 4, 172, 58, 4, 5, 172, 3, 172]
abbrev dktX0_runs_0 : List UInt8 := dkwX0_runs_0 ++ []
theorem dksX0_runs_0 : cX0_runs.data.toList.drop 0 = dktX0_runs_0 := by decide +kernel
theorem dX0_runs_0 : decode cX0_runs 0 = .ok (.aload_n 3, 1) := dk_45 (dk_at dksX0_runs_0 0 rfl rfl)
theorem dX0_runs_1 : decode cX0_runs 1 = .ok (.iconst 0, 1) := dk_3 (dk_at dksX0_runs_0 1 rfl rfl)
theorem dX0_runs_2 : decode cX0_runs 2 = .ok (.aload_n 0, 1) := dk_42 (dk_at dksX0_runs_0 2 rfl rfl)
theorem dX0_runs_3 : decode cX0_runs 3 = .ok (.iload_n 1, 1) := dk_27 (dk_at dksX0_runs_0 3 rfl rfl)
theorem dX0_runs_4 : decode cX0_runs 4 = .ok (.iload_n 2, 1) := dk_28 (dk_at dksX0_runs_0 4 rfl rfl)
theorem dX0_runs_5 : decode cX0_runs 5 = .ok (.invokevirtual 104, 3) := dk_182 0 104 (dk_at dksX0_runs_0 5 rfl rfl)
theorem dX0_runs_8 : decode cX0_runs 8 = .ok (.i2l, 1) := dk_133 (dk_at dksX0_runs_0 8 rfl rfl)
theorem dX0_runs_9 : decode cX0_runs 9 = .ok (.lastore, 1) := dk_80 (dk_at dksX0_runs_0 9 rfl rfl)
theorem dX0_runs_10 : decode cX0_runs 10 = .ok (.goto 11, 3) := dk_167 0 11 (dk_at dksX0_runs_0 10 rfl rfl)
theorem dX0_runs_13 : decode cX0_runs 13 = .ok (.astore 4, 2) := dk_58 4 (dk_at dksX0_runs_0 13 rfl rfl)
theorem dX0_runs_15 : decode cX0_runs 15 = .ok (.iconst 1, 1) := dk_4 (dk_at dksX0_runs_0 15 rfl rfl)
theorem dX0_runs_16 : decode cX0_runs 16 = .ok (.ireturn, 1) := dk_172 (dk_at dksX0_runs_0 16 rfl rfl)
theorem dX0_runs_17 : decode cX0_runs 17 = .ok (.astore 4, 2) := dk_58 4 (dk_at dksX0_runs_0 17 rfl rfl)
theorem dX0_runs_19 : decode cX0_runs 19 = .ok (.iconst 2, 1) := dk_5 (dk_at dksX0_runs_0 19 rfl rfl)
theorem dX0_runs_20 : decode cX0_runs 20 = .ok (.ireturn, 1) := dk_172 (dk_at dksX0_runs_0 20 rfl rfl)
theorem dX0_runs_21 : decode cX0_runs 21 = .ok (.iconst 0, 1) := dk_3 (dk_at dksX0_runs_0 21 rfl rfl)
theorem dX0_runs_22 : decode cX0_runs 22 = .ok (.ireturn, 1) := dk_172 (dk_at dksX0_runs_0 22 rfl rfl)
abbrev cX0_spent : ByteArray := method_30_code
def yX0_spent : MethodName := ⟨RX0, "spent", "(LBorrowedLuck;I[J)I"⟩
def dkwX0_spent_0 : List UInt8 := [44, 3, 42, 27, 182, 0, 107, 133, 80, 167, 0, 6, 78, 4, 172, 3, 172]
abbrev dktX0_spent_0 : List UInt8 := dkwX0_spent_0 ++ []
theorem dksX0_spent_0 : cX0_spent.data.toList.drop 0 = dktX0_spent_0 := by decide +kernel
theorem dX0_spent_0 : decode cX0_spent 0 = .ok (.aload_n 2, 1) := dk_44 (dk_at dksX0_spent_0 0 rfl rfl)
theorem dX0_spent_1 : decode cX0_spent 1 = .ok (.iconst 0, 1) := dk_3 (dk_at dksX0_spent_0 1 rfl rfl)
theorem dX0_spent_2 : decode cX0_spent 2 = .ok (.aload_n 0, 1) := dk_42 (dk_at dksX0_spent_0 2 rfl rfl)
theorem dX0_spent_3 : decode cX0_spent 3 = .ok (.iload_n 1, 1) := dk_27 (dk_at dksX0_spent_0 3 rfl rfl)
theorem dX0_spent_4 : decode cX0_spent 4 = .ok (.invokevirtual 107, 3) := dk_182 0 107 (dk_at dksX0_spent_0 4 rfl rfl)
theorem dX0_spent_7 : decode cX0_spent 7 = .ok (.i2l, 1) := dk_133 (dk_at dksX0_spent_0 7 rfl rfl)
theorem dX0_spent_8 : decode cX0_spent 8 = .ok (.lastore, 1) := dk_80 (dk_at dksX0_spent_0 8 rfl rfl)
theorem dX0_spent_9 : decode cX0_spent 9 = .ok (.goto 6, 3) := dk_167 0 6 (dk_at dksX0_spent_0 9 rfl rfl)
theorem dX0_spent_12 : decode cX0_spent 12 = .ok (.astore_n 3, 1) := dk_78 (dk_at dksX0_spent_0 12 rfl rfl)
theorem dX0_spent_13 : decode cX0_spent 13 = .ok (.iconst 1, 1) := dk_4 (dk_at dksX0_spent_0 13 rfl rfl)
theorem dX0_spent_14 : decode cX0_spent 14 = .ok (.ireturn, 1) := dk_172 (dk_at dksX0_spent_0 14 rfl rfl)
theorem dX0_spent_15 : decode cX0_spent 15 = .ok (.iconst 0, 1) := dk_3 (dk_at dksX0_spent_0 15 rfl rfl)
theorem dX0_spent_16 : decode cX0_spent 16 = .ok (.ireturn, 1) := dk_172 (dk_at dksX0_spent_0 16 rfl rfl)
abbrev cX0_share : ByteArray := method_31_code
def yX0_share : MethodName := ⟨RX0, "share", "(LBorrowedLuck;II[J)I"⟩
def dkwX0_share_0 : List UInt8 := [45, 3, 42, 27, 28, 182, 0, 110, 133, 80, 167, 0, 7, 58, 4, 4, 172, 3, 172]
abbrev dktX0_share_0 : List UInt8 := dkwX0_share_0 ++ []
theorem dksX0_share_0 : cX0_share.data.toList.drop 0 = dktX0_share_0 := by decide +kernel
theorem dX0_share_0 : decode cX0_share 0 = .ok (.aload_n 3, 1) := dk_45 (dk_at dksX0_share_0 0 rfl rfl)
theorem dX0_share_1 : decode cX0_share 1 = .ok (.iconst 0, 1) := dk_3 (dk_at dksX0_share_0 1 rfl rfl)
theorem dX0_share_2 : decode cX0_share 2 = .ok (.aload_n 0, 1) := dk_42 (dk_at dksX0_share_0 2 rfl rfl)
theorem dX0_share_3 : decode cX0_share 3 = .ok (.iload_n 1, 1) := dk_27 (dk_at dksX0_share_0 3 rfl rfl)
theorem dX0_share_4 : decode cX0_share 4 = .ok (.iload_n 2, 1) := dk_28 (dk_at dksX0_share_0 4 rfl rfl)
theorem dX0_share_5 : decode cX0_share 5 = .ok (.invokevirtual 110, 3) := dk_182 0 110 (dk_at dksX0_share_0 5 rfl rfl)
theorem dX0_share_8 : decode cX0_share 8 = .ok (.i2l, 1) := dk_133 (dk_at dksX0_share_0 8 rfl rfl)
theorem dX0_share_9 : decode cX0_share 9 = .ok (.lastore, 1) := dk_80 (dk_at dksX0_share_0 9 rfl rfl)
theorem dX0_share_10 : decode cX0_share 10 = .ok (.goto 7, 3) := dk_167 0 7 (dk_at dksX0_share_0 10 rfl rfl)
theorem dX0_share_13 : decode cX0_share 13 = .ok (.astore 4, 2) := dk_58 4 (dk_at dksX0_share_0 13 rfl rfl)
theorem dX0_share_15 : decode cX0_share 15 = .ok (.iconst 1, 1) := dk_4 (dk_at dksX0_share_0 15 rfl rfl)
theorem dX0_share_16 : decode cX0_share 16 = .ok (.ireturn, 1) := dk_172 (dk_at dksX0_share_0 16 rfl rfl)
theorem dX0_share_17 : decode cX0_share 17 = .ok (.iconst 0, 1) := dk_3 (dk_at dksX0_share_0 17 rfl rfl)
theorem dX0_share_18 : decode cX0_share 18 = .ok (.ireturn, 1) := dk_172 (dk_at dksX0_share_0 18 rfl rfl)
abbrev cX0_trial : ByteArray := method_32_code
def yX0_trial : MethodName := ⟨RX0, "trial", "(LBorrowedLuck;IZ[J)I"⟩
def dkwX0_trial_0 : List UInt8 := [45, 3, 42, 27, 28, 182, 0, 113, 133, 80, 167, 0, 7, 58, 4, 4, 172, 3, 172]
abbrev dktX0_trial_0 : List UInt8 := dkwX0_trial_0 ++ []
theorem dksX0_trial_0 : cX0_trial.data.toList.drop 0 = dktX0_trial_0 := by decide +kernel
theorem dX0_trial_0 : decode cX0_trial 0 = .ok (.aload_n 3, 1) := dk_45 (dk_at dksX0_trial_0 0 rfl rfl)
theorem dX0_trial_1 : decode cX0_trial 1 = .ok (.iconst 0, 1) := dk_3 (dk_at dksX0_trial_0 1 rfl rfl)
theorem dX0_trial_2 : decode cX0_trial 2 = .ok (.aload_n 0, 1) := dk_42 (dk_at dksX0_trial_0 2 rfl rfl)
theorem dX0_trial_3 : decode cX0_trial 3 = .ok (.iload_n 1, 1) := dk_27 (dk_at dksX0_trial_0 3 rfl rfl)
theorem dX0_trial_4 : decode cX0_trial 4 = .ok (.iload_n 2, 1) := dk_28 (dk_at dksX0_trial_0 4 rfl rfl)
theorem dX0_trial_5 : decode cX0_trial 5 = .ok (.invokevirtual 113, 3) := dk_182 0 113 (dk_at dksX0_trial_0 5 rfl rfl)
theorem dX0_trial_8 : decode cX0_trial 8 = .ok (.i2l, 1) := dk_133 (dk_at dksX0_trial_0 8 rfl rfl)
theorem dX0_trial_9 : decode cX0_trial 9 = .ok (.lastore, 1) := dk_80 (dk_at dksX0_trial_0 9 rfl rfl)
theorem dX0_trial_10 : decode cX0_trial 10 = .ok (.goto 7, 3) := dk_167 0 7 (dk_at dksX0_trial_0 10 rfl rfl)
theorem dX0_trial_13 : decode cX0_trial 13 = .ok (.astore 4, 2) := dk_58 4 (dk_at dksX0_trial_0 13 rfl rfl)
theorem dX0_trial_15 : decode cX0_trial 15 = .ok (.iconst 1, 1) := dk_4 (dk_at dksX0_trial_0 15 rfl rfl)
theorem dX0_trial_16 : decode cX0_trial 16 = .ok (.ireturn, 1) := dk_172 (dk_at dksX0_trial_0 16 rfl rfl)
theorem dX0_trial_17 : decode cX0_trial 17 = .ok (.iconst 0, 1) := dk_3 (dk_at dksX0_trial_0 17 rfl rfl)
theorem dX0_trial_18 : decode cX0_trial 18 = .ok (.ireturn, 1) := dk_172 (dk_at dksX0_trial_0 18 rfl rfl)
abbrev cX0_span : ByteArray := method_33_code
def yX0_span : MethodName := ⟨RX0, "span", "(LBorrowedLuck;IZ[J)I"⟩
def dkwX0_span_0 : List UInt8 := [45, 3, 42, 27, 28, 182, 0, 117, 133, 80, 167, 0, 7, 58, 4, 4, 172, 3, 172]
abbrev dktX0_span_0 : List UInt8 := dkwX0_span_0 ++ []
theorem dksX0_span_0 : cX0_span.data.toList.drop 0 = dktX0_span_0 := by decide +kernel
theorem dX0_span_0 : decode cX0_span 0 = .ok (.aload_n 3, 1) := dk_45 (dk_at dksX0_span_0 0 rfl rfl)
theorem dX0_span_1 : decode cX0_span 1 = .ok (.iconst 0, 1) := dk_3 (dk_at dksX0_span_0 1 rfl rfl)
theorem dX0_span_2 : decode cX0_span 2 = .ok (.aload_n 0, 1) := dk_42 (dk_at dksX0_span_0 2 rfl rfl)
theorem dX0_span_3 : decode cX0_span 3 = .ok (.iload_n 1, 1) := dk_27 (dk_at dksX0_span_0 3 rfl rfl)
theorem dX0_span_4 : decode cX0_span 4 = .ok (.iload_n 2, 1) := dk_28 (dk_at dksX0_span_0 4 rfl rfl)
theorem dX0_span_5 : decode cX0_span 5 = .ok (.invokevirtual 117, 3) := dk_182 0 117 (dk_at dksX0_span_0 5 rfl rfl)
theorem dX0_span_8 : decode cX0_span 8 = .ok (.i2l, 1) := dk_133 (dk_at dksX0_span_0 8 rfl rfl)
theorem dX0_span_9 : decode cX0_span 9 = .ok (.lastore, 1) := dk_80 (dk_at dksX0_span_0 9 rfl rfl)
theorem dX0_span_10 : decode cX0_span 10 = .ok (.goto 7, 3) := dk_167 0 7 (dk_at dksX0_span_0 10 rfl rfl)
theorem dX0_span_13 : decode cX0_span 13 = .ok (.astore 4, 2) := dk_58 4 (dk_at dksX0_span_0 13 rfl rfl)
theorem dX0_span_15 : decode cX0_span 15 = .ok (.iconst 1, 1) := dk_4 (dk_at dksX0_span_0 15 rfl rfl)
theorem dX0_span_16 : decode cX0_span 16 = .ok (.ireturn, 1) := dk_172 (dk_at dksX0_span_0 16 rfl rfl)
theorem dX0_span_17 : decode cX0_span 17 = .ok (.iconst 0, 1) := dk_3 (dk_at dksX0_span_0 17 rfl rfl)
theorem dX0_span_18 : decode cX0_span 18 = .ok (.ireturn, 1) := dk_172 (dk_at dksX0_span_0 18 rfl rfl)
abbrev cX0_led : ByteArray := method_34_code
def yX0_led : MethodName := ⟨RX0, "led", "(LBorrowedLuck;IZ[J)I"⟩
def dkwX0_led_0 : List UInt8 := [45, 3, 42, 27, 28, 182, 0, 120, 133, 80, 167, 0, 7, 58, 4, 4, 172, 3, 172]
abbrev dktX0_led_0 : List UInt8 := dkwX0_led_0 ++ []
theorem dksX0_led_0 : cX0_led.data.toList.drop 0 = dktX0_led_0 := by decide +kernel
theorem dX0_led_0 : decode cX0_led 0 = .ok (.aload_n 3, 1) := dk_45 (dk_at dksX0_led_0 0 rfl rfl)
theorem dX0_led_1 : decode cX0_led 1 = .ok (.iconst 0, 1) := dk_3 (dk_at dksX0_led_0 1 rfl rfl)
theorem dX0_led_2 : decode cX0_led 2 = .ok (.aload_n 0, 1) := dk_42 (dk_at dksX0_led_0 2 rfl rfl)
theorem dX0_led_3 : decode cX0_led 3 = .ok (.iload_n 1, 1) := dk_27 (dk_at dksX0_led_0 3 rfl rfl)
theorem dX0_led_4 : decode cX0_led 4 = .ok (.iload_n 2, 1) := dk_28 (dk_at dksX0_led_0 4 rfl rfl)
theorem dX0_led_5 : decode cX0_led 5 = .ok (.invokevirtual 120, 3) := dk_182 0 120 (dk_at dksX0_led_0 5 rfl rfl)
theorem dX0_led_8 : decode cX0_led 8 = .ok (.i2l, 1) := dk_133 (dk_at dksX0_led_0 8 rfl rfl)
theorem dX0_led_9 : decode cX0_led 9 = .ok (.lastore, 1) := dk_80 (dk_at dksX0_led_0 9 rfl rfl)
theorem dX0_led_10 : decode cX0_led 10 = .ok (.goto 7, 3) := dk_167 0 7 (dk_at dksX0_led_0 10 rfl rfl)
theorem dX0_led_13 : decode cX0_led 13 = .ok (.astore 4, 2) := dk_58 4 (dk_at dksX0_led_0 13 rfl rfl)
theorem dX0_led_15 : decode cX0_led 15 = .ok (.iconst 1, 1) := dk_4 (dk_at dksX0_led_0 15 rfl rfl)
theorem dX0_led_16 : decode cX0_led 16 = .ok (.ireturn, 1) := dk_172 (dk_at dksX0_led_0 16 rfl rfl)
theorem dX0_led_17 : decode cX0_led 17 = .ok (.iconst 0, 1) := dk_3 (dk_at dksX0_led_0 17 rfl rfl)
theorem dX0_led_18 : decode cX0_led 18 = .ok (.ireturn, 1) := dk_172 (dk_at dksX0_led_0 18 rfl rfl)
abbrev cX0_log : ByteArray := method_35_code
def yX0_log : MethodName := ⟨RX0, "log", "(LBorrowedLuck;II[J)I"⟩
def dkwX0_log_0 : List UInt8 := [45, 3, 42, 27, 28, 182, 0, 123, 133, 80, 167, 0, 7, 58, 4, 4, 172, 3, 172]
abbrev dktX0_log_0 : List UInt8 := dkwX0_log_0 ++ []
theorem dksX0_log_0 : cX0_log.data.toList.drop 0 = dktX0_log_0 := by decide +kernel
theorem dX0_log_0 : decode cX0_log 0 = .ok (.aload_n 3, 1) := dk_45 (dk_at dksX0_log_0 0 rfl rfl)
theorem dX0_log_1 : decode cX0_log 1 = .ok (.iconst 0, 1) := dk_3 (dk_at dksX0_log_0 1 rfl rfl)
theorem dX0_log_2 : decode cX0_log 2 = .ok (.aload_n 0, 1) := dk_42 (dk_at dksX0_log_0 2 rfl rfl)
theorem dX0_log_3 : decode cX0_log 3 = .ok (.iload_n 1, 1) := dk_27 (dk_at dksX0_log_0 3 rfl rfl)
theorem dX0_log_4 : decode cX0_log 4 = .ok (.iload_n 2, 1) := dk_28 (dk_at dksX0_log_0 4 rfl rfl)
theorem dX0_log_5 : decode cX0_log 5 = .ok (.invokevirtual 123, 3) := dk_182 0 123 (dk_at dksX0_log_0 5 rfl rfl)
theorem dX0_log_8 : decode cX0_log 8 = .ok (.i2l, 1) := dk_133 (dk_at dksX0_log_0 8 rfl rfl)
theorem dX0_log_9 : decode cX0_log 9 = .ok (.lastore, 1) := dk_80 (dk_at dksX0_log_0 9 rfl rfl)
theorem dX0_log_10 : decode cX0_log 10 = .ok (.goto 7, 3) := dk_167 0 7 (dk_at dksX0_log_0 10 rfl rfl)
theorem dX0_log_13 : decode cX0_log 13 = .ok (.astore 4, 2) := dk_58 4 (dk_at dksX0_log_0 13 rfl rfl)
theorem dX0_log_15 : decode cX0_log 15 = .ok (.iconst 1, 1) := dk_4 (dk_at dksX0_log_0 15 rfl rfl)
theorem dX0_log_16 : decode cX0_log 16 = .ok (.ireturn, 1) := dk_172 (dk_at dksX0_log_0 16 rfl rfl)
theorem dX0_log_17 : decode cX0_log 17 = .ok (.iconst 0, 1) := dk_3 (dk_at dksX0_log_0 17 rfl rfl)
theorem dX0_log_18 : decode cX0_log 18 = .ok (.ireturn, 1) := dk_172 (dk_at dksX0_log_0 18 rfl rfl)
theorem q121 : (Jvm.Cond.initialized "BorrowedLuckLaw") ∈ lw_all := lw_g (lw_at lw_m1 0 rfl) rfl
theorem q154 : (Jvm.Cond.classLink "BorrowedLuckLaw" (8 : Nat) "BorrowedLuck") ∈ lw_all := lw_g (lw_at lw_m1 33 rfl) rfl
theorem q156 : (Jvm.Cond.methodLink "BorrowedLuckLaw" (126 : Nat) ({ cls := "BorrowedLuck", name := "<init>", desc := "()V" } : Jvm.MethodName)) ∈ lw_all := lw_g (lw_at lw_m1 35 rfl) rfl
theorem q496 : (Jvm.Cond.methodLink "BorrowedLuckLaw" (130 : Nat) ({ cls := "BorrowedLuck", name := "feed", desc := "(IIIII)I" } : Jvm.MethodName)) ∈ lw_all := lw_g (lw_at lw_m2 135 rfl) rfl
theorem q504 : (Jvm.Cond.methodLink "BorrowedLuckLaw" (135 : Nat) ({ cls := "BorrowedLuck", name := "end", desc := "(I)Z" } : Jvm.MethodName)) ∈ lw_all := lw_g (lw_at lw_m2 143 rfl) rfl
theorem q511 : (Jvm.Cond.methodLink "BorrowedLuckLaw" (151 : Nat) ({ cls := "BorrowedLuck", name := "fault", desc := "()I" } : Jvm.MethodName)) ∈ lw_all := lw_g (lw_at lw_m2 150 rfl) rfl
theorem q515 : (Jvm.Cond.methodLink "BorrowedLuckLaw" (226 : Nat) ({ cls := "BorrowedLuck", name := "dearest", desc := "()I" } : Jvm.MethodName)) ∈ lw_all := lw_g (lw_at lw_m2 154 rfl) rfl
theorem q530 : (Jvm.Cond.methodLink "BorrowedLuckLaw" (230 : Nat) ({ cls := "BorrowedLuck", name := "unlucky", desc := "()I" } : Jvm.MethodName)) ∈ lw_all := lw_g (lw_at lw_m2 169 rfl) rfl
theorem q535 : (Jvm.Cond.methodLink "BorrowedLuckLaw" (246 : Nat) ({ cls := "BorrowedLuck", name := "oldest", desc := "()I" } : Jvm.MethodName)) ∈ lw_all := lw_g (lw_at lw_m2 174 rfl) rfl
theorem q539 : (Jvm.Cond.methodLink "BorrowedLuckLaw" (250 : Nat) ({ cls := "BorrowedLuck", name := "stuck", desc := "()I" } : Jvm.MethodName)) ∈ lw_all := lw_g (lw_at lw_m2 178 rfl) rfl
theorem q547 : (Jvm.Cond.methodLink "BorrowedLuckLaw" (254 : Nat) ({ cls := "BorrowedLuck", name := "pawned", desc := "()I" } : Jvm.MethodName)) ∈ lw_all := lw_g (lw_at lw_m2 186 rfl) rfl
theorem q555 : (Jvm.Cond.methodLink "BorrowedLuckLaw" (258 : Nat) ({ cls := "BorrowedLuck", name := "blue", desc := "()I" } : Jvm.MethodName)) ∈ lw_all := lw_g (lw_at lw_m2 194 rfl) rfl
theorem q559 : (Jvm.Cond.methodLink "BorrowedLuckLaw" (262 : Nat) ({ cls := "BorrowedLuck", name := "alike", desc := "()I" } : Jvm.MethodName)) ∈ lw_all := lw_g (lw_at lw_m2 198 rfl) rfl
theorem q567 : (Jvm.Cond.methodLink "BorrowedLuckLaw" (269 : Nat) ({ cls := "BorrowedLuck", name := "odds", desc := "()I" } : Jvm.MethodName)) ∈ lw_all := lw_g (lw_at lw_m2 206 rfl) rfl
theorem q579 : (Jvm.Cond.methodLink "BorrowedLuckLaw" (285 : Nat) ({ cls := "BorrowedLuck", name := "seed", desc := "(I)I" } : Jvm.MethodName)) ∈ lw_all := lw_g (lw_at lw_m2 218 rfl) rfl
theorem q583 : (Jvm.Cond.methodLink "BorrowedLuckLaw" (289 : Nat) ({ cls := "BorrowedLuck", name := "undo", desc := "()Z" } : Jvm.MethodName)) ∈ lw_all := lw_g (lw_at lw_m2 222 rfl) rfl
theorem q604 : (Jvm.Cond.methodLink "BorrowedLuckLaw" (294 : Nat) ({ cls := "BorrowedLuck", name := "image", desc := "()V" } : Jvm.MethodName)) ∈ lw_all := lw_g (lw_at lw_m3 3 rfl) rfl
theorem q608 : (Jvm.Cond.methodLink "BorrowedLuckLaw" (298 : Nat) ({ cls := "BorrowedLuck", name := "back", desc := "()Z" } : Jvm.MethodName)) ∈ lw_all := lw_g (lw_at lw_m3 7 rfl) rfl
theorem q612 : (Jvm.Cond.methodLink "BorrowedLuckLaw" (302 : Nat) ({ cls := "BorrowedLuck", name := "count", desc := "(I)I" } : Jvm.MethodName)) ∈ lw_all := lw_g (lw_at lw_m3 11 rfl) rfl
theorem q632 : (Jvm.Cond.methodLink "BorrowedLuckLaw" (139 : Nat) ({ cls := "BorrowedLuckLaw", name := "coast", desc := "(LBorrowedLuck;[J)I" } : Jvm.MethodName)) ∈ lw_all := lw_g (lw_at lw_m3 31 rfl) rfl
theorem q633 : (Jvm.Cond.static ({ cls := "BorrowedLuckLaw", name := "coast", desc := "(LBorrowedLuck;[J)I" } : Jvm.MethodName)) ∈ lw_all := lw_g (lw_at lw_m3 32 rfl) rfl
theorem q634 : (Jvm.Cond.codeWith ({ cls := "BorrowedLuckLaw", name := "coast", desc := "(LBorrowedLuck;[J)I" } : Jvm.MethodName) method_3_code (3 : Nat) (Option.some Jvm.ClassFile.FieldType.int) [((0 : Nat), (8 : Nat), (11 : Nat), (13 : Nat)), ((0 : Nat), (8 : Nat), (14 : Nat), (15 : Nat))]) ∈ lw_all := lw_g (lw_at lw_m3 33 rfl) rfl
theorem q635 : (Jvm.Cond.classLink "BorrowedLuckLaw" (13 : Nat) "java/lang/IllegalArgumentException") ∈ lw_all := lw_g (lw_at lw_m3 34 rfl) rfl
theorem q636 : (Jvm.Cond.classLink "BorrowedLuckLaw" (15 : Nat) "java/lang/UnsupportedOperationException") ∈ lw_all := lw_g (lw_at lw_m3 35 rfl) rfl
theorem q637 : (Jvm.Cond.methodLink "BorrowedLuckLaw" (7 : Nat) ({ cls := "BorrowedLuck", name := "coast", desc := "()I" } : Jvm.MethodName)) ∈ lw_all := lw_g (lw_at lw_m3 36 rfl) rfl
theorem q801 : (Jvm.Cond.methodLink "BorrowedLuckLaw" (148 : Nat) ({ cls := "BorrowedLuckLaw", name := "law", desc := "(LBorrowedLuck;[J)I" } : Jvm.MethodName)) ∈ lw_all := lw_g (lw_at lw_m3 200 rfl) rfl
theorem q802 : (Jvm.Cond.static ({ cls := "BorrowedLuckLaw", name := "law", desc := "(LBorrowedLuck;[J)I" } : Jvm.MethodName)) ∈ lw_all := lw_g (lw_at lw_m3 201 rfl) rfl
theorem q803 : (Jvm.Cond.codeWith ({ cls := "BorrowedLuckLaw", name := "law", desc := "(LBorrowedLuck;[J)I" } : Jvm.MethodName) method_4_code (3 : Nat) (Option.some Jvm.ClassFile.FieldType.int) [((0 : Nat), (8 : Nat), (11 : Nat), (13 : Nat))]) ∈ lw_all := lw_g (lw_at lw_m3 202 rfl) rfl
theorem q804 : (Jvm.Cond.methodLink "BorrowedLuckLaw" (17 : Nat) ({ cls := "BorrowedLuck", name := "law", desc := "()I" } : Jvm.MethodName)) ∈ lw_all := lw_g (lw_at lw_m3 203 rfl) rfl
theorem q943 : (Jvm.Cond.methodLink "BorrowedLuckLaw" (155 : Nat) ({ cls := "BorrowedLuckLaw", name := "woman", desc := "(LBorrowedLuck;II[J)I" } : Jvm.MethodName)) ∈ lw_all := lw_g (lw_at lw_m4 102 rfl) rfl
theorem q944 : (Jvm.Cond.static ({ cls := "BorrowedLuckLaw", name := "woman", desc := "(LBorrowedLuck;II[J)I" } : Jvm.MethodName)) ∈ lw_all := lw_g (lw_at lw_m4 103 rfl) rfl
theorem q945 : (Jvm.Cond.codeWith ({ cls := "BorrowedLuckLaw", name := "woman", desc := "(LBorrowedLuck;II[J)I" } : Jvm.MethodName) method_5_code (5 : Nat) (Option.some Jvm.ClassFile.FieldType.int) [((0 : Nat), (10 : Nat), (13 : Nat), (24 : Nat)), ((0 : Nat), (10 : Nat), (17 : Nat), (26 : Nat))]) ∈ lw_all := lw_g (lw_at lw_m4 104 rfl) rfl
theorem q946 : (Jvm.Cond.classLink "BorrowedLuckLaw" (24 : Nat) "java/lang/IndexOutOfBoundsException") ∈ lw_all := lw_g (lw_at lw_m4 105 rfl) rfl
theorem q978 : (Jvm.Cond.classLink "BorrowedLuckLaw" (26 : Nat) "java/util/NoSuchElementException") ∈ lw_all := lw_g (lw_at lw_m4 137 rfl) rfl
theorem q979 : (Jvm.Cond.methodLink "BorrowedLuckLaw" (20 : Nat) ({ cls := "BorrowedLuck", name := "woman", desc := "(II)I" } : Jvm.MethodName)) ∈ lw_all := lw_g (lw_at lw_m4 138 rfl) rfl
theorem q1024 : (Jvm.Cond.methodLink "BorrowedLuckLaw" (159 : Nat) ({ cls := "BorrowedLuckLaw", name := "thing", desc := "(LBorrowedLuck;II[J)I" } : Jvm.MethodName)) ∈ lw_all := lw_g (lw_at lw_m4 183 rfl) rfl
theorem q1025 : (Jvm.Cond.static ({ cls := "BorrowedLuckLaw", name := "thing", desc := "(LBorrowedLuck;II[J)I" } : Jvm.MethodName)) ∈ lw_all := lw_g (lw_at lw_m4 184 rfl) rfl
theorem q1026 : (Jvm.Cond.codeWith ({ cls := "BorrowedLuckLaw", name := "thing", desc := "(LBorrowedLuck;II[J)I" } : Jvm.MethodName) method_6_code (5 : Nat) (Option.some Jvm.ClassFile.FieldType.int) [((0 : Nat), (10 : Nat), (13 : Nat), (24 : Nat)), ((0 : Nat), (10 : Nat), (17 : Nat), (26 : Nat))]) ∈ lw_all := lw_g (lw_at lw_m4 185 rfl) rfl
theorem q1027 : (Jvm.Cond.methodLink "BorrowedLuckLaw" (28 : Nat) ({ cls := "BorrowedLuck", name := "thing", desc := "(II)I" } : Jvm.MethodName)) ∈ lw_all := lw_g (lw_at lw_m4 186 rfl) rfl
theorem q1035 : (Jvm.Cond.methodLink "BorrowedLuckLaw" (162 : Nat) ({ cls := "BorrowedLuckLaw", name := "gain", desc := "(LBorrowedLuck;II[J)I" } : Jvm.MethodName)) ∈ lw_all := lw_g (lw_at lw_m4 194 rfl) rfl
theorem q1036 : (Jvm.Cond.static ({ cls := "BorrowedLuckLaw", name := "gain", desc := "(LBorrowedLuck;II[J)I" } : Jvm.MethodName)) ∈ lw_all := lw_g (lw_at lw_m4 195 rfl) rfl
theorem q1037 : (Jvm.Cond.codeWith ({ cls := "BorrowedLuckLaw", name := "gain", desc := "(LBorrowedLuck;II[J)I" } : Jvm.MethodName) method_7_code (5 : Nat) (Option.some Jvm.ClassFile.FieldType.int) [((0 : Nat), (10 : Nat), (13 : Nat), (24 : Nat))]) ∈ lw_all := lw_g (lw_at lw_m4 196 rfl) rfl
theorem q1038 : (Jvm.Cond.methodLink "BorrowedLuckLaw" (31 : Nat) ({ cls := "BorrowedLuck", name := "gain", desc := "(II)I" } : Jvm.MethodName)) ∈ lw_all := lw_g (lw_at lw_m4 197 rfl) rfl
theorem q1113 : (Jvm.Cond.methodLink "BorrowedLuckLaw" (165 : Nat) ({ cls := "BorrowedLuckLaw", name := "flows", desc := "(LBorrowedLuck;III[J)I" } : Jvm.MethodName)) ∈ lw_all := lw_g (lw_at lw_m5 32 rfl) rfl
theorem q1114 : (Jvm.Cond.static ({ cls := "BorrowedLuckLaw", name := "flows", desc := "(LBorrowedLuck;III[J)I" } : Jvm.MethodName)) ∈ lw_all := lw_g (lw_at lw_m5 33 rfl) rfl
theorem q1115 : (Jvm.Cond.codeWith ({ cls := "BorrowedLuckLaw", name := "flows", desc := "(LBorrowedLuck;III[J)I" } : Jvm.MethodName) method_8_code (6 : Nat) (Option.some Jvm.ClassFile.FieldType.int) [((0 : Nat), (12 : Nat), (15 : Nat), (24 : Nat))]) ∈ lw_all := lw_g (lw_at lw_m5 34 rfl) rfl
theorem q1116 : (Jvm.Cond.methodLink "BorrowedLuckLaw" (34 : Nat) ({ cls := "BorrowedLuck", name := "flows", desc := "(III)I" } : Jvm.MethodName)) ∈ lw_all := lw_g (lw_at lw_m5 35 rfl) rfl
theorem q1124 : (Jvm.Cond.methodLink "BorrowedLuckLaw" (169 : Nat) ({ cls := "BorrowedLuckLaw", name := "lend", desc := "(LBorrowedLuck;II[J)I" } : Jvm.MethodName)) ∈ lw_all := lw_g (lw_at lw_m5 43 rfl) rfl
theorem q1125 : (Jvm.Cond.static ({ cls := "BorrowedLuckLaw", name := "lend", desc := "(LBorrowedLuck;II[J)I" } : Jvm.MethodName)) ∈ lw_all := lw_g (lw_at lw_m5 44 rfl) rfl
theorem q1126 : (Jvm.Cond.codeWith ({ cls := "BorrowedLuckLaw", name := "lend", desc := "(LBorrowedLuck;II[J)I" } : Jvm.MethodName) method_9_code (5 : Nat) (Option.some Jvm.ClassFile.FieldType.int) [((0 : Nat), (10 : Nat), (13 : Nat), (24 : Nat)), ((0 : Nat), (10 : Nat), (17 : Nat), (13 : Nat)), ((0 : Nat), (10 : Nat), (21 : Nat), (41 : Nat))]) ∈ lw_all := lw_g (lw_at lw_m5 45 rfl) rfl
theorem q1127 : (Jvm.Cond.classLink "BorrowedLuckLaw" (41 : Nat) "java/lang/IllegalStateException") ∈ lw_all := lw_g (lw_at lw_m5 46 rfl) rfl
theorem q1128 : (Jvm.Cond.methodLink "BorrowedLuckLaw" (38 : Nat) ({ cls := "BorrowedLuck", name := "lend", desc := "(II)I" } : Jvm.MethodName)) ∈ lw_all := lw_g (lw_at lw_m5 47 rfl) rfl
theorem q1157 : (Jvm.Cond.methodLink "BorrowedLuckLaw" (172 : Nat) ({ cls := "BorrowedLuckLaw", name := "wed", desc := "(LBorrowedLuck;II[J)I" } : Jvm.MethodName)) ∈ lw_all := lw_g (lw_at lw_m5 76 rfl) rfl
theorem q1158 : (Jvm.Cond.static ({ cls := "BorrowedLuckLaw", name := "wed", desc := "(LBorrowedLuck;II[J)I" } : Jvm.MethodName)) ∈ lw_all := lw_g (lw_at lw_m5 77 rfl) rfl
theorem q1159 : (Jvm.Cond.codeWith ({ cls := "BorrowedLuckLaw", name := "wed", desc := "(LBorrowedLuck;II[J)I" } : Jvm.MethodName) method_10_code (5 : Nat) (Option.some Jvm.ClassFile.FieldType.int) [((0 : Nat), (10 : Nat), (13 : Nat), (24 : Nat)), ((0 : Nat), (10 : Nat), (17 : Nat), (41 : Nat))]) ∈ lw_all := lw_g (lw_at lw_m5 78 rfl) rfl
theorem q1160 : (Jvm.Cond.methodLink "BorrowedLuckLaw" (43 : Nat) ({ cls := "BorrowedLuck", name := "wed", desc := "(II)I" } : Jvm.MethodName)) ∈ lw_all := lw_g (lw_at lw_m5 79 rfl) rfl
theorem q1204 : (Jvm.Cond.methodLink "BorrowedLuckLaw" (175 : Nat) ({ cls := "BorrowedLuckLaw", name := "pawn", desc := "(LBorrowedLuck;I[J)I" } : Jvm.MethodName)) ∈ lw_all := lw_g (lw_at lw_m5 123 rfl) rfl
theorem q1205 : (Jvm.Cond.static ({ cls := "BorrowedLuckLaw", name := "pawn", desc := "(LBorrowedLuck;I[J)I" } : Jvm.MethodName)) ∈ lw_all := lw_g (lw_at lw_m5 124 rfl) rfl
theorem q1206 : (Jvm.Cond.codeWith ({ cls := "BorrowedLuckLaw", name := "pawn", desc := "(LBorrowedLuck;I[J)I" } : Jvm.MethodName) method_11_code (4 : Nat) (Option.some Jvm.ClassFile.FieldType.int) [((0 : Nat), (9 : Nat), (12 : Nat), (24 : Nat)), ((0 : Nat), (9 : Nat), (15 : Nat), (41 : Nat))]) ∈ lw_all := lw_g (lw_at lw_m5 125 rfl) rfl
theorem q1207 : (Jvm.Cond.methodLink "BorrowedLuckLaw" (46 : Nat) ({ cls := "BorrowedLuck", name := "pawn", desc := "(I)I" } : Jvm.MethodName)) ∈ lw_all := lw_g (lw_at lw_m5 126 rfl) rfl
theorem q1211 : (Jvm.Cond.methodLink "BorrowedLuckLaw" (179 : Nat) ({ cls := "BorrowedLuckLaw", name := "redeem", desc := "(LBorrowedLuck;I[J)I" } : Jvm.MethodName)) ∈ lw_all := lw_g (lw_at lw_m5 130 rfl) rfl
theorem q1212 : (Jvm.Cond.static ({ cls := "BorrowedLuckLaw", name := "redeem", desc := "(LBorrowedLuck;I[J)I" } : Jvm.MethodName)) ∈ lw_all := lw_g (lw_at lw_m5 131 rfl) rfl
theorem q1213 : (Jvm.Cond.codeWith ({ cls := "BorrowedLuckLaw", name := "redeem", desc := "(LBorrowedLuck;I[J)I" } : Jvm.MethodName) method_12_code (4 : Nat) (Option.some Jvm.ClassFile.FieldType.int) [((0 : Nat), (9 : Nat), (12 : Nat), (24 : Nat)), ((0 : Nat), (9 : Nat), (15 : Nat), (41 : Nat))]) ∈ lw_all := lw_g (lw_at lw_m5 132 rfl) rfl
theorem q1214 : (Jvm.Cond.methodLink "BorrowedLuckLaw" (50 : Nat) ({ cls := "BorrowedLuck", name := "redeem", desc := "(I)I" } : Jvm.MethodName)) ∈ lw_all := lw_g (lw_at lw_m5 133 rfl) rfl
theorem q1218 : (Jvm.Cond.methodLink "BorrowedLuckLaw" (182 : Nat) ({ cls := "BorrowedLuckLaw", name := "cut", desc := "(LBorrowedLuck;I[J)I" } : Jvm.MethodName)) ∈ lw_all := lw_g (lw_at lw_m5 137 rfl) rfl
theorem q1219 : (Jvm.Cond.static ({ cls := "BorrowedLuckLaw", name := "cut", desc := "(LBorrowedLuck;I[J)I" } : Jvm.MethodName)) ∈ lw_all := lw_g (lw_at lw_m5 138 rfl) rfl
theorem q1220 : (Jvm.Cond.codeWith ({ cls := "BorrowedLuckLaw", name := "cut", desc := "(LBorrowedLuck;I[J)I" } : Jvm.MethodName) method_13_code (4 : Nat) (Option.some Jvm.ClassFile.FieldType.int) [((0 : Nat), (9 : Nat), (12 : Nat), (24 : Nat)), ((0 : Nat), (9 : Nat), (15 : Nat), (41 : Nat))]) ∈ lw_all := lw_g (lw_at lw_m5 139 rfl) rfl
theorem q1221 : (Jvm.Cond.methodLink "BorrowedLuckLaw" (53 : Nat) ({ cls := "BorrowedLuck", name := "cut", desc := "(I)I" } : Jvm.MethodName)) ∈ lw_all := lw_g (lw_at lw_m5 140 rfl) rfl
theorem q1225 : (Jvm.Cond.methodLink "BorrowedLuckLaw" (185 : Nat) ({ cls := "BorrowedLuckLaw", name := "widow", desc := "(LBorrowedLuck;IZ[J)I" } : Jvm.MethodName)) ∈ lw_all := lw_g (lw_at lw_m5 144 rfl) rfl
theorem q1226 : (Jvm.Cond.static ({ cls := "BorrowedLuckLaw", name := "widow", desc := "(LBorrowedLuck;IZ[J)I" } : Jvm.MethodName)) ∈ lw_all := lw_g (lw_at lw_m5 145 rfl) rfl
theorem q1227 : (Jvm.Cond.codeWith ({ cls := "BorrowedLuckLaw", name := "widow", desc := "(LBorrowedLuck;IZ[J)I" } : Jvm.MethodName) method_14_code (5 : Nat) (Option.some Jvm.ClassFile.FieldType.int) [((0 : Nat), (17 : Nat), (20 : Nat), (24 : Nat))]) ∈ lw_all := lw_g (lw_at lw_m5 146 rfl) rfl
theorem q1228 : (Jvm.Cond.methodLink "BorrowedLuckLaw" (56 : Nat) ({ cls := "BorrowedLuck", name := "widow", desc := "(IZ)Z" } : Jvm.MethodName)) ∈ lw_all := lw_g (lw_at lw_m5 147 rfl) rfl
theorem q1232 : (Jvm.Cond.methodLink "BorrowedLuckLaw" (189 : Nat) ({ cls := "BorrowedLuckLaw", name := "days", desc := "(LBorrowedLuck;I[J)I" } : Jvm.MethodName)) ∈ lw_all := lw_g (lw_at lw_m5 151 rfl) rfl
theorem q1233 : (Jvm.Cond.static ({ cls := "BorrowedLuckLaw", name := "days", desc := "(LBorrowedLuck;I[J)I" } : Jvm.MethodName)) ∈ lw_all := lw_g (lw_at lw_m5 152 rfl) rfl
theorem q1234 : (Jvm.Cond.codeWith ({ cls := "BorrowedLuckLaw", name := "days", desc := "(LBorrowedLuck;I[J)I" } : Jvm.MethodName) method_15_code (4 : Nat) (Option.some Jvm.ClassFile.FieldType.int) [((0 : Nat), (9 : Nat), (12 : Nat), (13 : Nat))]) ∈ lw_all := lw_g (lw_at lw_m5 153 rfl) rfl
theorem q1235 : (Jvm.Cond.methodLink "BorrowedLuckLaw" (60 : Nat) ({ cls := "BorrowedLuck", name := "days", desc := "(I)I" } : Jvm.MethodName)) ∈ lw_all := lw_g (lw_at lw_m5 154 rfl) rfl
theorem q1254 : (Jvm.Cond.methodLink "BorrowedLuckLaw" (192 : Nat) ({ cls := "BorrowedLuckLaw", name := "best", desc := "(LBorrowedLuck;I[J)I" } : Jvm.MethodName)) ∈ lw_all := lw_g (lw_at lw_m5 173 rfl) rfl
theorem q1255 : (Jvm.Cond.static ({ cls := "BorrowedLuckLaw", name := "best", desc := "(LBorrowedLuck;I[J)I" } : Jvm.MethodName)) ∈ lw_all := lw_g (lw_at lw_m5 174 rfl) rfl
theorem q1256 : (Jvm.Cond.codeWith ({ cls := "BorrowedLuckLaw", name := "best", desc := "(LBorrowedLuck;I[J)I" } : Jvm.MethodName) method_16_code (4 : Nat) (Option.some Jvm.ClassFile.FieldType.int) [((0 : Nat), (9 : Nat), (12 : Nat), (24 : Nat))]) ∈ lw_all := lw_g (lw_at lw_m5 175 rfl) rfl
theorem q1257 : (Jvm.Cond.methodLink "BorrowedLuckLaw" (63 : Nat) ({ cls := "BorrowedLuck", name := "best", desc := "(I)I" } : Jvm.MethodName)) ∈ lw_all := lw_g (lw_at lw_m5 176 rfl) rfl
theorem q1262 : (Jvm.Cond.methodLink "BorrowedLuckLaw" (195 : Nat) ({ cls := "BorrowedLuckLaw", name := "order", desc := "(LBorrowedLuck;III[J)I" } : Jvm.MethodName)) ∈ lw_all := lw_g (lw_at lw_m5 181 rfl) rfl
theorem q1263 : (Jvm.Cond.static ({ cls := "BorrowedLuckLaw", name := "order", desc := "(LBorrowedLuck;III[J)I" } : Jvm.MethodName)) ∈ lw_all := lw_g (lw_at lw_m5 182 rfl) rfl
theorem q1264 : (Jvm.Cond.codeWith ({ cls := "BorrowedLuckLaw", name := "order", desc := "(LBorrowedLuck;III[J)I" } : Jvm.MethodName) method_17_code (6 : Nat) (Option.some Jvm.ClassFile.FieldType.int) [((0 : Nat), (12 : Nat), (15 : Nat), (24 : Nat)), ((0 : Nat), (12 : Nat), (19 : Nat), (13 : Nat))]) ∈ lw_all := lw_g (lw_at lw_m5 183 rfl) rfl
theorem q1265 : (Jvm.Cond.methodLink "BorrowedLuckLaw" (66 : Nat) ({ cls := "BorrowedLuck", name := "order", desc := "(III)I" } : Jvm.MethodName)) ∈ lw_all := lw_g (lw_at lw_m5 184 rfl) rfl
theorem q1292 : (Jvm.Cond.methodLink "BorrowedLuckLaw" (198 : Nat) ({ cls := "BorrowedLuckLaw", name := "lowest", desc := "(LBorrowedLuck;II[J)I" } : Jvm.MethodName)) ∈ lw_all := lw_g (lw_at lw_m5 211 rfl) rfl
theorem q1293 : (Jvm.Cond.static ({ cls := "BorrowedLuckLaw", name := "lowest", desc := "(LBorrowedLuck;II[J)I" } : Jvm.MethodName)) ∈ lw_all := lw_g (lw_at lw_m5 212 rfl) rfl
theorem q1294 : (Jvm.Cond.codeWith ({ cls := "BorrowedLuckLaw", name := "lowest", desc := "(LBorrowedLuck;II[J)I" } : Jvm.MethodName) method_18_code (5 : Nat) (Option.some Jvm.ClassFile.FieldType.int) [((0 : Nat), (10 : Nat), (13 : Nat), (24 : Nat)), ((0 : Nat), (10 : Nat), (17 : Nat), (13 : Nat))]) ∈ lw_all := lw_g (lw_at lw_m5 213 rfl) rfl
theorem q1295 : (Jvm.Cond.methodLink "BorrowedLuckLaw" (69 : Nat) ({ cls := "BorrowedLuck", name := "lowest", desc := "(II)I" } : Jvm.MethodName)) ∈ lw_all := lw_g (lw_at lw_m5 214 rfl) rfl
theorem q1299 : (Jvm.Cond.methodLink "BorrowedLuckLaw" (201 : Nat) ({ cls := "BorrowedLuckLaw", name := "reach", desc := "(LBorrowedLuck;IIII[J)I" } : Jvm.MethodName)) ∈ lw_all := lw_g (lw_at lw_m5 218 rfl) rfl
theorem q1300 : (Jvm.Cond.static ({ cls := "BorrowedLuckLaw", name := "reach", desc := "(LBorrowedLuck;IIII[J)I" } : Jvm.MethodName)) ∈ lw_all := lw_g (lw_at lw_m5 219 rfl) rfl
theorem q1301 : (Jvm.Cond.codeWith ({ cls := "BorrowedLuckLaw", name := "reach", desc := "(LBorrowedLuck;IIII[J)I" } : Jvm.MethodName) method_19_code (7 : Nat) (Option.some Jvm.ClassFile.FieldType.int) [((0 : Nat), (14 : Nat), (17 : Nat), (24 : Nat)), ((0 : Nat), (14 : Nat), (21 : Nat), (13 : Nat))]) ∈ lw_all := lw_g (lw_at lw_m5 220 rfl) rfl
theorem q1302 : (Jvm.Cond.methodLink "BorrowedLuckLaw" (72 : Nat) ({ cls := "BorrowedLuck", name := "reach", desc := "(IIII)I" } : Jvm.MethodName)) ∈ lw_all := lw_g (lw_at lw_m5 221 rfl) rfl
theorem q1306 : (Jvm.Cond.methodLink "BorrowedLuckLaw" (205 : Nat) ({ cls := "BorrowedLuckLaw", name := "chain", desc := "(LBorrowedLuck;I[J)I" } : Jvm.MethodName)) ∈ lw_all := lw_g (lw_at lw_m5 225 rfl) rfl
theorem q1307 : (Jvm.Cond.static ({ cls := "BorrowedLuckLaw", name := "chain", desc := "(LBorrowedLuck;I[J)I" } : Jvm.MethodName)) ∈ lw_all := lw_g (lw_at lw_m5 226 rfl) rfl
theorem q1308 : (Jvm.Cond.codeWith ({ cls := "BorrowedLuckLaw", name := "chain", desc := "(LBorrowedLuck;I[J)I" } : Jvm.MethodName) method_20_code (4 : Nat) (Option.some Jvm.ClassFile.FieldType.int) [((0 : Nat), (9 : Nat), (12 : Nat), (24 : Nat))]) ∈ lw_all := lw_g (lw_at lw_m5 227 rfl) rfl
theorem q1309 : (Jvm.Cond.methodLink "BorrowedLuckLaw" (76 : Nat) ({ cls := "BorrowedLuck", name := "chain", desc := "(I)I" } : Jvm.MethodName)) ∈ lw_all := lw_g (lw_at lw_m5 228 rfl) rfl
theorem q1326 : (Jvm.Cond.methodLink "BorrowedLuckLaw" (208 : Nat) ({ cls := "BorrowedLuckLaw", name := "since", desc := "(LBorrowedLuck;II[J)I" } : Jvm.MethodName)) ∈ lw_all := lw_g (lw_at lw_m6 5 rfl) rfl
theorem q1327 : (Jvm.Cond.static ({ cls := "BorrowedLuckLaw", name := "since", desc := "(LBorrowedLuck;II[J)I" } : Jvm.MethodName)) ∈ lw_all := lw_g (lw_at lw_m6 6 rfl) rfl
theorem q1328 : (Jvm.Cond.codeWith ({ cls := "BorrowedLuckLaw", name := "since", desc := "(LBorrowedLuck;II[J)I" } : Jvm.MethodName) method_21_code (5 : Nat) (Option.some Jvm.ClassFile.FieldType.int) [((0 : Nat), (10 : Nat), (13 : Nat), (24 : Nat)), ((0 : Nat), (10 : Nat), (17 : Nat), (13 : Nat))]) ∈ lw_all := lw_g (lw_at lw_m6 7 rfl) rfl
theorem q1329 : (Jvm.Cond.methodLink "BorrowedLuckLaw" (79 : Nat) ({ cls := "BorrowedLuck", name := "since", desc := "(II)I" } : Jvm.MethodName)) ∈ lw_all := lw_g (lw_at lw_m6 8 rfl) rfl
theorem q1333 : (Jvm.Cond.methodLink "BorrowedLuckLaw" (211 : Nat) ({ cls := "BorrowedLuckLaw", name := "whose", desc := "(LBorrowedLuck;[J)I" } : Jvm.MethodName)) ∈ lw_all := lw_g (lw_at lw_m6 12 rfl) rfl
theorem q1334 : (Jvm.Cond.static ({ cls := "BorrowedLuckLaw", name := "whose", desc := "(LBorrowedLuck;[J)I" } : Jvm.MethodName)) ∈ lw_all := lw_g (lw_at lw_m6 13 rfl) rfl
theorem q1335 : (Jvm.Cond.codeWith ({ cls := "BorrowedLuckLaw", name := "whose", desc := "(LBorrowedLuck;[J)I" } : Jvm.MethodName) method_22_code (3 : Nat) (Option.some Jvm.ClassFile.FieldType.int) [((0 : Nat), (8 : Nat), (11 : Nat), (13 : Nat))]) ∈ lw_all := lw_g (lw_at lw_m6 14 rfl) rfl
theorem q1336 : (Jvm.Cond.methodLink "BorrowedLuckLaw" (82 : Nat) ({ cls := "BorrowedLuck", name := "whose", desc := "()I" } : Jvm.MethodName)) ∈ lw_all := lw_g (lw_at lw_m6 15 rfl) rfl
theorem q1344 : (Jvm.Cond.methodLink "BorrowedLuckLaw" (214 : Nat) ({ cls := "BorrowedLuckLaw", name := "next", desc := "(LBorrowedLuck;[J)I" } : Jvm.MethodName)) ∈ lw_all := lw_g (lw_at lw_m6 23 rfl) rfl
theorem q1345 : (Jvm.Cond.static ({ cls := "BorrowedLuckLaw", name := "next", desc := "(LBorrowedLuck;[J)I" } : Jvm.MethodName)) ∈ lw_all := lw_g (lw_at lw_m6 24 rfl) rfl
theorem q1346 : (Jvm.Cond.codeWith ({ cls := "BorrowedLuckLaw", name := "next", desc := "(LBorrowedLuck;[J)I" } : Jvm.MethodName) method_23_code (3 : Nat) (Option.some Jvm.ClassFile.FieldType.int) [((0 : Nat), (8 : Nat), (11 : Nat), (13 : Nat))]) ∈ lw_all := lw_g (lw_at lw_m6 25 rfl) rfl
theorem q1347 : (Jvm.Cond.methodLink "BorrowedLuckLaw" (85 : Nat) ({ cls := "BorrowedLuck", name := "next", desc := "()I" } : Jvm.MethodName)) ∈ lw_all := lw_g (lw_at lw_m6 26 rfl) rfl
theorem q1351 : (Jvm.Cond.methodLink "BorrowedLuckLaw" (217 : Nat) ({ cls := "BorrowedLuckLaw", name := "match", desc := "(LBorrowedLuck;II[J)I" } : Jvm.MethodName)) ∈ lw_all := lw_g (lw_at lw_m6 30 rfl) rfl
theorem q1352 : (Jvm.Cond.static ({ cls := "BorrowedLuckLaw", name := "match", desc := "(LBorrowedLuck;II[J)I" } : Jvm.MethodName)) ∈ lw_all := lw_g (lw_at lw_m6 31 rfl) rfl
theorem q1353 : (Jvm.Cond.codeWith ({ cls := "BorrowedLuckLaw", name := "match", desc := "(LBorrowedLuck;II[J)I" } : Jvm.MethodName) method_24_code (5 : Nat) (Option.some Jvm.ClassFile.FieldType.int) [((0 : Nat), (10 : Nat), (13 : Nat), (13 : Nat))]) ∈ lw_all := lw_g (lw_at lw_m6 32 rfl) rfl
theorem q1354 : (Jvm.Cond.methodLink "BorrowedLuckLaw" (88 : Nat) ({ cls := "BorrowedLuck", name := "match", desc := "(II)I" } : Jvm.MethodName)) ∈ lw_all := lw_g (lw_at lw_m6 33 rfl) rfl
theorem q1362 : (Jvm.Cond.methodLink "BorrowedLuckLaw" (220 : Nat) ({ cls := "BorrowedLuckLaw", name := "rests", desc := "(LBorrowedLuck;III[J)I" } : Jvm.MethodName)) ∈ lw_all := lw_g (lw_at lw_m6 41 rfl) rfl
theorem q1363 : (Jvm.Cond.static ({ cls := "BorrowedLuckLaw", name := "rests", desc := "(LBorrowedLuck;III[J)I" } : Jvm.MethodName)) ∈ lw_all := lw_g (lw_at lw_m6 42 rfl) rfl
theorem q1364 : (Jvm.Cond.codeWith ({ cls := "BorrowedLuckLaw", name := "rests", desc := "(LBorrowedLuck;III[J)I" } : Jvm.MethodName) method_25_code (6 : Nat) (Option.some Jvm.ClassFile.FieldType.int) [((0 : Nat), (12 : Nat), (15 : Nat), (24 : Nat)), ((0 : Nat), (12 : Nat), (19 : Nat), (13 : Nat))]) ∈ lw_all := lw_g (lw_at lw_m6 43 rfl) rfl
theorem q1365 : (Jvm.Cond.methodLink "BorrowedLuckLaw" (91 : Nat) ({ cls := "BorrowedLuck", name := "rests", desc := "(III)I" } : Jvm.MethodName)) ∈ lw_all := lw_g (lw_at lw_m6 44 rfl) rfl
theorem q1377 : (Jvm.Cond.methodLink "BorrowedLuckLaw" (223 : Nat) ({ cls := "BorrowedLuckLaw", name := "sells", desc := "(LBorrowedLuck;I[J)I" } : Jvm.MethodName)) ∈ lw_all := lw_g (lw_at lw_m6 56 rfl) rfl
theorem q1378 : (Jvm.Cond.static ({ cls := "BorrowedLuckLaw", name := "sells", desc := "(LBorrowedLuck;I[J)I" } : Jvm.MethodName)) ∈ lw_all := lw_g (lw_at lw_m6 57 rfl) rfl
theorem q1379 : (Jvm.Cond.codeWith ({ cls := "BorrowedLuckLaw", name := "sells", desc := "(LBorrowedLuck;I[J)I" } : Jvm.MethodName) method_26_code (4 : Nat) (Option.some Jvm.ClassFile.FieldType.int) [((0 : Nat), (9 : Nat), (12 : Nat), (13 : Nat))]) ∈ lw_all := lw_g (lw_at lw_m6 58 rfl) rfl
theorem q1380 : (Jvm.Cond.methodLink "BorrowedLuckLaw" (94 : Nat) ({ cls := "BorrowedLuck", name := "sells", desc := "(I)I" } : Jvm.MethodName)) ∈ lw_all := lw_g (lw_at lw_m6 59 rfl) rfl
theorem q1384 : (Jvm.Cond.methodLink "BorrowedLuckLaw" (234 : Nat) ({ cls := "BorrowedLuckLaw", name := "luckiest", desc := "(LBorrowedLuck;I[J)I" } : Jvm.MethodName)) ∈ lw_all := lw_g (lw_at lw_m6 63 rfl) rfl
theorem q1385 : (Jvm.Cond.static ({ cls := "BorrowedLuckLaw", name := "luckiest", desc := "(LBorrowedLuck;I[J)I" } : Jvm.MethodName)) ∈ lw_all := lw_g (lw_at lw_m6 64 rfl) rfl
theorem q1386 : (Jvm.Cond.codeWith ({ cls := "BorrowedLuckLaw", name := "luckiest", desc := "(LBorrowedLuck;I[J)I" } : Jvm.MethodName) method_27_code (4 : Nat) (Option.some Jvm.ClassFile.FieldType.int) [((0 : Nat), (9 : Nat), (12 : Nat), (24 : Nat))]) ∈ lw_all := lw_g (lw_at lw_m6 65 rfl) rfl
theorem q1387 : (Jvm.Cond.methodLink "BorrowedLuckLaw" (97 : Nat) ({ cls := "BorrowedLuck", name := "luckiest", desc := "(I)I" } : Jvm.MethodName)) ∈ lw_all := lw_g (lw_at lw_m6 66 rfl) rfl
theorem q1391 : (Jvm.Cond.methodLink "BorrowedLuckLaw" (237 : Nat) ({ cls := "BorrowedLuckLaw", name := "ring", desc := "(LBorrowedLuck;I[J)I" } : Jvm.MethodName)) ∈ lw_all := lw_g (lw_at lw_m6 70 rfl) rfl
theorem q1392 : (Jvm.Cond.static ({ cls := "BorrowedLuckLaw", name := "ring", desc := "(LBorrowedLuck;I[J)I" } : Jvm.MethodName)) ∈ lw_all := lw_g (lw_at lw_m6 71 rfl) rfl
theorem q1393 : (Jvm.Cond.codeWith ({ cls := "BorrowedLuckLaw", name := "ring", desc := "(LBorrowedLuck;I[J)I" } : Jvm.MethodName) method_28_code (4 : Nat) (Option.some Jvm.ClassFile.FieldType.int) [((0 : Nat), (16 : Nat), (19 : Nat), (24 : Nat))]) ∈ lw_all := lw_g (lw_at lw_m6 72 rfl) rfl
theorem q1394 : (Jvm.Cond.methodLink "BorrowedLuckLaw" (100 : Nat) ({ cls := "BorrowedLuck", name := "ring", desc := "(I)Z" } : Jvm.MethodName)) ∈ lw_all := lw_g (lw_at lw_m6 73 rfl) rfl
theorem q1402 : (Jvm.Cond.methodLink "BorrowedLuckLaw" (240 : Nat) ({ cls := "BorrowedLuckLaw", name := "runs", desc := "(LBorrowedLuck;II[J)I" } : Jvm.MethodName)) ∈ lw_all := lw_g (lw_at lw_m6 81 rfl) rfl
theorem q1403 : (Jvm.Cond.static ({ cls := "BorrowedLuckLaw", name := "runs", desc := "(LBorrowedLuck;II[J)I" } : Jvm.MethodName)) ∈ lw_all := lw_g (lw_at lw_m6 82 rfl) rfl
theorem q1404 : (Jvm.Cond.codeWith ({ cls := "BorrowedLuckLaw", name := "runs", desc := "(LBorrowedLuck;II[J)I" } : Jvm.MethodName) method_29_code (5 : Nat) (Option.some Jvm.ClassFile.FieldType.int) [((0 : Nat), (10 : Nat), (13 : Nat), (24 : Nat)), ((0 : Nat), (10 : Nat), (17 : Nat), (13 : Nat))]) ∈ lw_all := lw_g (lw_at lw_m6 83 rfl) rfl
theorem q1405 : (Jvm.Cond.methodLink "BorrowedLuckLaw" (104 : Nat) ({ cls := "BorrowedLuck", name := "runs", desc := "(II)I" } : Jvm.MethodName)) ∈ lw_all := lw_g (lw_at lw_m6 84 rfl) rfl
theorem q1409 : (Jvm.Cond.methodLink "BorrowedLuckLaw" (243 : Nat) ({ cls := "BorrowedLuckLaw", name := "spent", desc := "(LBorrowedLuck;I[J)I" } : Jvm.MethodName)) ∈ lw_all := lw_g (lw_at lw_m6 88 rfl) rfl
theorem q1410 : (Jvm.Cond.static ({ cls := "BorrowedLuckLaw", name := "spent", desc := "(LBorrowedLuck;I[J)I" } : Jvm.MethodName)) ∈ lw_all := lw_g (lw_at lw_m6 89 rfl) rfl
theorem q1411 : (Jvm.Cond.codeWith ({ cls := "BorrowedLuckLaw", name := "spent", desc := "(LBorrowedLuck;I[J)I" } : Jvm.MethodName) method_30_code (4 : Nat) (Option.some Jvm.ClassFile.FieldType.int) [((0 : Nat), (9 : Nat), (12 : Nat), (24 : Nat))]) ∈ lw_all := lw_g (lw_at lw_m6 90 rfl) rfl
theorem q1412 : (Jvm.Cond.methodLink "BorrowedLuckLaw" (107 : Nat) ({ cls := "BorrowedLuck", name := "spent", desc := "(I)I" } : Jvm.MethodName)) ∈ lw_all := lw_g (lw_at lw_m6 91 rfl) rfl
theorem q1416 : (Jvm.Cond.methodLink "BorrowedLuckLaw" (266 : Nat) ({ cls := "BorrowedLuckLaw", name := "share", desc := "(LBorrowedLuck;II[J)I" } : Jvm.MethodName)) ∈ lw_all := lw_g (lw_at lw_m6 95 rfl) rfl
theorem q1417 : (Jvm.Cond.static ({ cls := "BorrowedLuckLaw", name := "share", desc := "(LBorrowedLuck;II[J)I" } : Jvm.MethodName)) ∈ lw_all := lw_g (lw_at lw_m6 96 rfl) rfl
theorem q1418 : (Jvm.Cond.codeWith ({ cls := "BorrowedLuckLaw", name := "share", desc := "(LBorrowedLuck;II[J)I" } : Jvm.MethodName) method_31_code (5 : Nat) (Option.some Jvm.ClassFile.FieldType.int) [((0 : Nat), (10 : Nat), (13 : Nat), (24 : Nat))]) ∈ lw_all := lw_g (lw_at lw_m6 97 rfl) rfl
theorem q1419 : (Jvm.Cond.methodLink "BorrowedLuckLaw" (110 : Nat) ({ cls := "BorrowedLuck", name := "share", desc := "(II)I" } : Jvm.MethodName)) ∈ lw_all := lw_g (lw_at lw_m6 98 rfl) rfl
theorem q1423 : (Jvm.Cond.methodLink "BorrowedLuckLaw" (273 : Nat) ({ cls := "BorrowedLuckLaw", name := "trial", desc := "(LBorrowedLuck;IZ[J)I" } : Jvm.MethodName)) ∈ lw_all := lw_g (lw_at lw_m6 102 rfl) rfl
theorem q1424 : (Jvm.Cond.static ({ cls := "BorrowedLuckLaw", name := "trial", desc := "(LBorrowedLuck;IZ[J)I" } : Jvm.MethodName)) ∈ lw_all := lw_g (lw_at lw_m6 103 rfl) rfl
theorem q1425 : (Jvm.Cond.codeWith ({ cls := "BorrowedLuckLaw", name := "trial", desc := "(LBorrowedLuck;IZ[J)I" } : Jvm.MethodName) method_32_code (5 : Nat) (Option.some Jvm.ClassFile.FieldType.int) [((0 : Nat), (10 : Nat), (13 : Nat), (13 : Nat))]) ∈ lw_all := lw_g (lw_at lw_m6 104 rfl) rfl
theorem q1426 : (Jvm.Cond.methodLink "BorrowedLuckLaw" (113 : Nat) ({ cls := "BorrowedLuck", name := "trial", desc := "(IZ)I" } : Jvm.MethodName)) ∈ lw_all := lw_g (lw_at lw_m6 105 rfl) rfl
theorem q1430 : (Jvm.Cond.methodLink "BorrowedLuckLaw" (276 : Nat) ({ cls := "BorrowedLuckLaw", name := "span", desc := "(LBorrowedLuck;IZ[J)I" } : Jvm.MethodName)) ∈ lw_all := lw_g (lw_at lw_m6 109 rfl) rfl
theorem q1431 : (Jvm.Cond.static ({ cls := "BorrowedLuckLaw", name := "span", desc := "(LBorrowedLuck;IZ[J)I" } : Jvm.MethodName)) ∈ lw_all := lw_g (lw_at lw_m6 110 rfl) rfl
theorem q1432 : (Jvm.Cond.codeWith ({ cls := "BorrowedLuckLaw", name := "span", desc := "(LBorrowedLuck;IZ[J)I" } : Jvm.MethodName) method_33_code (5 : Nat) (Option.some Jvm.ClassFile.FieldType.int) [((0 : Nat), (10 : Nat), (13 : Nat), (13 : Nat))]) ∈ lw_all := lw_g (lw_at lw_m6 111 rfl) rfl
theorem q1433 : (Jvm.Cond.methodLink "BorrowedLuckLaw" (117 : Nat) ({ cls := "BorrowedLuck", name := "span", desc := "(IZ)I" } : Jvm.MethodName)) ∈ lw_all := lw_g (lw_at lw_m6 112 rfl) rfl
theorem q1437 : (Jvm.Cond.methodLink "BorrowedLuckLaw" (279 : Nat) ({ cls := "BorrowedLuckLaw", name := "led", desc := "(LBorrowedLuck;IZ[J)I" } : Jvm.MethodName)) ∈ lw_all := lw_g (lw_at lw_m6 116 rfl) rfl
theorem q1438 : (Jvm.Cond.static ({ cls := "BorrowedLuckLaw", name := "led", desc := "(LBorrowedLuck;IZ[J)I" } : Jvm.MethodName)) ∈ lw_all := lw_g (lw_at lw_m6 117 rfl) rfl
theorem q1439 : (Jvm.Cond.codeWith ({ cls := "BorrowedLuckLaw", name := "led", desc := "(LBorrowedLuck;IZ[J)I" } : Jvm.MethodName) method_34_code (5 : Nat) (Option.some Jvm.ClassFile.FieldType.int) [((0 : Nat), (10 : Nat), (13 : Nat), (24 : Nat))]) ∈ lw_all := lw_g (lw_at lw_m6 118 rfl) rfl
theorem q1440 : (Jvm.Cond.methodLink "BorrowedLuckLaw" (120 : Nat) ({ cls := "BorrowedLuck", name := "led", desc := "(IZ)I" } : Jvm.MethodName)) ∈ lw_all := lw_g (lw_at lw_m6 119 rfl) rfl
theorem q1444 : (Jvm.Cond.methodLink "BorrowedLuckLaw" (282 : Nat) ({ cls := "BorrowedLuckLaw", name := "log", desc := "(LBorrowedLuck;II[J)I" } : Jvm.MethodName)) ∈ lw_all := lw_g (lw_at lw_m6 123 rfl) rfl
theorem q1445 : (Jvm.Cond.static ({ cls := "BorrowedLuckLaw", name := "log", desc := "(LBorrowedLuck;II[J)I" } : Jvm.MethodName)) ∈ lw_all := lw_g (lw_at lw_m6 124 rfl) rfl
theorem q1446 : (Jvm.Cond.codeWith ({ cls := "BorrowedLuckLaw", name := "log", desc := "(LBorrowedLuck;II[J)I" } : Jvm.MethodName) method_35_code (5 : Nat) (Option.some Jvm.ClassFile.FieldType.int) [((0 : Nat), (10 : Nat), (13 : Nat), (26 : Nat))]) ∈ lw_all := lw_g (lw_at lw_m6 125 rfl) rfl
theorem q1447 : (Jvm.Cond.methodLink "BorrowedLuckLaw" (123 : Nat) ({ cls := "BorrowedLuck", name := "log", desc := "(II)I" } : Jvm.MethodName)) ∈ lw_all := lw_g (lw_at lw_m6 126 rfl) rfl
theorem q1454 : (Jvm.Cond.methodLink "BorrowedLuckLaw" (145 : Nat) ({ cls := "BorrowedLuckModel", name := "thrown", desc := "()I" } : Jvm.MethodName)) ∈ lw_all := lw_g (lw_at lw_m6 133 rfl) rfl
theorem q1458 : (Jvm.Cond.classLink "BorrowedLuckLaw" (127 : Nat) "BorrowedLuckModel") ∈ lw_all := lw_g (lw_at lw_m6 137 rfl) rfl
theorem q1460 : (Jvm.Cond.methodLink "BorrowedLuckLaw" (129 : Nat) ({ cls := "BorrowedLuckModel", name := "<init>", desc := "()V" } : Jvm.MethodName)) ∈ lw_all := lw_g (lw_at lw_m6 139 rfl) rfl
theorem q1534 : (Jvm.Cond.methodLink "BorrowedLuckLaw" (297 : Nat) ({ cls := "BorrowedLuckModel", name := "image", desc := "()V" } : Jvm.MethodName)) ∈ lw_all := lw_g (lw_at lw_m6 213 rfl) rfl
theorem q1538 : (Jvm.Cond.methodLink "BorrowedLuckLaw" (301 : Nat) ({ cls := "BorrowedLuckModel", name := "back", desc := "()Z" } : Jvm.MethodName)) ∈ lw_all := lw_g (lw_at lw_m6 217 rfl) rfl
theorem q1542 : (Jvm.Cond.methodLink "BorrowedLuckLaw" (293 : Nat) ({ cls := "BorrowedLuckModel", name := "undo", desc := "()Z" } : Jvm.MethodName)) ∈ lw_all := lw_g (lw_at lw_m6 221 rfl) rfl
theorem q1546 : (Jvm.Cond.methodLink "BorrowedLuckLaw" (134 : Nat) ({ cls := "BorrowedLuckModel", name := "feed", desc := "(IIIII)I" } : Jvm.MethodName)) ∈ lw_all := lw_g (lw_at lw_m6 225 rfl) rfl
theorem q1550 : (Jvm.Cond.methodLink "BorrowedLuckLaw" (138 : Nat) ({ cls := "BorrowedLuckModel", name := "end", desc := "(I)Z" } : Jvm.MethodName)) ∈ lw_all := lw_g (lw_at lw_m6 229 rfl) rfl
theorem q1554 : (Jvm.Cond.methodLink "BorrowedLuckLaw" (154 : Nat) ({ cls := "BorrowedLuckModel", name := "fault", desc := "()I" } : Jvm.MethodName)) ∈ lw_all := lw_g (lw_at lw_m6 233 rfl) rfl
theorem q1558 : (Jvm.Cond.methodLink "BorrowedLuckLaw" (144 : Nat) ({ cls := "BorrowedLuckModel", name := "coast", desc := "()I" } : Jvm.MethodName)) ∈ lw_all := lw_g (lw_at lw_m6 237 rfl) rfl
theorem q1705 : (Jvm.Cond.methodLink "BorrowedLuckLaw" (150 : Nat) ({ cls := "BorrowedLuckModel", name := "law", desc := "()I" } : Jvm.MethodName)) ∈ lw_all := lw_g (lw_at lw_m7 144 rfl) rfl
theorem q1709 : (Jvm.Cond.methodLink "BorrowedLuckLaw" (158 : Nat) ({ cls := "BorrowedLuckModel", name := "woman", desc := "(II)I" } : Jvm.MethodName)) ∈ lw_all := lw_g (lw_at lw_m7 148 rfl) rfl
theorem q1736 : (Jvm.Cond.methodLink "BorrowedLuckLaw" (161 : Nat) ({ cls := "BorrowedLuckModel", name := "thing", desc := "(II)I" } : Jvm.MethodName)) ∈ lw_all := lw_g (lw_at lw_m7 175 rfl) rfl
theorem q1752 : (Jvm.Cond.methodLink "BorrowedLuckLaw" (164 : Nat) ({ cls := "BorrowedLuckModel", name := "gain", desc := "(II)I" } : Jvm.MethodName)) ∈ lw_all := lw_g (lw_at lw_m7 191 rfl) rfl
theorem q1782 : (Jvm.Cond.methodLink "BorrowedLuckLaw" (168 : Nat) ({ cls := "BorrowedLuckModel", name := "flows", desc := "(III)I" } : Jvm.MethodName)) ∈ lw_all := lw_g (lw_at lw_m7 221 rfl) rfl
theorem q1789 : (Jvm.Cond.methodLink "BorrowedLuckLaw" (171 : Nat) ({ cls := "BorrowedLuckModel", name := "lend", desc := "(II)I" } : Jvm.MethodName)) ∈ lw_all := lw_g (lw_at lw_m7 228 rfl) rfl
theorem q1813 : (Jvm.Cond.methodLink "BorrowedLuckLaw" (174 : Nat) ({ cls := "BorrowedLuckModel", name := "wed", desc := "(II)I" } : Jvm.MethodName)) ∈ lw_all := lw_g (lw_at lw_m8 12 rfl) rfl
theorem q1833 : (Jvm.Cond.methodLink "BorrowedLuckLaw" (178 : Nat) ({ cls := "BorrowedLuckModel", name := "pawn", desc := "(I)I" } : Jvm.MethodName)) ∈ lw_all := lw_g (lw_at lw_m8 32 rfl) rfl
theorem q1837 : (Jvm.Cond.methodLink "BorrowedLuckLaw" (181 : Nat) ({ cls := "BorrowedLuckModel", name := "redeem", desc := "(I)I" } : Jvm.MethodName)) ∈ lw_all := lw_g (lw_at lw_m8 36 rfl) rfl
theorem q1841 : (Jvm.Cond.methodLink "BorrowedLuckLaw" (184 : Nat) ({ cls := "BorrowedLuckModel", name := "cut", desc := "(I)I" } : Jvm.MethodName)) ∈ lw_all := lw_g (lw_at lw_m8 40 rfl) rfl
theorem q1845 : (Jvm.Cond.methodLink "BorrowedLuckLaw" (188 : Nat) ({ cls := "BorrowedLuckModel", name := "widow", desc := "(IZ)Z" } : Jvm.MethodName)) ∈ lw_all := lw_g (lw_at lw_m8 44 rfl) rfl
theorem q1849 : (Jvm.Cond.methodLink "BorrowedLuckLaw" (191 : Nat) ({ cls := "BorrowedLuckModel", name := "days", desc := "(I)I" } : Jvm.MethodName)) ∈ lw_all := lw_g (lw_at lw_m8 48 rfl) rfl
theorem q1874 : (Jvm.Cond.methodLink "BorrowedLuckLaw" (194 : Nat) ({ cls := "BorrowedLuckModel", name := "best", desc := "(I)I" } : Jvm.MethodName)) ∈ lw_all := lw_g (lw_at lw_m8 73 rfl) rfl
theorem q1882 : (Jvm.Cond.methodLink "BorrowedLuckLaw" (197 : Nat) ({ cls := "BorrowedLuckModel", name := "order", desc := "(III)I" } : Jvm.MethodName)) ∈ lw_all := lw_g (lw_at lw_m8 81 rfl) rfl
theorem q1916 : (Jvm.Cond.methodLink "BorrowedLuckLaw" (200 : Nat) ({ cls := "BorrowedLuckModel", name := "lowest", desc := "(II)I" } : Jvm.MethodName)) ∈ lw_all := lw_g (lw_at lw_m8 115 rfl) rfl
theorem q1920 : (Jvm.Cond.methodLink "BorrowedLuckLaw" (204 : Nat) ({ cls := "BorrowedLuckModel", name := "reach", desc := "(IIII)I" } : Jvm.MethodName)) ∈ lw_all := lw_g (lw_at lw_m8 119 rfl) rfl
theorem q1924 : (Jvm.Cond.methodLink "BorrowedLuckLaw" (242 : Nat) ({ cls := "BorrowedLuckModel", name := "runs", desc := "(II)I" } : Jvm.MethodName)) ∈ lw_all := lw_g (lw_at lw_m8 123 rfl) rfl
theorem q1932 : (Jvm.Cond.methodLink "BorrowedLuckLaw" (245 : Nat) ({ cls := "BorrowedLuckModel", name := "spent", desc := "(I)I" } : Jvm.MethodName)) ∈ lw_all := lw_g (lw_at lw_m8 131 rfl) rfl
theorem q1936 : (Jvm.Cond.methodLink "BorrowedLuckLaw" (219 : Nat) ({ cls := "BorrowedLuckModel", name := "match", desc := "(II)I" } : Jvm.MethodName)) ∈ lw_all := lw_g (lw_at lw_m8 135 rfl) rfl
theorem q1952 : (Jvm.Cond.methodLink "BorrowedLuckLaw" (207 : Nat) ({ cls := "BorrowedLuckModel", name := "chain", desc := "(I)I" } : Jvm.MethodName)) ∈ lw_all := lw_g (lw_at lw_m8 151 rfl) rfl
theorem q1964 : (Jvm.Cond.methodLink "BorrowedLuckLaw" (210 : Nat) ({ cls := "BorrowedLuckModel", name := "since", desc := "(II)I" } : Jvm.MethodName)) ∈ lw_all := lw_g (lw_at lw_m8 163 rfl) rfl
theorem q1968 : (Jvm.Cond.methodLink "BorrowedLuckLaw" (213 : Nat) ({ cls := "BorrowedLuckModel", name := "whose", desc := "()I" } : Jvm.MethodName)) ∈ lw_all := lw_g (lw_at lw_m8 167 rfl) rfl
theorem q1980 : (Jvm.Cond.methodLink "BorrowedLuckLaw" (216 : Nat) ({ cls := "BorrowedLuckModel", name := "next", desc := "()I" } : Jvm.MethodName)) ∈ lw_all := lw_g (lw_at lw_m8 179 rfl) rfl
theorem q1984 : (Jvm.Cond.methodLink "BorrowedLuckLaw" (222 : Nat) ({ cls := "BorrowedLuckModel", name := "rests", desc := "(III)I" } : Jvm.MethodName)) ∈ lw_all := lw_g (lw_at lw_m8 183 rfl) rfl
theorem q1996 : (Jvm.Cond.methodLink "BorrowedLuckLaw" (225 : Nat) ({ cls := "BorrowedLuckModel", name := "sells", desc := "(I)I" } : Jvm.MethodName)) ∈ lw_all := lw_g (lw_at lw_m8 195 rfl) rfl
theorem q2007 : (Jvm.Cond.methodLink "BorrowedLuckLaw" (229 : Nat) ({ cls := "BorrowedLuckModel", name := "dearest", desc := "()I" } : Jvm.MethodName)) ∈ lw_all := lw_g (lw_at lw_m8 206 rfl) rfl
theorem q2011 : (Jvm.Cond.methodLink "BorrowedLuckLaw" (233 : Nat) ({ cls := "BorrowedLuckModel", name := "unlucky", desc := "()I" } : Jvm.MethodName)) ∈ lw_all := lw_g (lw_at lw_m8 210 rfl) rfl
theorem q2015 : (Jvm.Cond.methodLink "BorrowedLuckLaw" (236 : Nat) ({ cls := "BorrowedLuckModel", name := "luckiest", desc := "(I)I" } : Jvm.MethodName)) ∈ lw_all := lw_g (lw_at lw_m8 214 rfl) rfl
theorem q2019 : (Jvm.Cond.methodLink "BorrowedLuckLaw" (239 : Nat) ({ cls := "BorrowedLuckModel", name := "ring", desc := "(I)Z" } : Jvm.MethodName)) ∈ lw_all := lw_g (lw_at lw_m8 218 rfl) rfl
theorem q2027 : (Jvm.Cond.methodLink "BorrowedLuckLaw" (249 : Nat) ({ cls := "BorrowedLuckModel", name := "oldest", desc := "()I" } : Jvm.MethodName)) ∈ lw_all := lw_g (lw_at lw_m8 226 rfl) rfl
theorem q2031 : (Jvm.Cond.methodLink "BorrowedLuckLaw" (253 : Nat) ({ cls := "BorrowedLuckModel", name := "stuck", desc := "()I" } : Jvm.MethodName)) ∈ lw_all := lw_g (lw_at lw_m8 230 rfl) rfl
theorem q2035 : (Jvm.Cond.methodLink "BorrowedLuckLaw" (257 : Nat) ({ cls := "BorrowedLuckModel", name := "pawned", desc := "()I" } : Jvm.MethodName)) ∈ lw_all := lw_g (lw_at lw_m8 234 rfl) rfl
theorem q2039 : (Jvm.Cond.methodLink "BorrowedLuckLaw" (261 : Nat) ({ cls := "BorrowedLuckModel", name := "blue", desc := "()I" } : Jvm.MethodName)) ∈ lw_all := lw_g (lw_at lw_m8 238 rfl) rfl
theorem q2043 : (Jvm.Cond.methodLink "BorrowedLuckLaw" (265 : Nat) ({ cls := "BorrowedLuckModel", name := "alike", desc := "()I" } : Jvm.MethodName)) ∈ lw_all := lw_g (lw_at lw_m9 2 rfl) rfl
theorem q2051 : (Jvm.Cond.methodLink "BorrowedLuckLaw" (268 : Nat) ({ cls := "BorrowedLuckModel", name := "share", desc := "(II)I" } : Jvm.MethodName)) ∈ lw_all := lw_g (lw_at lw_m9 10 rfl) rfl
theorem q2055 : (Jvm.Cond.methodLink "BorrowedLuckLaw" (272 : Nat) ({ cls := "BorrowedLuckModel", name := "odds", desc := "()I" } : Jvm.MethodName)) ∈ lw_all := lw_g (lw_at lw_m9 14 rfl) rfl
theorem q2059 : (Jvm.Cond.methodLink "BorrowedLuckLaw" (275 : Nat) ({ cls := "BorrowedLuckModel", name := "trial", desc := "(IZ)I" } : Jvm.MethodName)) ∈ lw_all := lw_g (lw_at lw_m9 18 rfl) rfl
theorem q2067 : (Jvm.Cond.methodLink "BorrowedLuckLaw" (278 : Nat) ({ cls := "BorrowedLuckModel", name := "span", desc := "(IZ)I" } : Jvm.MethodName)) ∈ lw_all := lw_g (lw_at lw_m9 26 rfl) rfl
theorem q2071 : (Jvm.Cond.methodLink "BorrowedLuckLaw" (281 : Nat) ({ cls := "BorrowedLuckModel", name := "led", desc := "(IZ)I" } : Jvm.MethodName)) ∈ lw_all := lw_g (lw_at lw_m9 30 rfl) rfl
theorem q2075 : (Jvm.Cond.methodLink "BorrowedLuckLaw" (284 : Nat) ({ cls := "BorrowedLuckModel", name := "log", desc := "(II)I" } : Jvm.MethodName)) ∈ lw_all := lw_g (lw_at lw_m9 34 rfl) rfl
theorem q2079 : (Jvm.Cond.methodLink "BorrowedLuckLaw" (288 : Nat) ({ cls := "BorrowedLuckModel", name := "seed", desc := "(I)I" } : Jvm.MethodName)) ∈ lw_all := lw_g (lw_at lw_m9 38 rfl) rfl
theorem q2083 : (Jvm.Cond.methodLink "BorrowedLuckLaw" (305 : Nat) ({ cls := "BorrowedLuckModel", name := "count", desc := "(I)I" } : Jvm.MethodName)) ∈ lw_all := lw_g (lw_at lw_m9 42 rfl) rfl

/-! the law's own entry -/
set_option maxRecDepth 100000
abbrev cL_law : ByteArray := code
def dkwL_law_109 : List UInt8 := [182, 1, 49, 159, 0, 5, 3, 172, 132, 4, 6, 167, 245, 116, 4, 172]
abbrev dktL_law_109 : List UInt8 := dkwL_law_109 ++ []
def dkwL_law_108 : List UInt8 := [159, 0, 30, 3, 172, 43, 42, 21, 4, 4, 96, 46, 182, 1, 46, 44, 42, 21, 4, 4, 96, 46]
abbrev dktL_law_108 : List UInt8 := dkwL_law_108 ++ dktL_law_109
def dkwL_law_107 : List UInt8 := [159, 0, 54, 3, 172, 43, 182, 1, 38, 44, 182, 1, 41, 167, 0, 41, 43, 182, 1, 42, 44, 182, 1, 45]
abbrev dktL_law_107 : List UInt8 := dkwL_law_107 ++ dktL_law_108
def dkwL_law_106 : List UInt8 := [44, 42, 21, 4, 4, 96, 46, 182, 1, 32, 159, 0, 67, 3, 172, 43, 182, 1, 33, 44, 182, 1, 37]
abbrev dktL_law_106 : List UInt8 := dkwL_law_106 ++ dktL_law_107
def dkwL_law_105 : List UInt8 := [3, 47, 21, 6, 133, 148, 153, 0, 5, 3, 172, 167, 0, 90, 43, 42, 21, 4, 4, 96, 46, 182, 1, 29]
abbrev dktL_law_105 : List UInt8 := dkwL_law_105 ++ dktL_law_106
def dkwL_law_104 : List UInt8 := [96, 46, 182, 1, 28, 54, 6, 44, 182, 0, 145, 21, 5, 159, 0, 5, 3, 172, 21, 5, 154, 0, 15, 45]
abbrev dktL_law_104 : List UInt8 := dkwL_law_104 ++ dktL_law_105
def dkwL_law_103 : List UInt8 := [46, 42, 21, 4, 5, 96, 46, 45, 184, 1, 26, 54, 5, 44, 42, 21, 4, 4, 96, 46, 42, 21, 4, 5]
abbrev dktL_law_103 : List UInt8 := dkwL_law_103 ++ dktL_law_104
def dkwL_law_102 : List UInt8 := [154, 0, 15, 45, 3, 47, 21, 6, 133, 148, 153, 0, 5, 3, 172, 167, 0, 158, 43, 42, 21, 4, 4, 96]
abbrev dktL_law_102 : List UInt8 := dkwL_law_102 ++ dktL_law_103
def dkwL_law_101 : List UInt8 := [167, 0, 4, 3, 182, 1, 25, 54, 6, 44, 182, 0, 145, 21, 5, 159, 0, 5, 3, 172, 21, 5]
abbrev dktL_law_101 : List UInt8 := dkwL_law_101 ++ dktL_law_102
def dkwL_law_100 : List UInt8 := [45, 184, 1, 23, 54, 5, 44, 42, 21, 4, 4, 96, 46, 42, 21, 4, 5, 96, 46, 153, 0, 7, 4]
abbrev dktL_law_100 : List UInt8 := dkwL_law_100 ++ dktL_law_101
def dkwL_law_99 : List UInt8 := [167, 0, 242, 43, 42, 21, 4, 4, 96, 46, 42, 21, 4, 5, 96, 46, 153, 0, 7, 4, 167, 0, 4, 3]
abbrev dktL_law_99 : List UInt8 := dkwL_law_99 ++ dktL_law_100
def dkwL_law_98 : List UInt8 := [159, 0, 5, 3, 172, 21, 5, 154, 0, 15, 45, 3, 47, 21, 6, 133, 148, 153, 0, 5, 3, 172]
abbrev dktL_law_98 : List UInt8 := dkwL_law_98 ++ dktL_law_99
def dkwL_law_97 : List UInt8 := [21, 4, 5, 96, 46, 153, 0, 7, 4, 167, 0, 4, 3, 182, 1, 22, 54, 6, 44, 182, 0, 145, 21, 5]
abbrev dktL_law_97 : List UInt8 := dkwL_law_97 ++ dktL_law_98
def dkwL_law_96 : List UInt8 := [46, 153, 0, 7, 4, 167, 0, 4, 3, 45, 184, 1, 20, 54, 5, 44, 42, 21, 4, 4, 96, 46, 42]
abbrev dktL_law_96 : List UInt8 := dkwL_law_96 ++ dktL_law_97
def dkwL_law_95 : List UInt8 := [21, 6, 133, 148, 153, 0, 5, 3, 172, 167, 1, 70, 43, 42, 21, 4, 4, 96, 46, 42, 21, 4, 5, 96]
abbrev dktL_law_95 : List UInt8 := dkwL_law_95 ++ dktL_law_96
def dkwL_law_94 : List UInt8 := [182, 1, 19, 54, 6, 44, 182, 0, 145, 21, 5, 159, 0, 5, 3, 172, 21, 5, 154, 0, 15, 45, 3, 47]
abbrev dktL_law_94 : List UInt8 := dkwL_law_94 ++ dktL_law_95
def dkwL_law_93 : List UInt8 := [54, 5, 44, 42, 21, 4, 4, 96, 46, 42, 21, 4, 5, 96, 46, 153, 0, 7, 4, 167, 0, 4, 3]
abbrev dktL_law_93 : List UInt8 := dkwL_law_93 ++ dktL_law_94
def dkwL_law_92 : List UInt8 := [21, 4, 4, 96, 46, 42, 21, 4, 5, 96, 46, 153, 0, 7, 4, 167, 0, 4, 3, 45, 184, 1, 17]
abbrev dktL_law_92 : List UInt8 := dkwL_law_92 ++ dktL_law_93
def dkwL_law_91 : List UInt8 := [153, 0, 5, 3, 172, 167, 1, 167, 43, 182, 1, 13, 44, 182, 1, 16, 159, 1, 156, 3, 172, 43, 42]
abbrev dktL_law_91 : List UInt8 := dkwL_law_91 ++ dktL_law_92
def dkwL_law_90 : List UInt8 := [182, 0, 145, 21, 5, 159, 0, 5, 3, 172, 21, 5, 154, 0, 15, 45, 3, 47, 21, 6, 133, 148]
abbrev dktL_law_90 : List UInt8 := dkwL_law_90 ++ dktL_law_91
def dkwL_law_89 : List UInt8 := [184, 1, 10, 54, 5, 44, 42, 21, 4, 4, 96, 46, 42, 21, 4, 5, 96, 46, 182, 1, 12, 54, 6, 44]
abbrev dktL_law_89 : List UInt8 := dkwL_law_89 ++ dktL_law_90
def dkwL_law_88 : List UInt8 := [182, 1, 9, 159, 1, 237, 3, 172, 43, 42, 21, 4, 4, 96, 46, 42, 21, 4, 5, 96, 46, 45]
abbrev dktL_law_88 : List UInt8 := dkwL_law_88 ++ dktL_law_89
def dkwL_law_87 : List UInt8 := [159, 2, 7, 3, 172, 43, 182, 1, 2, 44, 182, 1, 5, 159, 1, 250, 3, 172, 43, 182, 1, 6, 44]
abbrev dktL_law_87 : List UInt8 := dkwL_law_87 ++ dktL_law_88
def dkwL_law_86 : List UInt8 := [172, 43, 182, 0, 250, 44, 182, 0, 253, 159, 2, 20, 3, 172, 43, 182, 0, 254, 44, 182, 1, 1]
abbrev dktL_law_86 : List UInt8 := dkwL_law_86 ++ dktL_law_87
def dkwL_law_85 : List UInt8 := [21, 6, 133, 148, 153, 0, 5, 3, 172, 167, 2, 44, 43, 182, 0, 246, 44, 182, 0, 249, 159, 2, 33, 3]
abbrev dktL_law_85 : List UInt8 := dkwL_law_85 ++ dktL_law_86
def dkwL_law_84 : List UInt8 := [182, 0, 245, 54, 6, 44, 182, 0, 145, 21, 5, 159, 0, 5, 3, 172, 21, 5, 154, 0, 15, 45, 3, 47]
abbrev dktL_law_84 : List UInt8 := dkwL_law_84 ++ dktL_law_85
def dkwL_law_83 : List UInt8 := [167, 2, 100, 43, 42, 21, 4, 4, 96, 46, 45, 184, 0, 243, 54, 5, 44, 42, 21, 4, 4, 96, 46]
abbrev dktL_law_83 : List UInt8 := dkwL_law_83 ++ dktL_law_84
def dkwL_law_82 : List UInt8 := [159, 0, 5, 3, 172, 21, 5, 154, 0, 15, 45, 3, 47, 21, 6, 133, 148, 153, 0, 5, 3, 172]
abbrev dktL_law_82 : List UInt8 := dkwL_law_82 ++ dktL_law_83
def dkwL_law_81 : List UInt8 := [21, 4, 4, 96, 46, 42, 21, 4, 5, 96, 46, 182, 0, 242, 54, 6, 44, 182, 0, 145, 21, 5]
abbrev dktL_law_81 : List UInt8 := dkwL_law_81 ++ dktL_law_82
def dkwL_law_80 : List UInt8 := [167, 2, 168, 43, 42, 21, 4, 4, 96, 46, 42, 21, 4, 5, 96, 46, 45, 184, 0, 240, 54, 5, 44, 42]
abbrev dktL_law_80 : List UInt8 := dkwL_law_80 ++ dktL_law_81
def dkwL_law_79 : List UInt8 := [154, 0, 22, 45, 3, 47, 21, 6, 153, 0, 7, 10, 167, 0, 4, 9, 148, 153, 0, 5, 3, 172]
abbrev dktL_law_79 : List UInt8 := dkwL_law_79 ++ dktL_law_80
def dkwL_law_78 : List UInt8 := [21, 4, 4, 96, 46, 182, 0, 239, 54, 6, 44, 182, 0, 145, 21, 5, 159, 0, 5, 3, 172, 21, 5]
abbrev dktL_law_78 : List UInt8 := dkwL_law_78 ++ dktL_law_79
def dkwL_law_77 : List UInt8 := [148, 153, 0, 5, 3, 172, 167, 2, 231, 43, 42, 21, 4, 4, 96, 46, 45, 184, 0, 237, 54, 5, 44, 42]
abbrev dktL_law_77 : List UInt8 := dkwL_law_77 ++ dktL_law_78
def dkwL_law_76 : List UInt8 := [54, 6, 44, 182, 0, 145, 21, 5, 159, 0, 5, 3, 172, 21, 5, 154, 0, 15, 45, 3, 47, 21, 6, 133]
abbrev dktL_law_76 : List UInt8 := dkwL_law_76 ++ dktL_law_77
def dkwL_law_75 : List UInt8 := [172, 43, 42, 21, 4, 4, 96, 46, 45, 184, 0, 234, 54, 5, 44, 42, 21, 4, 4, 96, 46, 182, 0, 236]
abbrev dktL_law_75 : List UInt8 := dkwL_law_75 ++ dktL_law_76
def dkwL_law_74 : List UInt8 := [182, 0, 226, 44, 182, 0, 229, 159, 3, 46, 3, 172, 43, 182, 0, 230, 44, 182, 0, 233, 159, 3, 33, 3]
abbrev dktL_law_74 : List UInt8 := dkwL_law_74 ++ dktL_law_75
def dkwL_law_73 : List UInt8 := [172, 21, 5, 154, 0, 15, 45, 3, 47, 21, 6, 133, 148, 153, 0, 5, 3, 172, 167, 3, 57, 43]
abbrev dktL_law_73 : List UInt8 := dkwL_law_73 ++ dktL_law_74
def dkwL_law_72 : List UInt8 := [54, 5, 44, 42, 21, 4, 4, 96, 46, 182, 0, 225, 54, 6, 44, 182, 0, 145, 21, 5, 159, 0, 5, 3]
abbrev dktL_law_72 : List UInt8 := dkwL_law_72 ++ dktL_law_73
def dkwL_law_71 : List UInt8 := [21, 6, 133, 148, 153, 0, 5, 3, 172, 167, 3, 113, 43, 42, 21, 4, 4, 96, 46, 45, 184, 0, 223]
abbrev dktL_law_71 : List UInt8 := dkwL_law_71 ++ dktL_law_72
def dkwL_law_70 : List UInt8 := [182, 0, 222, 54, 6, 44, 182, 0, 145, 21, 5, 159, 0, 5, 3, 172, 21, 5, 154, 0, 15, 45, 3, 47]
abbrev dktL_law_70 : List UInt8 := dkwL_law_70 ++ dktL_law_71
def dkwL_law_69 : List UInt8 := [184, 0, 220, 54, 5, 44, 42, 21, 4, 4, 96, 46, 42, 21, 4, 5, 96, 46, 42, 21, 4, 6, 96, 46]
abbrev dktL_law_69 : List UInt8 := dkwL_law_69 ++ dktL_law_70
def dkwL_law_68 : List UInt8 := [167, 3, 193, 43, 42, 21, 4, 4, 96, 46, 42, 21, 4, 5, 96, 46, 42, 21, 4, 6, 96, 46, 45]
abbrev dktL_law_68 : List UInt8 := dkwL_law_68 ++ dktL_law_69
def dkwL_law_67 : List UInt8 := [159, 0, 5, 3, 172, 21, 5, 154, 0, 15, 45, 3, 47, 21, 6, 133, 148, 153, 0, 5, 3, 172]
abbrev dktL_law_67 : List UInt8 := dkwL_law_67 ++ dktL_law_68
def dkwL_law_66 : List UInt8 := [21, 4, 4, 96, 46, 42, 21, 4, 5, 96, 46, 182, 0, 219, 54, 6, 44, 182, 0, 145, 21, 5]
abbrev dktL_law_66 : List UInt8 := dkwL_law_66 ++ dktL_law_67
def dkwL_law_65 : List UInt8 := [167, 4, 5, 43, 42, 21, 4, 4, 96, 46, 42, 21, 4, 5, 96, 46, 45, 184, 0, 217, 54, 5, 44, 42]
abbrev dktL_law_65 : List UInt8 := dkwL_law_65 ++ dktL_law_66
def dkwL_law_64 : List UInt8 := [159, 0, 5, 3, 172, 21, 5, 154, 0, 15, 45, 3, 47, 21, 6, 133, 148, 153, 0, 5, 3, 172]
abbrev dktL_law_64 : List UInt8 := dkwL_law_64 ++ dktL_law_65
def dkwL_law_63 : List UInt8 := [167, 4, 49, 43, 45, 184, 0, 214, 54, 5, 44, 182, 0, 216, 54, 6, 44, 182, 0, 145, 21, 5]
abbrev dktL_law_63 : List UInt8 := dkwL_law_63 ++ dktL_law_64
def dkwL_law_62 : List UInt8 := [159, 0, 5, 3, 172, 21, 5, 154, 0, 15, 45, 3, 47, 21, 6, 133, 148, 153, 0, 5, 3, 172]
abbrev dktL_law_62 : List UInt8 := dkwL_law_62 ++ dktL_law_63
def dkwL_law_61 : List UInt8 := [167, 4, 93, 43, 45, 184, 0, 211, 54, 5, 44, 182, 0, 213, 54, 6, 44, 182, 0, 145, 21, 5]
abbrev dktL_law_61 : List UInt8 := dkwL_law_61 ++ dktL_law_62
def dkwL_law_60 : List UInt8 := [159, 0, 5, 3, 172, 21, 5, 154, 0, 15, 45, 3, 47, 21, 6, 133, 148, 153, 0, 5, 3, 172]
abbrev dktL_law_60 : List UInt8 := dkwL_law_60 ++ dktL_law_61
def dkwL_law_59 : List UInt8 := [21, 4, 4, 96, 46, 42, 21, 4, 5, 96, 46, 182, 0, 210, 54, 6, 44, 182, 0, 145, 21, 5]
abbrev dktL_law_59 : List UInt8 := dkwL_law_59 ++ dktL_law_60
def dkwL_law_58 : List UInt8 := [167, 4, 161, 43, 42, 21, 4, 4, 96, 46, 42, 21, 4, 5, 96, 46, 45, 184, 0, 208, 54, 5, 44, 42]
abbrev dktL_law_58 : List UInt8 := dkwL_law_58 ++ dktL_law_59
def dkwL_law_57 : List UInt8 := [159, 0, 5, 3, 172, 21, 5, 154, 0, 15, 45, 3, 47, 21, 6, 133, 148, 153, 0, 5, 3, 172]
abbrev dktL_law_57 : List UInt8 := dkwL_law_57 ++ dktL_law_58
def dkwL_law_56 : List UInt8 := [184, 0, 205, 54, 5, 44, 42, 21, 4, 4, 96, 46, 182, 0, 207, 54, 6, 44, 182, 0, 145, 21, 5]
abbrev dktL_law_56 : List UInt8 := dkwL_law_56 ++ dktL_law_57
def dkwL_law_55 : List UInt8 := [45, 3, 47, 21, 6, 133, 148, 153, 0, 5, 3, 172, 167, 4, 217, 43, 42, 21, 4, 4, 96, 46, 45]
abbrev dktL_law_55 : List UInt8 := dkwL_law_55 ++ dktL_law_56
def dkwL_law_54 : List UInt8 := [7, 96, 46, 182, 0, 204, 54, 6, 44, 182, 0, 145, 21, 5, 159, 0, 5, 3, 172, 21, 5, 154, 0, 15]
abbrev dktL_law_54 : List UInt8 := dkwL_law_54 ++ dktL_law_55
def dkwL_law_53 : List UInt8 := [54, 5, 44, 42, 21, 4, 4, 96, 46, 42, 21, 4, 5, 96, 46, 42, 21, 4, 6, 96, 46, 42, 21, 4]
abbrev dktL_law_53 : List UInt8 := dkwL_law_53 ++ dktL_law_54
def dkwL_law_52 : List UInt8 := [46, 42, 21, 4, 5, 96, 46, 42, 21, 4, 6, 96, 46, 42, 21, 4, 7, 96, 46, 45, 184, 0, 201]
abbrev dktL_law_52 : List UInt8 := dkwL_law_52 ++ dktL_law_53
def dkwL_law_51 : List UInt8 := [154, 0, 15, 45, 3, 47, 21, 6, 133, 148, 153, 0, 5, 3, 172, 167, 5, 53, 43, 42, 21, 4, 4, 96]
abbrev dktL_law_51 : List UInt8 := dkwL_law_51 ++ dktL_law_52
def dkwL_law_50 : List UInt8 := [21, 4, 5, 96, 46, 182, 0, 200, 54, 6, 44, 182, 0, 145, 21, 5, 159, 0, 5, 3, 172, 21, 5]
abbrev dktL_law_50 : List UInt8 := dkwL_law_50 ++ dktL_law_51
def dkwL_law_49 : List UInt8 := [4, 96, 46, 42, 21, 4, 5, 96, 46, 45, 184, 0, 198, 54, 5, 44, 42, 21, 4, 4, 96, 46, 42]
abbrev dktL_law_49 : List UInt8 := dkwL_law_49 ++ dktL_law_50
def dkwL_law_48 : List UInt8 := [21, 5, 154, 0, 15, 45, 3, 47, 21, 6, 133, 148, 153, 0, 5, 3, 172, 167, 5, 121, 43, 42, 21, 4]
abbrev dktL_law_48 : List UInt8 := dkwL_law_48 ++ dktL_law_49
def dkwL_law_47 : List UInt8 := [96, 46, 42, 21, 4, 6, 96, 46, 182, 0, 197, 54, 6, 44, 182, 0, 145, 21, 5, 159, 0, 5, 3, 172]
abbrev dktL_law_47 : List UInt8 := dkwL_law_47 ++ dktL_law_48
def dkwL_law_46 : List UInt8 := [46, 42, 21, 4, 6, 96, 46, 45, 184, 0, 195, 54, 5, 44, 42, 21, 4, 4, 96, 46, 42, 21, 4, 5]
abbrev dktL_law_46 : List UInt8 := dkwL_law_46 ++ dktL_law_47
def dkwL_law_45 : List UInt8 := [21, 6, 133, 148, 153, 0, 5, 3, 172, 167, 5, 201, 43, 42, 21, 4, 4, 96, 46, 42, 21, 4, 5, 96]
abbrev dktL_law_45 : List UInt8 := dkwL_law_45 ++ dktL_law_46
def dkwL_law_44 : List UInt8 := [182, 0, 194, 54, 6, 44, 182, 0, 145, 21, 5, 159, 0, 5, 3, 172, 21, 5, 154, 0, 15, 45, 3, 47]
abbrev dktL_law_44 : List UInt8 := dkwL_law_44 ++ dktL_law_45
def dkwL_law_43 : List UInt8 := [167, 6, 1, 43, 42, 21, 4, 4, 96, 46, 45, 184, 0, 192, 54, 5, 44, 42, 21, 4, 4, 96, 46]
abbrev dktL_law_43 : List UInt8 := dkwL_law_43 ++ dktL_law_44
def dkwL_law_42 : List UInt8 := [159, 0, 5, 3, 172, 21, 5, 154, 0, 15, 45, 3, 47, 21, 6, 133, 148, 153, 0, 5, 3, 172]
abbrev dktL_law_42 : List UInt8 := dkwL_law_42 ++ dktL_law_43
def dkwL_law_41 : List UInt8 := [184, 0, 189, 54, 5, 44, 42, 21, 4, 4, 96, 46, 182, 0, 191, 54, 6, 44, 182, 0, 145, 21, 5]
abbrev dktL_law_41 : List UInt8 := dkwL_law_41 ++ dktL_law_42
def dkwL_law_40 : List UInt8 := [10, 167, 0, 4, 9, 148, 153, 0, 5, 3, 172, 167, 6, 57, 43, 42, 21, 4, 4, 96, 46, 45]
abbrev dktL_law_40 : List UInt8 := dkwL_law_40 ++ dktL_law_41
def dkwL_law_39 : List UInt8 := [44, 182, 0, 145, 21, 5, 159, 0, 5, 3, 172, 21, 5, 154, 0, 22, 45, 3, 47, 21, 6, 153, 0, 7]
abbrev dktL_law_39 : List UInt8 := dkwL_law_39 ++ dktL_law_40
def dkwL_law_38 : List UInt8 := [21, 4, 4, 96, 46, 42, 21, 4, 5, 96, 46, 153, 0, 7, 4, 167, 0, 4, 3, 182, 0, 188, 54, 6]
abbrev dktL_law_38 : List UInt8 := dkwL_law_38 ++ dktL_law_39
def dkwL_law_37 : List UInt8 := [46, 42, 21, 4, 5, 96, 46, 153, 0, 7, 4, 167, 0, 4, 3, 45, 184, 0, 185, 54, 5, 44, 42]
abbrev dktL_law_37 : List UInt8 := dkwL_law_37 ++ dktL_law_38
def dkwL_law_36 : List UInt8 := [154, 0, 15, 45, 3, 47, 21, 6, 133, 148, 153, 0, 5, 3, 172, 167, 6, 148, 43, 42, 21, 4, 4, 96]
abbrev dktL_law_36 : List UInt8 := dkwL_law_36 ++ dktL_law_37
def dkwL_law_35 : List UInt8 := [21, 4, 4, 96, 46, 182, 0, 184, 54, 6, 44, 182, 0, 145, 21, 5, 159, 0, 5, 3, 172, 21, 5]
abbrev dktL_law_35 : List UInt8 := dkwL_law_35 ++ dktL_law_36
def dkwL_law_34 : List UInt8 := [153, 0, 5, 3, 172, 167, 6, 204, 43, 42, 21, 4, 4, 96, 46, 45, 184, 0, 182, 54, 5, 44, 42]
abbrev dktL_law_34 : List UInt8 := dkwL_law_34 ++ dktL_law_35
def dkwL_law_33 : List UInt8 := [182, 0, 145, 21, 5, 159, 0, 5, 3, 172, 21, 5, 154, 0, 15, 45, 3, 47, 21, 6, 133, 148]
abbrev dktL_law_33 : List UInt8 := dkwL_law_33 ++ dktL_law_34
def dkwL_law_32 : List UInt8 := [21, 4, 4, 96, 46, 45, 184, 0, 179, 54, 5, 44, 42, 21, 4, 4, 96, 46, 182, 0, 181, 54, 6, 44]
abbrev dktL_law_32 : List UInt8 := dkwL_law_32 ++ dktL_law_33
def dkwL_law_31 : List UInt8 := [172, 21, 5, 154, 0, 15, 45, 3, 47, 21, 6, 133, 148, 153, 0, 5, 3, 172, 167, 7, 4, 43, 42]
abbrev dktL_law_31 : List UInt8 := dkwL_law_31 ++ dktL_law_32
def dkwL_law_30 : List UInt8 := [54, 5, 44, 42, 21, 4, 4, 96, 46, 182, 0, 178, 54, 6, 44, 182, 0, 145, 21, 5, 159, 0, 5, 3]
abbrev dktL_law_30 : List UInt8 := dkwL_law_30 ++ dktL_law_31
def dkwL_law_29 : List UInt8 := [21, 6, 133, 148, 153, 0, 5, 3, 172, 167, 7, 60, 43, 42, 21, 4, 4, 96, 46, 45, 184, 0, 175]
abbrev dktL_law_29 : List UInt8 := dkwL_law_29 ++ dktL_law_30
def dkwL_law_28 : List UInt8 := [182, 0, 174, 54, 6, 44, 182, 0, 145, 21, 5, 159, 0, 5, 3, 172, 21, 5, 154, 0, 15, 45, 3, 47]
abbrev dktL_law_28 : List UInt8 := dkwL_law_28 ++ dktL_law_29
def dkwL_law_27 : List UInt8 := [5, 96, 46, 45, 184, 0, 172, 54, 5, 44, 42, 21, 4, 4, 96, 46, 42, 21, 4, 5, 96, 46]
abbrev dktL_law_27 : List UInt8 := dkwL_law_27 ++ dktL_law_28
def dkwL_law_26 : List UInt8 := [3, 47, 21, 6, 133, 148, 153, 0, 5, 3, 172, 167, 7, 128, 43, 42, 21, 4, 4, 96, 46, 42, 21, 4]
abbrev dktL_law_26 : List UInt8 := dkwL_law_26 ++ dktL_law_27
def dkwL_law_25 : List UInt8 := [96, 46, 182, 0, 171, 54, 6, 44, 182, 0, 145, 21, 5, 159, 0, 5, 3, 172, 21, 5, 154, 0, 15, 45]
abbrev dktL_law_25 : List UInt8 := dkwL_law_25 ++ dktL_law_26
def dkwL_law_24 : List UInt8 := [46, 42, 21, 4, 5, 96, 46, 45, 184, 0, 169, 54, 5, 44, 42, 21, 4, 4, 96, 46, 42, 21, 4, 5]
abbrev dktL_law_24 : List UInt8 := dkwL_law_24 ++ dktL_law_25
def dkwL_law_23 : List UInt8 := [154, 0, 15, 45, 3, 47, 21, 6, 133, 148, 153, 0, 5, 3, 172, 167, 7, 196, 43, 42, 21, 4, 4, 96]
abbrev dktL_law_23 : List UInt8 := dkwL_law_23 ++ dktL_law_24
def dkwL_law_22 : List UInt8 := [21, 4, 6, 96, 46, 182, 0, 168, 54, 6, 44, 182, 0, 145, 21, 5, 159, 0, 5, 3, 172, 21, 5]
abbrev dktL_law_22 : List UInt8 := dkwL_law_22 ++ dktL_law_23
def dkwL_law_21 : List UInt8 := [6, 96, 46, 45, 184, 0, 165, 54, 5, 44, 42, 21, 4, 4, 96, 46, 42, 21, 4, 5, 96, 46, 42]
abbrev dktL_law_21 : List UInt8 := dkwL_law_21 ++ dktL_law_22
def dkwL_law_20 : List UInt8 := [153, 0, 5, 3, 172, 167, 8, 20, 43, 42, 21, 4, 4, 96, 46, 42, 21, 4, 5, 96, 46, 42, 21, 4]
abbrev dktL_law_20 : List UInt8 := dkwL_law_20 ++ dktL_law_21
def dkwL_law_19 : List UInt8 := [182, 0, 145, 21, 5, 159, 0, 5, 3, 172, 21, 5, 154, 0, 15, 45, 3, 47, 21, 6, 133, 148]
abbrev dktL_law_19 : List UInt8 := dkwL_law_19 ++ dktL_law_20
def dkwL_law_18 : List UInt8 := [184, 0, 162, 54, 5, 44, 42, 21, 4, 4, 96, 46, 42, 21, 4, 5, 96, 46, 182, 0, 164, 54, 6, 44]
abbrev dktL_law_18 : List UInt8 := dkwL_law_18 ++ dktL_law_19
def dkwL_law_17 : List UInt8 := [153, 0, 5, 3, 172, 167, 8, 88, 43, 42, 21, 4, 4, 96, 46, 42, 21, 4, 5, 96, 46, 45]
abbrev dktL_law_17 : List UInt8 := dkwL_law_17 ++ dktL_law_18
def dkwL_law_16 : List UInt8 := [182, 0, 145, 21, 5, 159, 0, 5, 3, 172, 21, 5, 154, 0, 15, 45, 3, 47, 21, 6, 133, 148]
abbrev dktL_law_16 : List UInt8 := dkwL_law_16 ++ dktL_law_17
def dkwL_law_15 : List UInt8 := [184, 0, 159, 54, 5, 44, 42, 21, 4, 4, 96, 46, 42, 21, 4, 5, 96, 46, 182, 0, 161, 54, 6, 44]
abbrev dktL_law_15 : List UInt8 := dkwL_law_15 ++ dktL_law_16
def dkwL_law_14 : List UInt8 := [153, 0, 5, 3, 172, 167, 8, 156, 43, 42, 21, 4, 4, 96, 46, 42, 21, 4, 5, 96, 46, 45]
abbrev dktL_law_14 : List UInt8 := dkwL_law_14 ++ dktL_law_15
def dkwL_law_13 : List UInt8 := [182, 0, 145, 21, 5, 159, 0, 5, 3, 172, 21, 5, 154, 0, 15, 45, 3, 47, 21, 6, 133, 148]
abbrev dktL_law_13 : List UInt8 := dkwL_law_13 ++ dktL_law_14
def dkwL_law_12 : List UInt8 := [184, 0, 155, 54, 5, 44, 42, 21, 4, 4, 96, 46, 42, 21, 4, 5, 96, 46, 182, 0, 158, 54, 6, 44]
abbrev dktL_law_12 : List UInt8 := dkwL_law_12 ++ dktL_law_13
def dkwL_law_11 : List UInt8 := [182, 0, 154, 159, 8, 226, 3, 172, 43, 42, 21, 4, 4, 96, 46, 42, 21, 4, 5, 96, 46, 45]
abbrev dktL_law_11 : List UInt8 := dkwL_law_11 ++ dktL_law_12
def dkwL_law_10 : List UInt8 := [154, 0, 15, 45, 3, 47, 21, 6, 133, 148, 153, 0, 5, 3, 172, 167, 8, 237, 43, 182, 0, 151, 44]
abbrev dktL_law_10 : List UInt8 := dkwL_law_10 ++ dktL_law_11
def dkwL_law_9 : List UInt8 := [184, 0, 148, 54, 5, 44, 182, 0, 150, 54, 6, 44, 182, 0, 145, 21, 5, 159, 0, 5, 3, 172, 21, 5]
abbrev dktL_law_9 : List UInt8 := dkwL_law_9 ++ dktL_law_10
def dkwL_law_8 : List UInt8 := [3, 172, 21, 5, 154, 0, 15, 45, 3, 47, 21, 6, 133, 148, 153, 0, 5, 3, 172, 167, 9, 25, 43, 45]
abbrev dktL_law_8 : List UInt8 := dkwL_law_8 ++ dktL_law_9
def dkwL_law_7 : List UInt8 := [3, 172, 43, 45, 184, 0, 139, 54, 5, 44, 182, 0, 144, 54, 6, 44, 182, 0, 145, 21, 5, 159, 0, 5]
abbrev dktL_law_7 : List UInt8 := dkwL_law_7 ++ dktL_law_8
def dkwL_law_6 : List UInt8 := [172, 43, 42, 21, 4, 4, 96, 46, 182, 0, 135, 44, 42, 21, 4, 4, 96, 46, 182, 0, 138, 159, 9, 71]
abbrev dktL_law_6 : List UInt8 := dkwL_law_6 ++ dktL_law_7
def dkwL_law_5 : List UInt8 := [21, 4, 6, 96, 46, 42, 21, 4, 7, 96, 46, 42, 21, 4, 8, 96, 46, 182, 0, 134, 159, 9, 96, 3]
abbrev dktL_law_5 : List UInt8 := dkwL_law_5 ++ dktL_law_6
def dkwL_law_4 : List UInt8 := [46, 42, 21, 4, 8, 96, 46, 182, 0, 130, 44, 42, 21, 4, 4, 96, 46, 42, 21, 4, 5, 96, 46, 42]
abbrev dktL_law_4 : List UInt8 := dkwL_law_4 ++ dktL_law_5
def dkwL_law_3 : List UInt8 := [43, 42, 21, 4, 4, 96, 46, 42, 21, 4, 5, 96, 46, 42, 21, 4, 6, 96, 46, 42, 21, 4, 7, 96]
abbrev dktL_law_3 : List UInt8 := dkwL_law_3 ++ dktL_law_4
def dkwL_law_2 : List UInt8 := [170, 0, 0, 0, 0, 0, 10, 120, 0, 0, 0, 0, 0, 0, 0, 48, 0, 0, 0, 212, 0, 0, 1, 29, 0, 0, 1, 54, 0, 0, 1, 98, 0, 0, 1, 142, 0, 0, 1, 155, 0, 0, 1, 223, 0, 0, 2, 35, 0, 0, 2, 103, 0, 0, 2, 183, 0, 0, 2, 251, 0, 0, 3, 63, 0, 0, 3, 119, 0, 0, 3, 175, 0, 0, 3, 231, 0, 0, 4, 66, 0, 0, 4, 122, 0, 0, 4, 178, 0, 0, 5, 2, 0, 0, 5, 70, 0, 0, 5, 162, 0, 0, 5, 218, 0, 0, 6, 30, 0, 0, 6, 74, 0, 0, 6, 118, 0, 0, 6, 186, 0, 0, 7, 10, 0, 0, 7, 66, 0, 0, 7, 79, 0, 0, 7, 92, 0, 0, 7, 148, 0, 0, 7, 211, 0, 0, 8, 23, 0, 0, 8, 79, 0, 0, 8, 92, 0, 0, 8, 105, 0, 0, 8, 118, 0, 0, 8, 131, 0, 0, 8, 144, 0, 0, 8, 212, 0, 0, 8, 225, 0, 0, 9, 53, 0, 0, 9, 137, 0, 0, 9, 221, 0, 0, 10, 33, 0, 0, 10, 58, 0, 0, 10, 71, 0, 0, 10, 82, 0, 0, 10, 95]
abbrev dktL_law_2 : List UInt8 := dkwL_law_2 ++ dktL_law_3
def dkwL_law_1 : List UInt8 := [21, 4, 42, 190, 16, 6, 100, 163, 10, 136, 42, 21, 4, 46, 16, 63, 126]
abbrev dktL_law_1 : List UInt8 := dkwL_law_1 ++ dktL_law_2
def dkwL_law_0 : List UInt8 := [187, 0, 8, 89, 183, 0, 126, 76, 187, 0, 127, 89, 183, 0, 129, 77, 4, 188, 11, 78, 3, 54, 4]
abbrev dktL_law_0 : List UInt8 := dkwL_law_0 ++ dktL_law_1
theorem dksL_law_0 : cL_law.data.toList.drop 0 = dktL_law_0 := by decide +kernel
theorem dksL_law_1 : cL_law.data.toList.drop 23 = dktL_law_1 := dk_seg dksL_law_0 23 rfl rfl
theorem dksL_law_2 : cL_law.data.toList.drop 40 = dktL_law_2 := dk_seg dksL_law_1 17 rfl rfl
theorem dksL_law_3 : cL_law.data.toList.drop 252 = dktL_law_3 := dk_seg dksL_law_2 212 rfl rfl
theorem dksL_law_4 : cL_law.data.toList.drop 276 = dktL_law_4 := dk_seg dksL_law_3 24 rfl rfl
theorem dksL_law_5 : cL_law.data.toList.drop 300 = dktL_law_5 := dk_seg dksL_law_4 24 rfl rfl
theorem dksL_law_6 : cL_law.data.toList.drop 324 = dktL_law_6 := dk_seg dksL_law_5 24 rfl rfl
theorem dksL_law_7 : cL_law.data.toList.drop 348 = dktL_law_7 := dk_seg dksL_law_6 24 rfl rfl
theorem dksL_law_8 : cL_law.data.toList.drop 372 = dktL_law_8 := dk_seg dksL_law_7 24 rfl rfl
theorem dksL_law_9 : cL_law.data.toList.drop 396 = dktL_law_9 := dk_seg dksL_law_8 24 rfl rfl
theorem dksL_law_10 : cL_law.data.toList.drop 420 = dktL_law_10 := dk_seg dksL_law_9 24 rfl rfl
theorem dksL_law_11 : cL_law.data.toList.drop 443 = dktL_law_11 := dk_seg dksL_law_10 23 rfl rfl
theorem dksL_law_12 : cL_law.data.toList.drop 465 = dktL_law_12 := dk_seg dksL_law_11 22 rfl rfl
theorem dksL_law_13 : cL_law.data.toList.drop 489 = dktL_law_13 := dk_seg dksL_law_12 24 rfl rfl
theorem dksL_law_14 : cL_law.data.toList.drop 511 = dktL_law_14 := dk_seg dksL_law_13 22 rfl rfl
theorem dksL_law_15 : cL_law.data.toList.drop 533 = dktL_law_15 := dk_seg dksL_law_14 22 rfl rfl
theorem dksL_law_16 : cL_law.data.toList.drop 557 = dktL_law_16 := dk_seg dksL_law_15 24 rfl rfl
theorem dksL_law_17 : cL_law.data.toList.drop 579 = dktL_law_17 := dk_seg dksL_law_16 22 rfl rfl
theorem dksL_law_18 : cL_law.data.toList.drop 601 = dktL_law_18 := dk_seg dksL_law_17 22 rfl rfl
theorem dksL_law_19 : cL_law.data.toList.drop 625 = dktL_law_19 := dk_seg dksL_law_18 24 rfl rfl
theorem dksL_law_20 : cL_law.data.toList.drop 647 = dktL_law_20 := dk_seg dksL_law_19 22 rfl rfl
theorem dksL_law_21 : cL_law.data.toList.drop 671 = dktL_law_21 := dk_seg dksL_law_20 24 rfl rfl
theorem dksL_law_22 : cL_law.data.toList.drop 694 = dktL_law_22 := dk_seg dksL_law_21 23 rfl rfl
theorem dksL_law_23 : cL_law.data.toList.drop 717 = dktL_law_23 := dk_seg dksL_law_22 23 rfl rfl
theorem dksL_law_24 : cL_law.data.toList.drop 741 = dktL_law_24 := dk_seg dksL_law_23 24 rfl rfl
theorem dksL_law_25 : cL_law.data.toList.drop 765 = dktL_law_25 := dk_seg dksL_law_24 24 rfl rfl
theorem dksL_law_26 : cL_law.data.toList.drop 789 = dktL_law_26 := dk_seg dksL_law_25 24 rfl rfl
theorem dksL_law_27 : cL_law.data.toList.drop 813 = dktL_law_27 := dk_seg dksL_law_26 24 rfl rfl
theorem dksL_law_28 : cL_law.data.toList.drop 835 = dktL_law_28 := dk_seg dksL_law_27 22 rfl rfl
theorem dksL_law_29 : cL_law.data.toList.drop 859 = dktL_law_29 := dk_seg dksL_law_28 24 rfl rfl
theorem dksL_law_30 : cL_law.data.toList.drop 882 = dktL_law_30 := dk_seg dksL_law_29 23 rfl rfl
theorem dksL_law_31 : cL_law.data.toList.drop 906 = dktL_law_31 := dk_seg dksL_law_30 24 rfl rfl
theorem dksL_law_32 : cL_law.data.toList.drop 929 = dktL_law_32 := dk_seg dksL_law_31 23 rfl rfl
theorem dksL_law_33 : cL_law.data.toList.drop 953 = dktL_law_33 := dk_seg dksL_law_32 24 rfl rfl
theorem dksL_law_34 : cL_law.data.toList.drop 975 = dktL_law_34 := dk_seg dksL_law_33 22 rfl rfl
theorem dksL_law_35 : cL_law.data.toList.drop 998 = dktL_law_35 := dk_seg dksL_law_34 23 rfl rfl
theorem dksL_law_36 : cL_law.data.toList.drop 1021 = dktL_law_36 := dk_seg dksL_law_35 23 rfl rfl
theorem dksL_law_37 : cL_law.data.toList.drop 1045 = dktL_law_37 := dk_seg dksL_law_36 24 rfl rfl
theorem dksL_law_38 : cL_law.data.toList.drop 1068 = dktL_law_38 := dk_seg dksL_law_37 23 rfl rfl
theorem dksL_law_39 : cL_law.data.toList.drop 1092 = dktL_law_39 := dk_seg dksL_law_38 24 rfl rfl
theorem dksL_law_40 : cL_law.data.toList.drop 1116 = dktL_law_40 := dk_seg dksL_law_39 24 rfl rfl
theorem dksL_law_41 : cL_law.data.toList.drop 1138 = dktL_law_41 := dk_seg dksL_law_40 22 rfl rfl
theorem dksL_law_42 : cL_law.data.toList.drop 1161 = dktL_law_42 := dk_seg dksL_law_41 23 rfl rfl
theorem dksL_law_43 : cL_law.data.toList.drop 1183 = dktL_law_43 := dk_seg dksL_law_42 22 rfl rfl
theorem dksL_law_44 : cL_law.data.toList.drop 1206 = dktL_law_44 := dk_seg dksL_law_43 23 rfl rfl
theorem dksL_law_45 : cL_law.data.toList.drop 1230 = dktL_law_45 := dk_seg dksL_law_44 24 rfl rfl
theorem dksL_law_46 : cL_law.data.toList.drop 1254 = dktL_law_46 := dk_seg dksL_law_45 24 rfl rfl
theorem dksL_law_47 : cL_law.data.toList.drop 1278 = dktL_law_47 := dk_seg dksL_law_46 24 rfl rfl
theorem dksL_law_48 : cL_law.data.toList.drop 1302 = dktL_law_48 := dk_seg dksL_law_47 24 rfl rfl
theorem dksL_law_49 : cL_law.data.toList.drop 1326 = dktL_law_49 := dk_seg dksL_law_48 24 rfl rfl
theorem dksL_law_50 : cL_law.data.toList.drop 1349 = dktL_law_50 := dk_seg dksL_law_49 23 rfl rfl
theorem dksL_law_51 : cL_law.data.toList.drop 1372 = dktL_law_51 := dk_seg dksL_law_50 23 rfl rfl
theorem dksL_law_52 : cL_law.data.toList.drop 1396 = dktL_law_52 := dk_seg dksL_law_51 24 rfl rfl
theorem dksL_law_53 : cL_law.data.toList.drop 1419 = dktL_law_53 := dk_seg dksL_law_52 23 rfl rfl
theorem dksL_law_54 : cL_law.data.toList.drop 1443 = dktL_law_54 := dk_seg dksL_law_53 24 rfl rfl
theorem dksL_law_55 : cL_law.data.toList.drop 1467 = dktL_law_55 := dk_seg dksL_law_54 24 rfl rfl
theorem dksL_law_56 : cL_law.data.toList.drop 1490 = dktL_law_56 := dk_seg dksL_law_55 23 rfl rfl
theorem dksL_law_57 : cL_law.data.toList.drop 1513 = dktL_law_57 := dk_seg dksL_law_56 23 rfl rfl
theorem dksL_law_58 : cL_law.data.toList.drop 1535 = dktL_law_58 := dk_seg dksL_law_57 22 rfl rfl
theorem dksL_law_59 : cL_law.data.toList.drop 1559 = dktL_law_59 := dk_seg dksL_law_58 24 rfl rfl
theorem dksL_law_60 : cL_law.data.toList.drop 1581 = dktL_law_60 := dk_seg dksL_law_59 22 rfl rfl
theorem dksL_law_61 : cL_law.data.toList.drop 1603 = dktL_law_61 := dk_seg dksL_law_60 22 rfl rfl
theorem dksL_law_62 : cL_law.data.toList.drop 1625 = dktL_law_62 := dk_seg dksL_law_61 22 rfl rfl
theorem dksL_law_63 : cL_law.data.toList.drop 1647 = dktL_law_63 := dk_seg dksL_law_62 22 rfl rfl
theorem dksL_law_64 : cL_law.data.toList.drop 1669 = dktL_law_64 := dk_seg dksL_law_63 22 rfl rfl
theorem dksL_law_65 : cL_law.data.toList.drop 1691 = dktL_law_65 := dk_seg dksL_law_64 22 rfl rfl
theorem dksL_law_66 : cL_law.data.toList.drop 1715 = dktL_law_66 := dk_seg dksL_law_65 24 rfl rfl
theorem dksL_law_67 : cL_law.data.toList.drop 1737 = dktL_law_67 := dk_seg dksL_law_66 22 rfl rfl
theorem dksL_law_68 : cL_law.data.toList.drop 1759 = dktL_law_68 := dk_seg dksL_law_67 22 rfl rfl
theorem dksL_law_69 : cL_law.data.toList.drop 1782 = dktL_law_69 := dk_seg dksL_law_68 23 rfl rfl
theorem dksL_law_70 : cL_law.data.toList.drop 1806 = dktL_law_70 := dk_seg dksL_law_69 24 rfl rfl
theorem dksL_law_71 : cL_law.data.toList.drop 1830 = dktL_law_71 := dk_seg dksL_law_70 24 rfl rfl
theorem dksL_law_72 : cL_law.data.toList.drop 1853 = dktL_law_72 := dk_seg dksL_law_71 23 rfl rfl
theorem dksL_law_73 : cL_law.data.toList.drop 1877 = dktL_law_73 := dk_seg dksL_law_72 24 rfl rfl
theorem dksL_law_74 : cL_law.data.toList.drop 1899 = dktL_law_74 := dk_seg dksL_law_73 22 rfl rfl
theorem dksL_law_75 : cL_law.data.toList.drop 1923 = dktL_law_75 := dk_seg dksL_law_74 24 rfl rfl
theorem dksL_law_76 : cL_law.data.toList.drop 1947 = dktL_law_76 := dk_seg dksL_law_75 24 rfl rfl
theorem dksL_law_77 : cL_law.data.toList.drop 1971 = dktL_law_77 := dk_seg dksL_law_76 24 rfl rfl
theorem dksL_law_78 : cL_law.data.toList.drop 1995 = dktL_law_78 := dk_seg dksL_law_77 24 rfl rfl
theorem dksL_law_79 : cL_law.data.toList.drop 2018 = dktL_law_79 := dk_seg dksL_law_78 23 rfl rfl
theorem dksL_law_80 : cL_law.data.toList.drop 2040 = dktL_law_80 := dk_seg dksL_law_79 22 rfl rfl
theorem dksL_law_81 : cL_law.data.toList.drop 2064 = dktL_law_81 := dk_seg dksL_law_80 24 rfl rfl
theorem dksL_law_82 : cL_law.data.toList.drop 2086 = dktL_law_82 := dk_seg dksL_law_81 22 rfl rfl
theorem dksL_law_83 : cL_law.data.toList.drop 2108 = dktL_law_83 := dk_seg dksL_law_82 22 rfl rfl
theorem dksL_law_84 : cL_law.data.toList.drop 2131 = dktL_law_84 := dk_seg dksL_law_83 23 rfl rfl
theorem dksL_law_85 : cL_law.data.toList.drop 2155 = dktL_law_85 := dk_seg dksL_law_84 24 rfl rfl
theorem dksL_law_86 : cL_law.data.toList.drop 2179 = dktL_law_86 := dk_seg dksL_law_85 24 rfl rfl
theorem dksL_law_87 : cL_law.data.toList.drop 2201 = dktL_law_87 := dk_seg dksL_law_86 22 rfl rfl
theorem dksL_law_88 : cL_law.data.toList.drop 2224 = dktL_law_88 := dk_seg dksL_law_87 23 rfl rfl
theorem dksL_law_89 : cL_law.data.toList.drop 2246 = dktL_law_89 := dk_seg dksL_law_88 22 rfl rfl
theorem dksL_law_90 : cL_law.data.toList.drop 2270 = dktL_law_90 := dk_seg dksL_law_89 24 rfl rfl
theorem dksL_law_91 : cL_law.data.toList.drop 2292 = dktL_law_91 := dk_seg dksL_law_90 22 rfl rfl
theorem dksL_law_92 : cL_law.data.toList.drop 2315 = dktL_law_92 := dk_seg dksL_law_91 23 rfl rfl
theorem dksL_law_93 : cL_law.data.toList.drop 2338 = dktL_law_93 := dk_seg dksL_law_92 23 rfl rfl
theorem dksL_law_94 : cL_law.data.toList.drop 2361 = dktL_law_94 := dk_seg dksL_law_93 23 rfl rfl
theorem dksL_law_95 : cL_law.data.toList.drop 2385 = dktL_law_95 := dk_seg dksL_law_94 24 rfl rfl
theorem dksL_law_96 : cL_law.data.toList.drop 2409 = dktL_law_96 := dk_seg dksL_law_95 24 rfl rfl
theorem dksL_law_97 : cL_law.data.toList.drop 2432 = dktL_law_97 := dk_seg dksL_law_96 23 rfl rfl
theorem dksL_law_98 : cL_law.data.toList.drop 2456 = dktL_law_98 := dk_seg dksL_law_97 24 rfl rfl
theorem dksL_law_99 : cL_law.data.toList.drop 2478 = dktL_law_99 := dk_seg dksL_law_98 22 rfl rfl
theorem dksL_law_100 : cL_law.data.toList.drop 2502 = dktL_law_100 := dk_seg dksL_law_99 24 rfl rfl
theorem dksL_law_101 : cL_law.data.toList.drop 2525 = dktL_law_101 := dk_seg dksL_law_100 23 rfl rfl
theorem dksL_law_102 : cL_law.data.toList.drop 2547 = dktL_law_102 := dk_seg dksL_law_101 22 rfl rfl
theorem dksL_law_103 : cL_law.data.toList.drop 2571 = dktL_law_103 := dk_seg dksL_law_102 24 rfl rfl
theorem dksL_law_104 : cL_law.data.toList.drop 2595 = dktL_law_104 := dk_seg dksL_law_103 24 rfl rfl
theorem dksL_law_105 : cL_law.data.toList.drop 2619 = dktL_law_105 := dk_seg dksL_law_104 24 rfl rfl
theorem dksL_law_106 : cL_law.data.toList.drop 2643 = dktL_law_106 := dk_seg dksL_law_105 24 rfl rfl
theorem dksL_law_107 : cL_law.data.toList.drop 2666 = dktL_law_107 := dk_seg dksL_law_106 23 rfl rfl
theorem dksL_law_108 : cL_law.data.toList.drop 2690 = dktL_law_108 := dk_seg dksL_law_107 24 rfl rfl
theorem dksL_law_109 : cL_law.data.toList.drop 2712 = dktL_law_109 := dk_seg dksL_law_108 22 rfl rfl
theorem dL_law_0 : decode cL_law 0 = .ok (.new 8, 3) := dk_187 0 8 (dk_at dksL_law_0 0 rfl rfl)
theorem dL_law_3 : decode cL_law 3 = .ok (.dup, 1) := dk_89 (dk_at dksL_law_0 3 rfl rfl)
theorem dL_law_4 : decode cL_law 4 = .ok (.invokespecial 126, 3) := dk_183 0 126 (dk_at dksL_law_0 4 rfl rfl)
theorem dL_law_7 : decode cL_law 7 = .ok (.astore_n 1, 1) := dk_76 (dk_at dksL_law_0 7 rfl rfl)
theorem dL_law_8 : decode cL_law 8 = .ok (.new 127, 3) := dk_187 0 127 (dk_at dksL_law_0 8 rfl rfl)
theorem dL_law_11 : decode cL_law 11 = .ok (.dup, 1) := dk_89 (dk_at dksL_law_0 11 rfl rfl)
theorem dL_law_12 : decode cL_law 12 = .ok (.invokespecial 129, 3) := dk_183 0 129 (dk_at dksL_law_0 12 rfl rfl)
theorem dL_law_15 : decode cL_law 15 = .ok (.astore_n 2, 1) := dk_77 (dk_at dksL_law_0 15 rfl rfl)
theorem dL_law_16 : decode cL_law 16 = .ok (.iconst 1, 1) := dk_4 (dk_at dksL_law_0 16 rfl rfl)
theorem dL_law_17 : decode cL_law 17 = .ok (.newarray .long, 2) := dk_188_11 (dk_at dksL_law_0 17 rfl rfl)
theorem dL_law_19 : decode cL_law 19 = .ok (.astore_n 3, 1) := dk_78 (dk_at dksL_law_0 19 rfl rfl)
theorem dL_law_20 : decode cL_law 20 = .ok (.iconst 0, 1) := dk_3 (dk_at dksL_law_0 20 rfl rfl)
theorem dL_law_21 : decode cL_law 21 = .ok (.istore 4, 2) := dk_54 4 (dk_at dksL_law_0 21 rfl rfl)
theorem dL_law_23 : decode cL_law 23 = .ok (.iload 4, 2) := dk_21 4 (dk_at dksL_law_1 0 rfl rfl)
theorem dL_law_25 : decode cL_law 25 = .ok (.aload_n 0, 1) := dk_42 (dk_at dksL_law_1 2 rfl rfl)
theorem dL_law_26 : decode cL_law 26 = .ok (.arraylength, 1) := dk_190 (dk_at dksL_law_1 3 rfl rfl)
theorem dL_law_27 : decode cL_law 27 = .ok (.bipush 6, 2) := dk_16 6 (dk_at dksL_law_1 4 rfl rfl)
theorem dL_law_29 : decode cL_law 29 = .ok (.isub, 1) := dk_100 (dk_at dksL_law_1 6 rfl rfl)
theorem dL_law_30 : decode cL_law 30 = .ok (.if_icmp .gt 2696, 3) := dk_163 10 136 (dk_at dksL_law_1 7 rfl rfl)
theorem dL_law_33 : decode cL_law 33 = .ok (.aload_n 0, 1) := dk_42 (dk_at dksL_law_1 10 rfl rfl)
theorem dL_law_34 : decode cL_law 34 = .ok (.iload 4, 2) := dk_21 4 (dk_at dksL_law_1 11 rfl rfl)
theorem dL_law_36 : decode cL_law 36 = .ok (.iaload, 1) := dk_46 (dk_at dksL_law_1 13 rfl rfl)
theorem dL_law_37 : decode cL_law 37 = .ok (.bipush 63, 2) := dk_16 63 (dk_at dksL_law_1 14 rfl rfl)
theorem dL_law_39 : decode cL_law 39 = .ok (.iand, 1) := dk_126 (dk_at dksL_law_1 16 rfl rfl)
theorem dL_law_40 : decode cL_law 40 = .ok (.tableswitch 2680 0 48 #[212, 285, 310, 354, 398, 411, 479, 547, 615, 695, 763, 831, 887, 943, 999, 1090, 1146, 1202, 1282, 1350, 1442, 1498, 1566, 1610, 1654, 1722, 1802, 1858, 1871, 1884, 1940, 2003, 2071, 2127, 2140, 2153, 2166, 2179, 2192, 2260, 2273, 2357, 2441, 2525, 2593, 2618, 2631, 2642, 2655], 212) := by decide +kernel
theorem dL_law_252 : decode cL_law 252 = .ok (.aload_n 1, 1) := dk_43 (dk_at dksL_law_3 0 rfl rfl)
theorem dL_law_253 : decode cL_law 253 = .ok (.aload_n 0, 1) := dk_42 (dk_at dksL_law_3 1 rfl rfl)
theorem dL_law_254 : decode cL_law 254 = .ok (.iload 4, 2) := dk_21 4 (dk_at dksL_law_3 2 rfl rfl)
theorem dL_law_256 : decode cL_law 256 = .ok (.iconst 1, 1) := dk_4 (dk_at dksL_law_3 4 rfl rfl)
theorem dL_law_257 : decode cL_law 257 = .ok (.iadd, 1) := dk_96 (dk_at dksL_law_3 5 rfl rfl)
theorem dL_law_258 : decode cL_law 258 = .ok (.iaload, 1) := dk_46 (dk_at dksL_law_3 6 rfl rfl)
theorem dL_law_259 : decode cL_law 259 = .ok (.aload_n 0, 1) := dk_42 (dk_at dksL_law_3 7 rfl rfl)
theorem dL_law_260 : decode cL_law 260 = .ok (.iload 4, 2) := dk_21 4 (dk_at dksL_law_3 8 rfl rfl)
theorem dL_law_262 : decode cL_law 262 = .ok (.iconst 2, 1) := dk_5 (dk_at dksL_law_3 10 rfl rfl)
theorem dL_law_263 : decode cL_law 263 = .ok (.iadd, 1) := dk_96 (dk_at dksL_law_3 11 rfl rfl)
theorem dL_law_264 : decode cL_law 264 = .ok (.iaload, 1) := dk_46 (dk_at dksL_law_3 12 rfl rfl)
theorem dL_law_265 : decode cL_law 265 = .ok (.aload_n 0, 1) := dk_42 (dk_at dksL_law_3 13 rfl rfl)
theorem dL_law_266 : decode cL_law 266 = .ok (.iload 4, 2) := dk_21 4 (dk_at dksL_law_3 14 rfl rfl)
theorem dL_law_268 : decode cL_law 268 = .ok (.iconst 3, 1) := dk_6 (dk_at dksL_law_3 16 rfl rfl)
theorem dL_law_269 : decode cL_law 269 = .ok (.iadd, 1) := dk_96 (dk_at dksL_law_3 17 rfl rfl)
theorem dL_law_270 : decode cL_law 270 = .ok (.iaload, 1) := dk_46 (dk_at dksL_law_3 18 rfl rfl)
theorem dL_law_271 : decode cL_law 271 = .ok (.aload_n 0, 1) := dk_42 (dk_at dksL_law_3 19 rfl rfl)
theorem dL_law_272 : decode cL_law 272 = .ok (.iload 4, 2) := dk_21 4 (dk_at dksL_law_3 20 rfl rfl)
theorem dL_law_274 : decode cL_law 274 = .ok (.iconst 4, 1) := dk_7 (dk_at dksL_law_3 22 rfl rfl)
theorem dL_law_275 : decode cL_law 275 = .ok (.iadd, 1) := dk_96 (dk_at dksL_law_3 23 rfl rfl)
theorem dL_law_276 : decode cL_law 276 = .ok (.iaload, 1) := dk_46 (dk_at dksL_law_4 0 rfl rfl)
theorem dL_law_277 : decode cL_law 277 = .ok (.aload_n 0, 1) := dk_42 (dk_at dksL_law_4 1 rfl rfl)
theorem dL_law_278 : decode cL_law 278 = .ok (.iload 4, 2) := dk_21 4 (dk_at dksL_law_4 2 rfl rfl)
theorem dL_law_280 : decode cL_law 280 = .ok (.iconst 5, 1) := dk_8 (dk_at dksL_law_4 4 rfl rfl)
theorem dL_law_281 : decode cL_law 281 = .ok (.iadd, 1) := dk_96 (dk_at dksL_law_4 5 rfl rfl)
theorem dL_law_282 : decode cL_law 282 = .ok (.iaload, 1) := dk_46 (dk_at dksL_law_4 6 rfl rfl)
theorem dL_law_283 : decode cL_law 283 = .ok (.invokevirtual 130, 3) := dk_182 0 130 (dk_at dksL_law_4 7 rfl rfl)
theorem dL_law_286 : decode cL_law 286 = .ok (.aload_n 2, 1) := dk_44 (dk_at dksL_law_4 10 rfl rfl)
theorem dL_law_287 : decode cL_law 287 = .ok (.aload_n 0, 1) := dk_42 (dk_at dksL_law_4 11 rfl rfl)
theorem dL_law_288 : decode cL_law 288 = .ok (.iload 4, 2) := dk_21 4 (dk_at dksL_law_4 12 rfl rfl)
theorem dL_law_290 : decode cL_law 290 = .ok (.iconst 1, 1) := dk_4 (dk_at dksL_law_4 14 rfl rfl)
theorem dL_law_291 : decode cL_law 291 = .ok (.iadd, 1) := dk_96 (dk_at dksL_law_4 15 rfl rfl)
theorem dL_law_292 : decode cL_law 292 = .ok (.iaload, 1) := dk_46 (dk_at dksL_law_4 16 rfl rfl)
theorem dL_law_293 : decode cL_law 293 = .ok (.aload_n 0, 1) := dk_42 (dk_at dksL_law_4 17 rfl rfl)
theorem dL_law_294 : decode cL_law 294 = .ok (.iload 4, 2) := dk_21 4 (dk_at dksL_law_4 18 rfl rfl)
theorem dL_law_296 : decode cL_law 296 = .ok (.iconst 2, 1) := dk_5 (dk_at dksL_law_4 20 rfl rfl)
theorem dL_law_297 : decode cL_law 297 = .ok (.iadd, 1) := dk_96 (dk_at dksL_law_4 21 rfl rfl)
theorem dL_law_298 : decode cL_law 298 = .ok (.iaload, 1) := dk_46 (dk_at dksL_law_4 22 rfl rfl)
theorem dL_law_299 : decode cL_law 299 = .ok (.aload_n 0, 1) := dk_42 (dk_at dksL_law_4 23 rfl rfl)
theorem dL_law_300 : decode cL_law 300 = .ok (.iload 4, 2) := dk_21 4 (dk_at dksL_law_5 0 rfl rfl)
theorem dL_law_302 : decode cL_law 302 = .ok (.iconst 3, 1) := dk_6 (dk_at dksL_law_5 2 rfl rfl)
theorem dL_law_303 : decode cL_law 303 = .ok (.iadd, 1) := dk_96 (dk_at dksL_law_5 3 rfl rfl)
theorem dL_law_304 : decode cL_law 304 = .ok (.iaload, 1) := dk_46 (dk_at dksL_law_5 4 rfl rfl)
theorem dL_law_305 : decode cL_law 305 = .ok (.aload_n 0, 1) := dk_42 (dk_at dksL_law_5 5 rfl rfl)
theorem dL_law_306 : decode cL_law 306 = .ok (.iload 4, 2) := dk_21 4 (dk_at dksL_law_5 6 rfl rfl)
theorem dL_law_308 : decode cL_law 308 = .ok (.iconst 4, 1) := dk_7 (dk_at dksL_law_5 8 rfl rfl)
theorem dL_law_309 : decode cL_law 309 = .ok (.iadd, 1) := dk_96 (dk_at dksL_law_5 9 rfl rfl)
theorem dL_law_310 : decode cL_law 310 = .ok (.iaload, 1) := dk_46 (dk_at dksL_law_5 10 rfl rfl)
theorem dL_law_311 : decode cL_law 311 = .ok (.aload_n 0, 1) := dk_42 (dk_at dksL_law_5 11 rfl rfl)
theorem dL_law_312 : decode cL_law 312 = .ok (.iload 4, 2) := dk_21 4 (dk_at dksL_law_5 12 rfl rfl)
theorem dL_law_314 : decode cL_law 314 = .ok (.iconst 5, 1) := dk_8 (dk_at dksL_law_5 14 rfl rfl)
theorem dL_law_315 : decode cL_law 315 = .ok (.iadd, 1) := dk_96 (dk_at dksL_law_5 15 rfl rfl)
theorem dL_law_316 : decode cL_law 316 = .ok (.iaload, 1) := dk_46 (dk_at dksL_law_5 16 rfl rfl)
theorem dL_law_317 : decode cL_law 317 = .ok (.invokevirtual 134, 3) := dk_182 0 134 (dk_at dksL_law_5 17 rfl rfl)
theorem dL_law_320 : decode cL_law 320 = .ok (.if_icmp .eq 2400, 3) := dk_159 9 96 (dk_at dksL_law_5 20 rfl rfl)
theorem dL_law_323 : decode cL_law 323 = .ok (.iconst 0, 1) := dk_3 (dk_at dksL_law_5 23 rfl rfl)
theorem dL_law_324 : decode cL_law 324 = .ok (.ireturn, 1) := dk_172 (dk_at dksL_law_6 0 rfl rfl)
theorem dL_law_325 : decode cL_law 325 = .ok (.aload_n 1, 1) := dk_43 (dk_at dksL_law_6 1 rfl rfl)
theorem dL_law_326 : decode cL_law 326 = .ok (.aload_n 0, 1) := dk_42 (dk_at dksL_law_6 2 rfl rfl)
theorem dL_law_327 : decode cL_law 327 = .ok (.iload 4, 2) := dk_21 4 (dk_at dksL_law_6 3 rfl rfl)
theorem dL_law_329 : decode cL_law 329 = .ok (.iconst 1, 1) := dk_4 (dk_at dksL_law_6 5 rfl rfl)
theorem dL_law_330 : decode cL_law 330 = .ok (.iadd, 1) := dk_96 (dk_at dksL_law_6 6 rfl rfl)
theorem dL_law_331 : decode cL_law 331 = .ok (.iaload, 1) := dk_46 (dk_at dksL_law_6 7 rfl rfl)
theorem dL_law_332 : decode cL_law 332 = .ok (.invokevirtual 135, 3) := dk_182 0 135 (dk_at dksL_law_6 8 rfl rfl)
theorem dL_law_335 : decode cL_law 335 = .ok (.aload_n 2, 1) := dk_44 (dk_at dksL_law_6 11 rfl rfl)
theorem dL_law_336 : decode cL_law 336 = .ok (.aload_n 0, 1) := dk_42 (dk_at dksL_law_6 12 rfl rfl)
theorem dL_law_337 : decode cL_law 337 = .ok (.iload 4, 2) := dk_21 4 (dk_at dksL_law_6 13 rfl rfl)
theorem dL_law_339 : decode cL_law 339 = .ok (.iconst 1, 1) := dk_4 (dk_at dksL_law_6 15 rfl rfl)
theorem dL_law_340 : decode cL_law 340 = .ok (.iadd, 1) := dk_96 (dk_at dksL_law_6 16 rfl rfl)
theorem dL_law_341 : decode cL_law 341 = .ok (.iaload, 1) := dk_46 (dk_at dksL_law_6 17 rfl rfl)
theorem dL_law_342 : decode cL_law 342 = .ok (.invokevirtual 138, 3) := dk_182 0 138 (dk_at dksL_law_6 18 rfl rfl)
theorem dL_law_345 : decode cL_law 345 = .ok (.if_icmp .eq 2375, 3) := dk_159 9 71 (dk_at dksL_law_6 21 rfl rfl)
theorem dL_law_348 : decode cL_law 348 = .ok (.iconst 0, 1) := dk_3 (dk_at dksL_law_7 0 rfl rfl)
theorem dL_law_349 : decode cL_law 349 = .ok (.ireturn, 1) := dk_172 (dk_at dksL_law_7 1 rfl rfl)
theorem dL_law_350 : decode cL_law 350 = .ok (.aload_n 1, 1) := dk_43 (dk_at dksL_law_7 2 rfl rfl)
theorem dL_law_351 : decode cL_law 351 = .ok (.aload_n 3, 1) := dk_45 (dk_at dksL_law_7 3 rfl rfl)
theorem dL_law_352 : decode cL_law 352 = .ok (.invokestatic 139, 3) := dk_184 0 139 (dk_at dksL_law_7 4 rfl rfl)
theorem dL_law_355 : decode cL_law 355 = .ok (.istore 5, 2) := dk_54 5 (dk_at dksL_law_7 7 rfl rfl)
theorem dL_law_357 : decode cL_law 357 = .ok (.aload_n 2, 1) := dk_44 (dk_at dksL_law_7 9 rfl rfl)
theorem dL_law_358 : decode cL_law 358 = .ok (.invokevirtual 144, 3) := dk_182 0 144 (dk_at dksL_law_7 10 rfl rfl)
theorem dL_law_361 : decode cL_law 361 = .ok (.istore 6, 2) := dk_54 6 (dk_at dksL_law_7 13 rfl rfl)
theorem dL_law_363 : decode cL_law 363 = .ok (.aload_n 2, 1) := dk_44 (dk_at dksL_law_7 15 rfl rfl)
theorem dL_law_364 : decode cL_law 364 = .ok (.invokevirtual 145, 3) := dk_182 0 145 (dk_at dksL_law_7 16 rfl rfl)
theorem dL_law_367 : decode cL_law 367 = .ok (.iload 5, 2) := dk_21 5 (dk_at dksL_law_7 19 rfl rfl)
theorem dL_law_369 : decode cL_law 369 = .ok (.if_icmp .eq 5, 3) := dk_159 0 5 (dk_at dksL_law_7 21 rfl rfl)
theorem dL_law_372 : decode cL_law 372 = .ok (.iconst 0, 1) := dk_3 (dk_at dksL_law_8 0 rfl rfl)
theorem dL_law_373 : decode cL_law 373 = .ok (.ireturn, 1) := dk_172 (dk_at dksL_law_8 1 rfl rfl)
theorem dL_law_374 : decode cL_law 374 = .ok (.iload 5, 2) := dk_21 5 (dk_at dksL_law_8 2 rfl rfl)
theorem dL_law_376 : decode cL_law 376 = .ok (.ifCond .ne 15, 3) := dk_154 0 15 (dk_at dksL_law_8 4 rfl rfl)
theorem dL_law_379 : decode cL_law 379 = .ok (.aload_n 3, 1) := dk_45 (dk_at dksL_law_8 7 rfl rfl)
theorem dL_law_380 : decode cL_law 380 = .ok (.iconst 0, 1) := dk_3 (dk_at dksL_law_8 8 rfl rfl)
theorem dL_law_381 : decode cL_law 381 = .ok (.laload, 1) := dk_47 (dk_at dksL_law_8 9 rfl rfl)
theorem dL_law_382 : decode cL_law 382 = .ok (.iload 6, 2) := dk_21 6 (dk_at dksL_law_8 10 rfl rfl)
theorem dL_law_384 : decode cL_law 384 = .ok (.i2l, 1) := dk_133 (dk_at dksL_law_8 12 rfl rfl)
theorem dL_law_385 : decode cL_law 385 = .ok (.lcmp, 1) := dk_148 (dk_at dksL_law_8 13 rfl rfl)
theorem dL_law_386 : decode cL_law 386 = .ok (.ifCond .eq 5, 3) := dk_153 0 5 (dk_at dksL_law_8 14 rfl rfl)
theorem dL_law_389 : decode cL_law 389 = .ok (.iconst 0, 1) := dk_3 (dk_at dksL_law_8 17 rfl rfl)
theorem dL_law_390 : decode cL_law 390 = .ok (.ireturn, 1) := dk_172 (dk_at dksL_law_8 18 rfl rfl)
theorem dL_law_391 : decode cL_law 391 = .ok (.goto 2329, 3) := dk_167 9 25 (dk_at dksL_law_8 19 rfl rfl)
theorem dL_law_394 : decode cL_law 394 = .ok (.aload_n 1, 1) := dk_43 (dk_at dksL_law_8 22 rfl rfl)
theorem dL_law_395 : decode cL_law 395 = .ok (.aload_n 3, 1) := dk_45 (dk_at dksL_law_8 23 rfl rfl)
theorem dL_law_396 : decode cL_law 396 = .ok (.invokestatic 148, 3) := dk_184 0 148 (dk_at dksL_law_9 0 rfl rfl)
theorem dL_law_399 : decode cL_law 399 = .ok (.istore 5, 2) := dk_54 5 (dk_at dksL_law_9 3 rfl rfl)
theorem dL_law_401 : decode cL_law 401 = .ok (.aload_n 2, 1) := dk_44 (dk_at dksL_law_9 5 rfl rfl)
theorem dL_law_402 : decode cL_law 402 = .ok (.invokevirtual 150, 3) := dk_182 0 150 (dk_at dksL_law_9 6 rfl rfl)
theorem dL_law_405 : decode cL_law 405 = .ok (.istore 6, 2) := dk_54 6 (dk_at dksL_law_9 9 rfl rfl)
theorem dL_law_407 : decode cL_law 407 = .ok (.aload_n 2, 1) := dk_44 (dk_at dksL_law_9 11 rfl rfl)
theorem dL_law_408 : decode cL_law 408 = .ok (.invokevirtual 145, 3) := dk_182 0 145 (dk_at dksL_law_9 12 rfl rfl)
theorem dL_law_411 : decode cL_law 411 = .ok (.iload 5, 2) := dk_21 5 (dk_at dksL_law_9 15 rfl rfl)
theorem dL_law_413 : decode cL_law 413 = .ok (.if_icmp .eq 5, 3) := dk_159 0 5 (dk_at dksL_law_9 17 rfl rfl)
theorem dL_law_416 : decode cL_law 416 = .ok (.iconst 0, 1) := dk_3 (dk_at dksL_law_9 20 rfl rfl)
theorem dL_law_417 : decode cL_law 417 = .ok (.ireturn, 1) := dk_172 (dk_at dksL_law_9 21 rfl rfl)
theorem dL_law_418 : decode cL_law 418 = .ok (.iload 5, 2) := dk_21 5 (dk_at dksL_law_9 22 rfl rfl)
theorem dL_law_420 : decode cL_law 420 = .ok (.ifCond .ne 15, 3) := dk_154 0 15 (dk_at dksL_law_10 0 rfl rfl)
theorem dL_law_423 : decode cL_law 423 = .ok (.aload_n 3, 1) := dk_45 (dk_at dksL_law_10 3 rfl rfl)
theorem dL_law_424 : decode cL_law 424 = .ok (.iconst 0, 1) := dk_3 (dk_at dksL_law_10 4 rfl rfl)
theorem dL_law_425 : decode cL_law 425 = .ok (.laload, 1) := dk_47 (dk_at dksL_law_10 5 rfl rfl)
theorem dL_law_426 : decode cL_law 426 = .ok (.iload 6, 2) := dk_21 6 (dk_at dksL_law_10 6 rfl rfl)
theorem dL_law_428 : decode cL_law 428 = .ok (.i2l, 1) := dk_133 (dk_at dksL_law_10 8 rfl rfl)
theorem dL_law_429 : decode cL_law 429 = .ok (.lcmp, 1) := dk_148 (dk_at dksL_law_10 9 rfl rfl)
theorem dL_law_430 : decode cL_law 430 = .ok (.ifCond .eq 5, 3) := dk_153 0 5 (dk_at dksL_law_10 10 rfl rfl)
theorem dL_law_433 : decode cL_law 433 = .ok (.iconst 0, 1) := dk_3 (dk_at dksL_law_10 13 rfl rfl)
theorem dL_law_434 : decode cL_law 434 = .ok (.ireturn, 1) := dk_172 (dk_at dksL_law_10 14 rfl rfl)
theorem dL_law_435 : decode cL_law 435 = .ok (.goto 2285, 3) := dk_167 8 237 (dk_at dksL_law_10 15 rfl rfl)
theorem dL_law_438 : decode cL_law 438 = .ok (.aload_n 1, 1) := dk_43 (dk_at dksL_law_10 18 rfl rfl)
theorem dL_law_439 : decode cL_law 439 = .ok (.invokevirtual 151, 3) := dk_182 0 151 (dk_at dksL_law_10 19 rfl rfl)
theorem dL_law_442 : decode cL_law 442 = .ok (.aload_n 2, 1) := dk_44 (dk_at dksL_law_10 22 rfl rfl)
theorem dL_law_443 : decode cL_law 443 = .ok (.invokevirtual 154, 3) := dk_182 0 154 (dk_at dksL_law_11 0 rfl rfl)
theorem dL_law_446 : decode cL_law 446 = .ok (.if_icmp .eq 2274, 3) := dk_159 8 226 (dk_at dksL_law_11 3 rfl rfl)
theorem dL_law_449 : decode cL_law 449 = .ok (.iconst 0, 1) := dk_3 (dk_at dksL_law_11 6 rfl rfl)
theorem dL_law_450 : decode cL_law 450 = .ok (.ireturn, 1) := dk_172 (dk_at dksL_law_11 7 rfl rfl)
theorem dL_law_451 : decode cL_law 451 = .ok (.aload_n 1, 1) := dk_43 (dk_at dksL_law_11 8 rfl rfl)
theorem dL_law_452 : decode cL_law 452 = .ok (.aload_n 0, 1) := dk_42 (dk_at dksL_law_11 9 rfl rfl)
theorem dL_law_453 : decode cL_law 453 = .ok (.iload 4, 2) := dk_21 4 (dk_at dksL_law_11 10 rfl rfl)
theorem dL_law_455 : decode cL_law 455 = .ok (.iconst 1, 1) := dk_4 (dk_at dksL_law_11 12 rfl rfl)
theorem dL_law_456 : decode cL_law 456 = .ok (.iadd, 1) := dk_96 (dk_at dksL_law_11 13 rfl rfl)
theorem dL_law_457 : decode cL_law 457 = .ok (.iaload, 1) := dk_46 (dk_at dksL_law_11 14 rfl rfl)
theorem dL_law_458 : decode cL_law 458 = .ok (.aload_n 0, 1) := dk_42 (dk_at dksL_law_11 15 rfl rfl)
theorem dL_law_459 : decode cL_law 459 = .ok (.iload 4, 2) := dk_21 4 (dk_at dksL_law_11 16 rfl rfl)
theorem dL_law_461 : decode cL_law 461 = .ok (.iconst 2, 1) := dk_5 (dk_at dksL_law_11 18 rfl rfl)
theorem dL_law_462 : decode cL_law 462 = .ok (.iadd, 1) := dk_96 (dk_at dksL_law_11 19 rfl rfl)
theorem dL_law_463 : decode cL_law 463 = .ok (.iaload, 1) := dk_46 (dk_at dksL_law_11 20 rfl rfl)
theorem dL_law_464 : decode cL_law 464 = .ok (.aload_n 3, 1) := dk_45 (dk_at dksL_law_11 21 rfl rfl)
theorem dL_law_465 : decode cL_law 465 = .ok (.invokestatic 155, 3) := dk_184 0 155 (dk_at dksL_law_12 0 rfl rfl)
theorem dL_law_468 : decode cL_law 468 = .ok (.istore 5, 2) := dk_54 5 (dk_at dksL_law_12 3 rfl rfl)
theorem dL_law_470 : decode cL_law 470 = .ok (.aload_n 2, 1) := dk_44 (dk_at dksL_law_12 5 rfl rfl)
theorem dL_law_471 : decode cL_law 471 = .ok (.aload_n 0, 1) := dk_42 (dk_at dksL_law_12 6 rfl rfl)
theorem dL_law_472 : decode cL_law 472 = .ok (.iload 4, 2) := dk_21 4 (dk_at dksL_law_12 7 rfl rfl)
theorem dL_law_474 : decode cL_law 474 = .ok (.iconst 1, 1) := dk_4 (dk_at dksL_law_12 9 rfl rfl)
theorem dL_law_475 : decode cL_law 475 = .ok (.iadd, 1) := dk_96 (dk_at dksL_law_12 10 rfl rfl)
theorem dL_law_476 : decode cL_law 476 = .ok (.iaload, 1) := dk_46 (dk_at dksL_law_12 11 rfl rfl)
theorem dL_law_477 : decode cL_law 477 = .ok (.aload_n 0, 1) := dk_42 (dk_at dksL_law_12 12 rfl rfl)
theorem dL_law_478 : decode cL_law 478 = .ok (.iload 4, 2) := dk_21 4 (dk_at dksL_law_12 13 rfl rfl)
theorem dL_law_480 : decode cL_law 480 = .ok (.iconst 2, 1) := dk_5 (dk_at dksL_law_12 15 rfl rfl)
theorem dL_law_481 : decode cL_law 481 = .ok (.iadd, 1) := dk_96 (dk_at dksL_law_12 16 rfl rfl)
theorem dL_law_482 : decode cL_law 482 = .ok (.iaload, 1) := dk_46 (dk_at dksL_law_12 17 rfl rfl)
theorem dL_law_483 : decode cL_law 483 = .ok (.invokevirtual 158, 3) := dk_182 0 158 (dk_at dksL_law_12 18 rfl rfl)
theorem dL_law_486 : decode cL_law 486 = .ok (.istore 6, 2) := dk_54 6 (dk_at dksL_law_12 21 rfl rfl)
theorem dL_law_488 : decode cL_law 488 = .ok (.aload_n 2, 1) := dk_44 (dk_at dksL_law_12 23 rfl rfl)
theorem dL_law_489 : decode cL_law 489 = .ok (.invokevirtual 145, 3) := dk_182 0 145 (dk_at dksL_law_13 0 rfl rfl)
theorem dL_law_492 : decode cL_law 492 = .ok (.iload 5, 2) := dk_21 5 (dk_at dksL_law_13 3 rfl rfl)
theorem dL_law_494 : decode cL_law 494 = .ok (.if_icmp .eq 5, 3) := dk_159 0 5 (dk_at dksL_law_13 5 rfl rfl)
theorem dL_law_497 : decode cL_law 497 = .ok (.iconst 0, 1) := dk_3 (dk_at dksL_law_13 8 rfl rfl)
theorem dL_law_498 : decode cL_law 498 = .ok (.ireturn, 1) := dk_172 (dk_at dksL_law_13 9 rfl rfl)
theorem dL_law_499 : decode cL_law 499 = .ok (.iload 5, 2) := dk_21 5 (dk_at dksL_law_13 10 rfl rfl)
theorem dL_law_501 : decode cL_law 501 = .ok (.ifCond .ne 15, 3) := dk_154 0 15 (dk_at dksL_law_13 12 rfl rfl)
theorem dL_law_504 : decode cL_law 504 = .ok (.aload_n 3, 1) := dk_45 (dk_at dksL_law_13 15 rfl rfl)
theorem dL_law_505 : decode cL_law 505 = .ok (.iconst 0, 1) := dk_3 (dk_at dksL_law_13 16 rfl rfl)
theorem dL_law_506 : decode cL_law 506 = .ok (.laload, 1) := dk_47 (dk_at dksL_law_13 17 rfl rfl)
theorem dL_law_507 : decode cL_law 507 = .ok (.iload 6, 2) := dk_21 6 (dk_at dksL_law_13 18 rfl rfl)
theorem dL_law_509 : decode cL_law 509 = .ok (.i2l, 1) := dk_133 (dk_at dksL_law_13 20 rfl rfl)
theorem dL_law_510 : decode cL_law 510 = .ok (.lcmp, 1) := dk_148 (dk_at dksL_law_13 21 rfl rfl)
theorem dL_law_511 : decode cL_law 511 = .ok (.ifCond .eq 5, 3) := dk_153 0 5 (dk_at dksL_law_14 0 rfl rfl)
theorem dL_law_514 : decode cL_law 514 = .ok (.iconst 0, 1) := dk_3 (dk_at dksL_law_14 3 rfl rfl)
theorem dL_law_515 : decode cL_law 515 = .ok (.ireturn, 1) := dk_172 (dk_at dksL_law_14 4 rfl rfl)
theorem dL_law_516 : decode cL_law 516 = .ok (.goto 2204, 3) := dk_167 8 156 (dk_at dksL_law_14 5 rfl rfl)
theorem dL_law_519 : decode cL_law 519 = .ok (.aload_n 1, 1) := dk_43 (dk_at dksL_law_14 8 rfl rfl)
theorem dL_law_520 : decode cL_law 520 = .ok (.aload_n 0, 1) := dk_42 (dk_at dksL_law_14 9 rfl rfl)
theorem dL_law_521 : decode cL_law 521 = .ok (.iload 4, 2) := dk_21 4 (dk_at dksL_law_14 10 rfl rfl)
theorem dL_law_523 : decode cL_law 523 = .ok (.iconst 1, 1) := dk_4 (dk_at dksL_law_14 12 rfl rfl)
theorem dL_law_524 : decode cL_law 524 = .ok (.iadd, 1) := dk_96 (dk_at dksL_law_14 13 rfl rfl)
theorem dL_law_525 : decode cL_law 525 = .ok (.iaload, 1) := dk_46 (dk_at dksL_law_14 14 rfl rfl)
theorem dL_law_526 : decode cL_law 526 = .ok (.aload_n 0, 1) := dk_42 (dk_at dksL_law_14 15 rfl rfl)
theorem dL_law_527 : decode cL_law 527 = .ok (.iload 4, 2) := dk_21 4 (dk_at dksL_law_14 16 rfl rfl)
theorem dL_law_529 : decode cL_law 529 = .ok (.iconst 2, 1) := dk_5 (dk_at dksL_law_14 18 rfl rfl)
theorem dL_law_530 : decode cL_law 530 = .ok (.iadd, 1) := dk_96 (dk_at dksL_law_14 19 rfl rfl)
theorem dL_law_531 : decode cL_law 531 = .ok (.iaload, 1) := dk_46 (dk_at dksL_law_14 20 rfl rfl)
theorem dL_law_532 : decode cL_law 532 = .ok (.aload_n 3, 1) := dk_45 (dk_at dksL_law_14 21 rfl rfl)
theorem dL_law_533 : decode cL_law 533 = .ok (.invokestatic 159, 3) := dk_184 0 159 (dk_at dksL_law_15 0 rfl rfl)
theorem dL_law_536 : decode cL_law 536 = .ok (.istore 5, 2) := dk_54 5 (dk_at dksL_law_15 3 rfl rfl)
theorem dL_law_538 : decode cL_law 538 = .ok (.aload_n 2, 1) := dk_44 (dk_at dksL_law_15 5 rfl rfl)
theorem dL_law_539 : decode cL_law 539 = .ok (.aload_n 0, 1) := dk_42 (dk_at dksL_law_15 6 rfl rfl)
theorem dL_law_540 : decode cL_law 540 = .ok (.iload 4, 2) := dk_21 4 (dk_at dksL_law_15 7 rfl rfl)
theorem dL_law_542 : decode cL_law 542 = .ok (.iconst 1, 1) := dk_4 (dk_at dksL_law_15 9 rfl rfl)
theorem dL_law_543 : decode cL_law 543 = .ok (.iadd, 1) := dk_96 (dk_at dksL_law_15 10 rfl rfl)
theorem dL_law_544 : decode cL_law 544 = .ok (.iaload, 1) := dk_46 (dk_at dksL_law_15 11 rfl rfl)
theorem dL_law_545 : decode cL_law 545 = .ok (.aload_n 0, 1) := dk_42 (dk_at dksL_law_15 12 rfl rfl)
theorem dL_law_546 : decode cL_law 546 = .ok (.iload 4, 2) := dk_21 4 (dk_at dksL_law_15 13 rfl rfl)
theorem dL_law_548 : decode cL_law 548 = .ok (.iconst 2, 1) := dk_5 (dk_at dksL_law_15 15 rfl rfl)
theorem dL_law_549 : decode cL_law 549 = .ok (.iadd, 1) := dk_96 (dk_at dksL_law_15 16 rfl rfl)
theorem dL_law_550 : decode cL_law 550 = .ok (.iaload, 1) := dk_46 (dk_at dksL_law_15 17 rfl rfl)
theorem dL_law_551 : decode cL_law 551 = .ok (.invokevirtual 161, 3) := dk_182 0 161 (dk_at dksL_law_15 18 rfl rfl)
theorem dL_law_554 : decode cL_law 554 = .ok (.istore 6, 2) := dk_54 6 (dk_at dksL_law_15 21 rfl rfl)
theorem dL_law_556 : decode cL_law 556 = .ok (.aload_n 2, 1) := dk_44 (dk_at dksL_law_15 23 rfl rfl)
theorem dL_law_557 : decode cL_law 557 = .ok (.invokevirtual 145, 3) := dk_182 0 145 (dk_at dksL_law_16 0 rfl rfl)
theorem dL_law_560 : decode cL_law 560 = .ok (.iload 5, 2) := dk_21 5 (dk_at dksL_law_16 3 rfl rfl)
theorem dL_law_562 : decode cL_law 562 = .ok (.if_icmp .eq 5, 3) := dk_159 0 5 (dk_at dksL_law_16 5 rfl rfl)
theorem dL_law_565 : decode cL_law 565 = .ok (.iconst 0, 1) := dk_3 (dk_at dksL_law_16 8 rfl rfl)
theorem dL_law_566 : decode cL_law 566 = .ok (.ireturn, 1) := dk_172 (dk_at dksL_law_16 9 rfl rfl)
theorem dL_law_567 : decode cL_law 567 = .ok (.iload 5, 2) := dk_21 5 (dk_at dksL_law_16 10 rfl rfl)
theorem dL_law_569 : decode cL_law 569 = .ok (.ifCond .ne 15, 3) := dk_154 0 15 (dk_at dksL_law_16 12 rfl rfl)
theorem dL_law_572 : decode cL_law 572 = .ok (.aload_n 3, 1) := dk_45 (dk_at dksL_law_16 15 rfl rfl)
theorem dL_law_573 : decode cL_law 573 = .ok (.iconst 0, 1) := dk_3 (dk_at dksL_law_16 16 rfl rfl)
theorem dL_law_574 : decode cL_law 574 = .ok (.laload, 1) := dk_47 (dk_at dksL_law_16 17 rfl rfl)
theorem dL_law_575 : decode cL_law 575 = .ok (.iload 6, 2) := dk_21 6 (dk_at dksL_law_16 18 rfl rfl)
theorem dL_law_577 : decode cL_law 577 = .ok (.i2l, 1) := dk_133 (dk_at dksL_law_16 20 rfl rfl)
theorem dL_law_578 : decode cL_law 578 = .ok (.lcmp, 1) := dk_148 (dk_at dksL_law_16 21 rfl rfl)
theorem dL_law_579 : decode cL_law 579 = .ok (.ifCond .eq 5, 3) := dk_153 0 5 (dk_at dksL_law_17 0 rfl rfl)
theorem dL_law_582 : decode cL_law 582 = .ok (.iconst 0, 1) := dk_3 (dk_at dksL_law_17 3 rfl rfl)
theorem dL_law_583 : decode cL_law 583 = .ok (.ireturn, 1) := dk_172 (dk_at dksL_law_17 4 rfl rfl)
theorem dL_law_584 : decode cL_law 584 = .ok (.goto 2136, 3) := dk_167 8 88 (dk_at dksL_law_17 5 rfl rfl)
theorem dL_law_587 : decode cL_law 587 = .ok (.aload_n 1, 1) := dk_43 (dk_at dksL_law_17 8 rfl rfl)
theorem dL_law_588 : decode cL_law 588 = .ok (.aload_n 0, 1) := dk_42 (dk_at dksL_law_17 9 rfl rfl)
theorem dL_law_589 : decode cL_law 589 = .ok (.iload 4, 2) := dk_21 4 (dk_at dksL_law_17 10 rfl rfl)
theorem dL_law_591 : decode cL_law 591 = .ok (.iconst 1, 1) := dk_4 (dk_at dksL_law_17 12 rfl rfl)
theorem dL_law_592 : decode cL_law 592 = .ok (.iadd, 1) := dk_96 (dk_at dksL_law_17 13 rfl rfl)
theorem dL_law_593 : decode cL_law 593 = .ok (.iaload, 1) := dk_46 (dk_at dksL_law_17 14 rfl rfl)
theorem dL_law_594 : decode cL_law 594 = .ok (.aload_n 0, 1) := dk_42 (dk_at dksL_law_17 15 rfl rfl)
theorem dL_law_595 : decode cL_law 595 = .ok (.iload 4, 2) := dk_21 4 (dk_at dksL_law_17 16 rfl rfl)
theorem dL_law_597 : decode cL_law 597 = .ok (.iconst 2, 1) := dk_5 (dk_at dksL_law_17 18 rfl rfl)
theorem dL_law_598 : decode cL_law 598 = .ok (.iadd, 1) := dk_96 (dk_at dksL_law_17 19 rfl rfl)
theorem dL_law_599 : decode cL_law 599 = .ok (.iaload, 1) := dk_46 (dk_at dksL_law_17 20 rfl rfl)
theorem dL_law_600 : decode cL_law 600 = .ok (.aload_n 3, 1) := dk_45 (dk_at dksL_law_17 21 rfl rfl)
theorem dL_law_601 : decode cL_law 601 = .ok (.invokestatic 162, 3) := dk_184 0 162 (dk_at dksL_law_18 0 rfl rfl)
theorem dL_law_604 : decode cL_law 604 = .ok (.istore 5, 2) := dk_54 5 (dk_at dksL_law_18 3 rfl rfl)
theorem dL_law_606 : decode cL_law 606 = .ok (.aload_n 2, 1) := dk_44 (dk_at dksL_law_18 5 rfl rfl)
theorem dL_law_607 : decode cL_law 607 = .ok (.aload_n 0, 1) := dk_42 (dk_at dksL_law_18 6 rfl rfl)
theorem dL_law_608 : decode cL_law 608 = .ok (.iload 4, 2) := dk_21 4 (dk_at dksL_law_18 7 rfl rfl)
theorem dL_law_610 : decode cL_law 610 = .ok (.iconst 1, 1) := dk_4 (dk_at dksL_law_18 9 rfl rfl)
theorem dL_law_611 : decode cL_law 611 = .ok (.iadd, 1) := dk_96 (dk_at dksL_law_18 10 rfl rfl)
theorem dL_law_612 : decode cL_law 612 = .ok (.iaload, 1) := dk_46 (dk_at dksL_law_18 11 rfl rfl)
theorem dL_law_613 : decode cL_law 613 = .ok (.aload_n 0, 1) := dk_42 (dk_at dksL_law_18 12 rfl rfl)
theorem dL_law_614 : decode cL_law 614 = .ok (.iload 4, 2) := dk_21 4 (dk_at dksL_law_18 13 rfl rfl)
theorem dL_law_616 : decode cL_law 616 = .ok (.iconst 2, 1) := dk_5 (dk_at dksL_law_18 15 rfl rfl)
theorem dL_law_617 : decode cL_law 617 = .ok (.iadd, 1) := dk_96 (dk_at dksL_law_18 16 rfl rfl)
theorem dL_law_618 : decode cL_law 618 = .ok (.iaload, 1) := dk_46 (dk_at dksL_law_18 17 rfl rfl)
theorem dL_law_619 : decode cL_law 619 = .ok (.invokevirtual 164, 3) := dk_182 0 164 (dk_at dksL_law_18 18 rfl rfl)
theorem dL_law_622 : decode cL_law 622 = .ok (.istore 6, 2) := dk_54 6 (dk_at dksL_law_18 21 rfl rfl)
theorem dL_law_624 : decode cL_law 624 = .ok (.aload_n 2, 1) := dk_44 (dk_at dksL_law_18 23 rfl rfl)
theorem dL_law_625 : decode cL_law 625 = .ok (.invokevirtual 145, 3) := dk_182 0 145 (dk_at dksL_law_19 0 rfl rfl)
theorem dL_law_628 : decode cL_law 628 = .ok (.iload 5, 2) := dk_21 5 (dk_at dksL_law_19 3 rfl rfl)
theorem dL_law_630 : decode cL_law 630 = .ok (.if_icmp .eq 5, 3) := dk_159 0 5 (dk_at dksL_law_19 5 rfl rfl)
theorem dL_law_633 : decode cL_law 633 = .ok (.iconst 0, 1) := dk_3 (dk_at dksL_law_19 8 rfl rfl)
theorem dL_law_634 : decode cL_law 634 = .ok (.ireturn, 1) := dk_172 (dk_at dksL_law_19 9 rfl rfl)
theorem dL_law_635 : decode cL_law 635 = .ok (.iload 5, 2) := dk_21 5 (dk_at dksL_law_19 10 rfl rfl)
theorem dL_law_637 : decode cL_law 637 = .ok (.ifCond .ne 15, 3) := dk_154 0 15 (dk_at dksL_law_19 12 rfl rfl)
theorem dL_law_640 : decode cL_law 640 = .ok (.aload_n 3, 1) := dk_45 (dk_at dksL_law_19 15 rfl rfl)
theorem dL_law_641 : decode cL_law 641 = .ok (.iconst 0, 1) := dk_3 (dk_at dksL_law_19 16 rfl rfl)
theorem dL_law_642 : decode cL_law 642 = .ok (.laload, 1) := dk_47 (dk_at dksL_law_19 17 rfl rfl)
theorem dL_law_643 : decode cL_law 643 = .ok (.iload 6, 2) := dk_21 6 (dk_at dksL_law_19 18 rfl rfl)
theorem dL_law_645 : decode cL_law 645 = .ok (.i2l, 1) := dk_133 (dk_at dksL_law_19 20 rfl rfl)
theorem dL_law_646 : decode cL_law 646 = .ok (.lcmp, 1) := dk_148 (dk_at dksL_law_19 21 rfl rfl)
theorem dL_law_647 : decode cL_law 647 = .ok (.ifCond .eq 5, 3) := dk_153 0 5 (dk_at dksL_law_20 0 rfl rfl)
theorem dL_law_650 : decode cL_law 650 = .ok (.iconst 0, 1) := dk_3 (dk_at dksL_law_20 3 rfl rfl)
theorem dL_law_651 : decode cL_law 651 = .ok (.ireturn, 1) := dk_172 (dk_at dksL_law_20 4 rfl rfl)
theorem dL_law_652 : decode cL_law 652 = .ok (.goto 2068, 3) := dk_167 8 20 (dk_at dksL_law_20 5 rfl rfl)
theorem dL_law_655 : decode cL_law 655 = .ok (.aload_n 1, 1) := dk_43 (dk_at dksL_law_20 8 rfl rfl)
theorem dL_law_656 : decode cL_law 656 = .ok (.aload_n 0, 1) := dk_42 (dk_at dksL_law_20 9 rfl rfl)
theorem dL_law_657 : decode cL_law 657 = .ok (.iload 4, 2) := dk_21 4 (dk_at dksL_law_20 10 rfl rfl)
theorem dL_law_659 : decode cL_law 659 = .ok (.iconst 1, 1) := dk_4 (dk_at dksL_law_20 12 rfl rfl)
theorem dL_law_660 : decode cL_law 660 = .ok (.iadd, 1) := dk_96 (dk_at dksL_law_20 13 rfl rfl)
theorem dL_law_661 : decode cL_law 661 = .ok (.iaload, 1) := dk_46 (dk_at dksL_law_20 14 rfl rfl)
theorem dL_law_662 : decode cL_law 662 = .ok (.aload_n 0, 1) := dk_42 (dk_at dksL_law_20 15 rfl rfl)
theorem dL_law_663 : decode cL_law 663 = .ok (.iload 4, 2) := dk_21 4 (dk_at dksL_law_20 16 rfl rfl)
theorem dL_law_665 : decode cL_law 665 = .ok (.iconst 2, 1) := dk_5 (dk_at dksL_law_20 18 rfl rfl)
theorem dL_law_666 : decode cL_law 666 = .ok (.iadd, 1) := dk_96 (dk_at dksL_law_20 19 rfl rfl)
theorem dL_law_667 : decode cL_law 667 = .ok (.iaload, 1) := dk_46 (dk_at dksL_law_20 20 rfl rfl)
theorem dL_law_668 : decode cL_law 668 = .ok (.aload_n 0, 1) := dk_42 (dk_at dksL_law_20 21 rfl rfl)
theorem dL_law_669 : decode cL_law 669 = .ok (.iload 4, 2) := dk_21 4 (dk_at dksL_law_20 22 rfl rfl)
theorem dL_law_671 : decode cL_law 671 = .ok (.iconst 3, 1) := dk_6 (dk_at dksL_law_21 0 rfl rfl)
theorem dL_law_672 : decode cL_law 672 = .ok (.iadd, 1) := dk_96 (dk_at dksL_law_21 1 rfl rfl)
theorem dL_law_673 : decode cL_law 673 = .ok (.iaload, 1) := dk_46 (dk_at dksL_law_21 2 rfl rfl)
theorem dL_law_674 : decode cL_law 674 = .ok (.aload_n 3, 1) := dk_45 (dk_at dksL_law_21 3 rfl rfl)
theorem dL_law_675 : decode cL_law 675 = .ok (.invokestatic 165, 3) := dk_184 0 165 (dk_at dksL_law_21 4 rfl rfl)
theorem dL_law_678 : decode cL_law 678 = .ok (.istore 5, 2) := dk_54 5 (dk_at dksL_law_21 7 rfl rfl)
theorem dL_law_680 : decode cL_law 680 = .ok (.aload_n 2, 1) := dk_44 (dk_at dksL_law_21 9 rfl rfl)
theorem dL_law_681 : decode cL_law 681 = .ok (.aload_n 0, 1) := dk_42 (dk_at dksL_law_21 10 rfl rfl)
theorem dL_law_682 : decode cL_law 682 = .ok (.iload 4, 2) := dk_21 4 (dk_at dksL_law_21 11 rfl rfl)
theorem dL_law_684 : decode cL_law 684 = .ok (.iconst 1, 1) := dk_4 (dk_at dksL_law_21 13 rfl rfl)
theorem dL_law_685 : decode cL_law 685 = .ok (.iadd, 1) := dk_96 (dk_at dksL_law_21 14 rfl rfl)
theorem dL_law_686 : decode cL_law 686 = .ok (.iaload, 1) := dk_46 (dk_at dksL_law_21 15 rfl rfl)
theorem dL_law_687 : decode cL_law 687 = .ok (.aload_n 0, 1) := dk_42 (dk_at dksL_law_21 16 rfl rfl)
theorem dL_law_688 : decode cL_law 688 = .ok (.iload 4, 2) := dk_21 4 (dk_at dksL_law_21 17 rfl rfl)
theorem dL_law_690 : decode cL_law 690 = .ok (.iconst 2, 1) := dk_5 (dk_at dksL_law_21 19 rfl rfl)
theorem dL_law_691 : decode cL_law 691 = .ok (.iadd, 1) := dk_96 (dk_at dksL_law_21 20 rfl rfl)
theorem dL_law_692 : decode cL_law 692 = .ok (.iaload, 1) := dk_46 (dk_at dksL_law_21 21 rfl rfl)
theorem dL_law_693 : decode cL_law 693 = .ok (.aload_n 0, 1) := dk_42 (dk_at dksL_law_21 22 rfl rfl)
theorem dL_law_694 : decode cL_law 694 = .ok (.iload 4, 2) := dk_21 4 (dk_at dksL_law_22 0 rfl rfl)
theorem dL_law_696 : decode cL_law 696 = .ok (.iconst 3, 1) := dk_6 (dk_at dksL_law_22 2 rfl rfl)
theorem dL_law_697 : decode cL_law 697 = .ok (.iadd, 1) := dk_96 (dk_at dksL_law_22 3 rfl rfl)
theorem dL_law_698 : decode cL_law 698 = .ok (.iaload, 1) := dk_46 (dk_at dksL_law_22 4 rfl rfl)
theorem dL_law_699 : decode cL_law 699 = .ok (.invokevirtual 168, 3) := dk_182 0 168 (dk_at dksL_law_22 5 rfl rfl)
theorem dL_law_702 : decode cL_law 702 = .ok (.istore 6, 2) := dk_54 6 (dk_at dksL_law_22 8 rfl rfl)
theorem dL_law_704 : decode cL_law 704 = .ok (.aload_n 2, 1) := dk_44 (dk_at dksL_law_22 10 rfl rfl)
theorem dL_law_705 : decode cL_law 705 = .ok (.invokevirtual 145, 3) := dk_182 0 145 (dk_at dksL_law_22 11 rfl rfl)
theorem dL_law_708 : decode cL_law 708 = .ok (.iload 5, 2) := dk_21 5 (dk_at dksL_law_22 14 rfl rfl)
theorem dL_law_710 : decode cL_law 710 = .ok (.if_icmp .eq 5, 3) := dk_159 0 5 (dk_at dksL_law_22 16 rfl rfl)
theorem dL_law_713 : decode cL_law 713 = .ok (.iconst 0, 1) := dk_3 (dk_at dksL_law_22 19 rfl rfl)
theorem dL_law_714 : decode cL_law 714 = .ok (.ireturn, 1) := dk_172 (dk_at dksL_law_22 20 rfl rfl)
theorem dL_law_715 : decode cL_law 715 = .ok (.iload 5, 2) := dk_21 5 (dk_at dksL_law_22 21 rfl rfl)
theorem dL_law_717 : decode cL_law 717 = .ok (.ifCond .ne 15, 3) := dk_154 0 15 (dk_at dksL_law_23 0 rfl rfl)
theorem dL_law_720 : decode cL_law 720 = .ok (.aload_n 3, 1) := dk_45 (dk_at dksL_law_23 3 rfl rfl)
theorem dL_law_721 : decode cL_law 721 = .ok (.iconst 0, 1) := dk_3 (dk_at dksL_law_23 4 rfl rfl)
theorem dL_law_722 : decode cL_law 722 = .ok (.laload, 1) := dk_47 (dk_at dksL_law_23 5 rfl rfl)
theorem dL_law_723 : decode cL_law 723 = .ok (.iload 6, 2) := dk_21 6 (dk_at dksL_law_23 6 rfl rfl)
theorem dL_law_725 : decode cL_law 725 = .ok (.i2l, 1) := dk_133 (dk_at dksL_law_23 8 rfl rfl)
theorem dL_law_726 : decode cL_law 726 = .ok (.lcmp, 1) := dk_148 (dk_at dksL_law_23 9 rfl rfl)
theorem dL_law_727 : decode cL_law 727 = .ok (.ifCond .eq 5, 3) := dk_153 0 5 (dk_at dksL_law_23 10 rfl rfl)
theorem dL_law_730 : decode cL_law 730 = .ok (.iconst 0, 1) := dk_3 (dk_at dksL_law_23 13 rfl rfl)
theorem dL_law_731 : decode cL_law 731 = .ok (.ireturn, 1) := dk_172 (dk_at dksL_law_23 14 rfl rfl)
theorem dL_law_732 : decode cL_law 732 = .ok (.goto 1988, 3) := dk_167 7 196 (dk_at dksL_law_23 15 rfl rfl)
theorem dL_law_735 : decode cL_law 735 = .ok (.aload_n 1, 1) := dk_43 (dk_at dksL_law_23 18 rfl rfl)
theorem dL_law_736 : decode cL_law 736 = .ok (.aload_n 0, 1) := dk_42 (dk_at dksL_law_23 19 rfl rfl)
theorem dL_law_737 : decode cL_law 737 = .ok (.iload 4, 2) := dk_21 4 (dk_at dksL_law_23 20 rfl rfl)
theorem dL_law_739 : decode cL_law 739 = .ok (.iconst 1, 1) := dk_4 (dk_at dksL_law_23 22 rfl rfl)
theorem dL_law_740 : decode cL_law 740 = .ok (.iadd, 1) := dk_96 (dk_at dksL_law_23 23 rfl rfl)
theorem dL_law_741 : decode cL_law 741 = .ok (.iaload, 1) := dk_46 (dk_at dksL_law_24 0 rfl rfl)
theorem dL_law_742 : decode cL_law 742 = .ok (.aload_n 0, 1) := dk_42 (dk_at dksL_law_24 1 rfl rfl)
theorem dL_law_743 : decode cL_law 743 = .ok (.iload 4, 2) := dk_21 4 (dk_at dksL_law_24 2 rfl rfl)
theorem dL_law_745 : decode cL_law 745 = .ok (.iconst 2, 1) := dk_5 (dk_at dksL_law_24 4 rfl rfl)
theorem dL_law_746 : decode cL_law 746 = .ok (.iadd, 1) := dk_96 (dk_at dksL_law_24 5 rfl rfl)
theorem dL_law_747 : decode cL_law 747 = .ok (.iaload, 1) := dk_46 (dk_at dksL_law_24 6 rfl rfl)
theorem dL_law_748 : decode cL_law 748 = .ok (.aload_n 3, 1) := dk_45 (dk_at dksL_law_24 7 rfl rfl)
theorem dL_law_749 : decode cL_law 749 = .ok (.invokestatic 169, 3) := dk_184 0 169 (dk_at dksL_law_24 8 rfl rfl)
theorem dL_law_752 : decode cL_law 752 = .ok (.istore 5, 2) := dk_54 5 (dk_at dksL_law_24 11 rfl rfl)
theorem dL_law_754 : decode cL_law 754 = .ok (.aload_n 2, 1) := dk_44 (dk_at dksL_law_24 13 rfl rfl)
theorem dL_law_755 : decode cL_law 755 = .ok (.aload_n 0, 1) := dk_42 (dk_at dksL_law_24 14 rfl rfl)
theorem dL_law_756 : decode cL_law 756 = .ok (.iload 4, 2) := dk_21 4 (dk_at dksL_law_24 15 rfl rfl)
theorem dL_law_758 : decode cL_law 758 = .ok (.iconst 1, 1) := dk_4 (dk_at dksL_law_24 17 rfl rfl)
theorem dL_law_759 : decode cL_law 759 = .ok (.iadd, 1) := dk_96 (dk_at dksL_law_24 18 rfl rfl)
theorem dL_law_760 : decode cL_law 760 = .ok (.iaload, 1) := dk_46 (dk_at dksL_law_24 19 rfl rfl)
theorem dL_law_761 : decode cL_law 761 = .ok (.aload_n 0, 1) := dk_42 (dk_at dksL_law_24 20 rfl rfl)
theorem dL_law_762 : decode cL_law 762 = .ok (.iload 4, 2) := dk_21 4 (dk_at dksL_law_24 21 rfl rfl)
theorem dL_law_764 : decode cL_law 764 = .ok (.iconst 2, 1) := dk_5 (dk_at dksL_law_24 23 rfl rfl)
theorem dL_law_765 : decode cL_law 765 = .ok (.iadd, 1) := dk_96 (dk_at dksL_law_25 0 rfl rfl)
theorem dL_law_766 : decode cL_law 766 = .ok (.iaload, 1) := dk_46 (dk_at dksL_law_25 1 rfl rfl)
theorem dL_law_767 : decode cL_law 767 = .ok (.invokevirtual 171, 3) := dk_182 0 171 (dk_at dksL_law_25 2 rfl rfl)
theorem dL_law_770 : decode cL_law 770 = .ok (.istore 6, 2) := dk_54 6 (dk_at dksL_law_25 5 rfl rfl)
theorem dL_law_772 : decode cL_law 772 = .ok (.aload_n 2, 1) := dk_44 (dk_at dksL_law_25 7 rfl rfl)
theorem dL_law_773 : decode cL_law 773 = .ok (.invokevirtual 145, 3) := dk_182 0 145 (dk_at dksL_law_25 8 rfl rfl)
theorem dL_law_776 : decode cL_law 776 = .ok (.iload 5, 2) := dk_21 5 (dk_at dksL_law_25 11 rfl rfl)
theorem dL_law_778 : decode cL_law 778 = .ok (.if_icmp .eq 5, 3) := dk_159 0 5 (dk_at dksL_law_25 13 rfl rfl)
theorem dL_law_781 : decode cL_law 781 = .ok (.iconst 0, 1) := dk_3 (dk_at dksL_law_25 16 rfl rfl)
theorem dL_law_782 : decode cL_law 782 = .ok (.ireturn, 1) := dk_172 (dk_at dksL_law_25 17 rfl rfl)
theorem dL_law_783 : decode cL_law 783 = .ok (.iload 5, 2) := dk_21 5 (dk_at dksL_law_25 18 rfl rfl)
theorem dL_law_785 : decode cL_law 785 = .ok (.ifCond .ne 15, 3) := dk_154 0 15 (dk_at dksL_law_25 20 rfl rfl)
theorem dL_law_788 : decode cL_law 788 = .ok (.aload_n 3, 1) := dk_45 (dk_at dksL_law_25 23 rfl rfl)
theorem dL_law_789 : decode cL_law 789 = .ok (.iconst 0, 1) := dk_3 (dk_at dksL_law_26 0 rfl rfl)
theorem dL_law_790 : decode cL_law 790 = .ok (.laload, 1) := dk_47 (dk_at dksL_law_26 1 rfl rfl)
theorem dL_law_791 : decode cL_law 791 = .ok (.iload 6, 2) := dk_21 6 (dk_at dksL_law_26 2 rfl rfl)
theorem dL_law_793 : decode cL_law 793 = .ok (.i2l, 1) := dk_133 (dk_at dksL_law_26 4 rfl rfl)
theorem dL_law_794 : decode cL_law 794 = .ok (.lcmp, 1) := dk_148 (dk_at dksL_law_26 5 rfl rfl)
theorem dL_law_795 : decode cL_law 795 = .ok (.ifCond .eq 5, 3) := dk_153 0 5 (dk_at dksL_law_26 6 rfl rfl)
theorem dL_law_798 : decode cL_law 798 = .ok (.iconst 0, 1) := dk_3 (dk_at dksL_law_26 9 rfl rfl)
theorem dL_law_799 : decode cL_law 799 = .ok (.ireturn, 1) := dk_172 (dk_at dksL_law_26 10 rfl rfl)
theorem dL_law_800 : decode cL_law 800 = .ok (.goto 1920, 3) := dk_167 7 128 (dk_at dksL_law_26 11 rfl rfl)
theorem dL_law_803 : decode cL_law 803 = .ok (.aload_n 1, 1) := dk_43 (dk_at dksL_law_26 14 rfl rfl)
theorem dL_law_804 : decode cL_law 804 = .ok (.aload_n 0, 1) := dk_42 (dk_at dksL_law_26 15 rfl rfl)
theorem dL_law_805 : decode cL_law 805 = .ok (.iload 4, 2) := dk_21 4 (dk_at dksL_law_26 16 rfl rfl)
theorem dL_law_807 : decode cL_law 807 = .ok (.iconst 1, 1) := dk_4 (dk_at dksL_law_26 18 rfl rfl)
theorem dL_law_808 : decode cL_law 808 = .ok (.iadd, 1) := dk_96 (dk_at dksL_law_26 19 rfl rfl)
theorem dL_law_809 : decode cL_law 809 = .ok (.iaload, 1) := dk_46 (dk_at dksL_law_26 20 rfl rfl)
theorem dL_law_810 : decode cL_law 810 = .ok (.aload_n 0, 1) := dk_42 (dk_at dksL_law_26 21 rfl rfl)
theorem dL_law_811 : decode cL_law 811 = .ok (.iload 4, 2) := dk_21 4 (dk_at dksL_law_26 22 rfl rfl)
theorem dL_law_813 : decode cL_law 813 = .ok (.iconst 2, 1) := dk_5 (dk_at dksL_law_27 0 rfl rfl)
theorem dL_law_814 : decode cL_law 814 = .ok (.iadd, 1) := dk_96 (dk_at dksL_law_27 1 rfl rfl)
theorem dL_law_815 : decode cL_law 815 = .ok (.iaload, 1) := dk_46 (dk_at dksL_law_27 2 rfl rfl)
theorem dL_law_816 : decode cL_law 816 = .ok (.aload_n 3, 1) := dk_45 (dk_at dksL_law_27 3 rfl rfl)
theorem dL_law_817 : decode cL_law 817 = .ok (.invokestatic 172, 3) := dk_184 0 172 (dk_at dksL_law_27 4 rfl rfl)
theorem dL_law_820 : decode cL_law 820 = .ok (.istore 5, 2) := dk_54 5 (dk_at dksL_law_27 7 rfl rfl)
theorem dL_law_822 : decode cL_law 822 = .ok (.aload_n 2, 1) := dk_44 (dk_at dksL_law_27 9 rfl rfl)
theorem dL_law_823 : decode cL_law 823 = .ok (.aload_n 0, 1) := dk_42 (dk_at dksL_law_27 10 rfl rfl)
theorem dL_law_824 : decode cL_law 824 = .ok (.iload 4, 2) := dk_21 4 (dk_at dksL_law_27 11 rfl rfl)
theorem dL_law_826 : decode cL_law 826 = .ok (.iconst 1, 1) := dk_4 (dk_at dksL_law_27 13 rfl rfl)
theorem dL_law_827 : decode cL_law 827 = .ok (.iadd, 1) := dk_96 (dk_at dksL_law_27 14 rfl rfl)
theorem dL_law_828 : decode cL_law 828 = .ok (.iaload, 1) := dk_46 (dk_at dksL_law_27 15 rfl rfl)
theorem dL_law_829 : decode cL_law 829 = .ok (.aload_n 0, 1) := dk_42 (dk_at dksL_law_27 16 rfl rfl)
theorem dL_law_830 : decode cL_law 830 = .ok (.iload 4, 2) := dk_21 4 (dk_at dksL_law_27 17 rfl rfl)
theorem dL_law_832 : decode cL_law 832 = .ok (.iconst 2, 1) := dk_5 (dk_at dksL_law_27 19 rfl rfl)
theorem dL_law_833 : decode cL_law 833 = .ok (.iadd, 1) := dk_96 (dk_at dksL_law_27 20 rfl rfl)
theorem dL_law_834 : decode cL_law 834 = .ok (.iaload, 1) := dk_46 (dk_at dksL_law_27 21 rfl rfl)
theorem dL_law_835 : decode cL_law 835 = .ok (.invokevirtual 174, 3) := dk_182 0 174 (dk_at dksL_law_28 0 rfl rfl)
theorem dL_law_838 : decode cL_law 838 = .ok (.istore 6, 2) := dk_54 6 (dk_at dksL_law_28 3 rfl rfl)
theorem dL_law_840 : decode cL_law 840 = .ok (.aload_n 2, 1) := dk_44 (dk_at dksL_law_28 5 rfl rfl)
theorem dL_law_841 : decode cL_law 841 = .ok (.invokevirtual 145, 3) := dk_182 0 145 (dk_at dksL_law_28 6 rfl rfl)
theorem dL_law_844 : decode cL_law 844 = .ok (.iload 5, 2) := dk_21 5 (dk_at dksL_law_28 9 rfl rfl)
theorem dL_law_846 : decode cL_law 846 = .ok (.if_icmp .eq 5, 3) := dk_159 0 5 (dk_at dksL_law_28 11 rfl rfl)
theorem dL_law_849 : decode cL_law 849 = .ok (.iconst 0, 1) := dk_3 (dk_at dksL_law_28 14 rfl rfl)
theorem dL_law_850 : decode cL_law 850 = .ok (.ireturn, 1) := dk_172 (dk_at dksL_law_28 15 rfl rfl)
theorem dL_law_851 : decode cL_law 851 = .ok (.iload 5, 2) := dk_21 5 (dk_at dksL_law_28 16 rfl rfl)
theorem dL_law_853 : decode cL_law 853 = .ok (.ifCond .ne 15, 3) := dk_154 0 15 (dk_at dksL_law_28 18 rfl rfl)
theorem dL_law_856 : decode cL_law 856 = .ok (.aload_n 3, 1) := dk_45 (dk_at dksL_law_28 21 rfl rfl)
theorem dL_law_857 : decode cL_law 857 = .ok (.iconst 0, 1) := dk_3 (dk_at dksL_law_28 22 rfl rfl)
theorem dL_law_858 : decode cL_law 858 = .ok (.laload, 1) := dk_47 (dk_at dksL_law_28 23 rfl rfl)
theorem dL_law_859 : decode cL_law 859 = .ok (.iload 6, 2) := dk_21 6 (dk_at dksL_law_29 0 rfl rfl)
theorem dL_law_861 : decode cL_law 861 = .ok (.i2l, 1) := dk_133 (dk_at dksL_law_29 2 rfl rfl)
theorem dL_law_862 : decode cL_law 862 = .ok (.lcmp, 1) := dk_148 (dk_at dksL_law_29 3 rfl rfl)
theorem dL_law_863 : decode cL_law 863 = .ok (.ifCond .eq 5, 3) := dk_153 0 5 (dk_at dksL_law_29 4 rfl rfl)
theorem dL_law_866 : decode cL_law 866 = .ok (.iconst 0, 1) := dk_3 (dk_at dksL_law_29 7 rfl rfl)
theorem dL_law_867 : decode cL_law 867 = .ok (.ireturn, 1) := dk_172 (dk_at dksL_law_29 8 rfl rfl)
theorem dL_law_868 : decode cL_law 868 = .ok (.goto 1852, 3) := dk_167 7 60 (dk_at dksL_law_29 9 rfl rfl)
theorem dL_law_871 : decode cL_law 871 = .ok (.aload_n 1, 1) := dk_43 (dk_at dksL_law_29 12 rfl rfl)
theorem dL_law_872 : decode cL_law 872 = .ok (.aload_n 0, 1) := dk_42 (dk_at dksL_law_29 13 rfl rfl)
theorem dL_law_873 : decode cL_law 873 = .ok (.iload 4, 2) := dk_21 4 (dk_at dksL_law_29 14 rfl rfl)
theorem dL_law_875 : decode cL_law 875 = .ok (.iconst 1, 1) := dk_4 (dk_at dksL_law_29 16 rfl rfl)
theorem dL_law_876 : decode cL_law 876 = .ok (.iadd, 1) := dk_96 (dk_at dksL_law_29 17 rfl rfl)
theorem dL_law_877 : decode cL_law 877 = .ok (.iaload, 1) := dk_46 (dk_at dksL_law_29 18 rfl rfl)
theorem dL_law_878 : decode cL_law 878 = .ok (.aload_n 3, 1) := dk_45 (dk_at dksL_law_29 19 rfl rfl)
theorem dL_law_879 : decode cL_law 879 = .ok (.invokestatic 175, 3) := dk_184 0 175 (dk_at dksL_law_29 20 rfl rfl)
theorem dL_law_882 : decode cL_law 882 = .ok (.istore 5, 2) := dk_54 5 (dk_at dksL_law_30 0 rfl rfl)
theorem dL_law_884 : decode cL_law 884 = .ok (.aload_n 2, 1) := dk_44 (dk_at dksL_law_30 2 rfl rfl)
theorem dL_law_885 : decode cL_law 885 = .ok (.aload_n 0, 1) := dk_42 (dk_at dksL_law_30 3 rfl rfl)
theorem dL_law_886 : decode cL_law 886 = .ok (.iload 4, 2) := dk_21 4 (dk_at dksL_law_30 4 rfl rfl)
theorem dL_law_888 : decode cL_law 888 = .ok (.iconst 1, 1) := dk_4 (dk_at dksL_law_30 6 rfl rfl)
theorem dL_law_889 : decode cL_law 889 = .ok (.iadd, 1) := dk_96 (dk_at dksL_law_30 7 rfl rfl)
theorem dL_law_890 : decode cL_law 890 = .ok (.iaload, 1) := dk_46 (dk_at dksL_law_30 8 rfl rfl)
theorem dL_law_891 : decode cL_law 891 = .ok (.invokevirtual 178, 3) := dk_182 0 178 (dk_at dksL_law_30 9 rfl rfl)
theorem dL_law_894 : decode cL_law 894 = .ok (.istore 6, 2) := dk_54 6 (dk_at dksL_law_30 12 rfl rfl)
theorem dL_law_896 : decode cL_law 896 = .ok (.aload_n 2, 1) := dk_44 (dk_at dksL_law_30 14 rfl rfl)
theorem dL_law_897 : decode cL_law 897 = .ok (.invokevirtual 145, 3) := dk_182 0 145 (dk_at dksL_law_30 15 rfl rfl)
theorem dL_law_900 : decode cL_law 900 = .ok (.iload 5, 2) := dk_21 5 (dk_at dksL_law_30 18 rfl rfl)
theorem dL_law_902 : decode cL_law 902 = .ok (.if_icmp .eq 5, 3) := dk_159 0 5 (dk_at dksL_law_30 20 rfl rfl)
theorem dL_law_905 : decode cL_law 905 = .ok (.iconst 0, 1) := dk_3 (dk_at dksL_law_30 23 rfl rfl)
theorem dL_law_906 : decode cL_law 906 = .ok (.ireturn, 1) := dk_172 (dk_at dksL_law_31 0 rfl rfl)
theorem dL_law_907 : decode cL_law 907 = .ok (.iload 5, 2) := dk_21 5 (dk_at dksL_law_31 1 rfl rfl)
theorem dL_law_909 : decode cL_law 909 = .ok (.ifCond .ne 15, 3) := dk_154 0 15 (dk_at dksL_law_31 3 rfl rfl)
theorem dL_law_912 : decode cL_law 912 = .ok (.aload_n 3, 1) := dk_45 (dk_at dksL_law_31 6 rfl rfl)
theorem dL_law_913 : decode cL_law 913 = .ok (.iconst 0, 1) := dk_3 (dk_at dksL_law_31 7 rfl rfl)
theorem dL_law_914 : decode cL_law 914 = .ok (.laload, 1) := dk_47 (dk_at dksL_law_31 8 rfl rfl)
theorem dL_law_915 : decode cL_law 915 = .ok (.iload 6, 2) := dk_21 6 (dk_at dksL_law_31 9 rfl rfl)
theorem dL_law_917 : decode cL_law 917 = .ok (.i2l, 1) := dk_133 (dk_at dksL_law_31 11 rfl rfl)
theorem dL_law_918 : decode cL_law 918 = .ok (.lcmp, 1) := dk_148 (dk_at dksL_law_31 12 rfl rfl)
theorem dL_law_919 : decode cL_law 919 = .ok (.ifCond .eq 5, 3) := dk_153 0 5 (dk_at dksL_law_31 13 rfl rfl)
theorem dL_law_922 : decode cL_law 922 = .ok (.iconst 0, 1) := dk_3 (dk_at dksL_law_31 16 rfl rfl)
theorem dL_law_923 : decode cL_law 923 = .ok (.ireturn, 1) := dk_172 (dk_at dksL_law_31 17 rfl rfl)
theorem dL_law_924 : decode cL_law 924 = .ok (.goto 1796, 3) := dk_167 7 4 (dk_at dksL_law_31 18 rfl rfl)
theorem dL_law_927 : decode cL_law 927 = .ok (.aload_n 1, 1) := dk_43 (dk_at dksL_law_31 21 rfl rfl)
theorem dL_law_928 : decode cL_law 928 = .ok (.aload_n 0, 1) := dk_42 (dk_at dksL_law_31 22 rfl rfl)
theorem dL_law_929 : decode cL_law 929 = .ok (.iload 4, 2) := dk_21 4 (dk_at dksL_law_32 0 rfl rfl)
theorem dL_law_931 : decode cL_law 931 = .ok (.iconst 1, 1) := dk_4 (dk_at dksL_law_32 2 rfl rfl)
theorem dL_law_932 : decode cL_law 932 = .ok (.iadd, 1) := dk_96 (dk_at dksL_law_32 3 rfl rfl)
theorem dL_law_933 : decode cL_law 933 = .ok (.iaload, 1) := dk_46 (dk_at dksL_law_32 4 rfl rfl)
theorem dL_law_934 : decode cL_law 934 = .ok (.aload_n 3, 1) := dk_45 (dk_at dksL_law_32 5 rfl rfl)
theorem dL_law_935 : decode cL_law 935 = .ok (.invokestatic 179, 3) := dk_184 0 179 (dk_at dksL_law_32 6 rfl rfl)
theorem dL_law_938 : decode cL_law 938 = .ok (.istore 5, 2) := dk_54 5 (dk_at dksL_law_32 9 rfl rfl)
theorem dL_law_940 : decode cL_law 940 = .ok (.aload_n 2, 1) := dk_44 (dk_at dksL_law_32 11 rfl rfl)
theorem dL_law_941 : decode cL_law 941 = .ok (.aload_n 0, 1) := dk_42 (dk_at dksL_law_32 12 rfl rfl)
theorem dL_law_942 : decode cL_law 942 = .ok (.iload 4, 2) := dk_21 4 (dk_at dksL_law_32 13 rfl rfl)
theorem dL_law_944 : decode cL_law 944 = .ok (.iconst 1, 1) := dk_4 (dk_at dksL_law_32 15 rfl rfl)
theorem dL_law_945 : decode cL_law 945 = .ok (.iadd, 1) := dk_96 (dk_at dksL_law_32 16 rfl rfl)
theorem dL_law_946 : decode cL_law 946 = .ok (.iaload, 1) := dk_46 (dk_at dksL_law_32 17 rfl rfl)
theorem dL_law_947 : decode cL_law 947 = .ok (.invokevirtual 181, 3) := dk_182 0 181 (dk_at dksL_law_32 18 rfl rfl)
theorem dL_law_950 : decode cL_law 950 = .ok (.istore 6, 2) := dk_54 6 (dk_at dksL_law_32 21 rfl rfl)
theorem dL_law_952 : decode cL_law 952 = .ok (.aload_n 2, 1) := dk_44 (dk_at dksL_law_32 23 rfl rfl)
theorem dL_law_953 : decode cL_law 953 = .ok (.invokevirtual 145, 3) := dk_182 0 145 (dk_at dksL_law_33 0 rfl rfl)
theorem dL_law_956 : decode cL_law 956 = .ok (.iload 5, 2) := dk_21 5 (dk_at dksL_law_33 3 rfl rfl)
theorem dL_law_958 : decode cL_law 958 = .ok (.if_icmp .eq 5, 3) := dk_159 0 5 (dk_at dksL_law_33 5 rfl rfl)
theorem dL_law_961 : decode cL_law 961 = .ok (.iconst 0, 1) := dk_3 (dk_at dksL_law_33 8 rfl rfl)
theorem dL_law_962 : decode cL_law 962 = .ok (.ireturn, 1) := dk_172 (dk_at dksL_law_33 9 rfl rfl)
theorem dL_law_963 : decode cL_law 963 = .ok (.iload 5, 2) := dk_21 5 (dk_at dksL_law_33 10 rfl rfl)
theorem dL_law_965 : decode cL_law 965 = .ok (.ifCond .ne 15, 3) := dk_154 0 15 (dk_at dksL_law_33 12 rfl rfl)
theorem dL_law_968 : decode cL_law 968 = .ok (.aload_n 3, 1) := dk_45 (dk_at dksL_law_33 15 rfl rfl)
theorem dL_law_969 : decode cL_law 969 = .ok (.iconst 0, 1) := dk_3 (dk_at dksL_law_33 16 rfl rfl)
theorem dL_law_970 : decode cL_law 970 = .ok (.laload, 1) := dk_47 (dk_at dksL_law_33 17 rfl rfl)
theorem dL_law_971 : decode cL_law 971 = .ok (.iload 6, 2) := dk_21 6 (dk_at dksL_law_33 18 rfl rfl)
theorem dL_law_973 : decode cL_law 973 = .ok (.i2l, 1) := dk_133 (dk_at dksL_law_33 20 rfl rfl)
theorem dL_law_974 : decode cL_law 974 = .ok (.lcmp, 1) := dk_148 (dk_at dksL_law_33 21 rfl rfl)
theorem dL_law_975 : decode cL_law 975 = .ok (.ifCond .eq 5, 3) := dk_153 0 5 (dk_at dksL_law_34 0 rfl rfl)
theorem dL_law_978 : decode cL_law 978 = .ok (.iconst 0, 1) := dk_3 (dk_at dksL_law_34 3 rfl rfl)
theorem dL_law_979 : decode cL_law 979 = .ok (.ireturn, 1) := dk_172 (dk_at dksL_law_34 4 rfl rfl)
theorem dL_law_980 : decode cL_law 980 = .ok (.goto 1740, 3) := dk_167 6 204 (dk_at dksL_law_34 5 rfl rfl)
theorem dL_law_983 : decode cL_law 983 = .ok (.aload_n 1, 1) := dk_43 (dk_at dksL_law_34 8 rfl rfl)
theorem dL_law_984 : decode cL_law 984 = .ok (.aload_n 0, 1) := dk_42 (dk_at dksL_law_34 9 rfl rfl)
theorem dL_law_985 : decode cL_law 985 = .ok (.iload 4, 2) := dk_21 4 (dk_at dksL_law_34 10 rfl rfl)
theorem dL_law_987 : decode cL_law 987 = .ok (.iconst 1, 1) := dk_4 (dk_at dksL_law_34 12 rfl rfl)
theorem dL_law_988 : decode cL_law 988 = .ok (.iadd, 1) := dk_96 (dk_at dksL_law_34 13 rfl rfl)
theorem dL_law_989 : decode cL_law 989 = .ok (.iaload, 1) := dk_46 (dk_at dksL_law_34 14 rfl rfl)
theorem dL_law_990 : decode cL_law 990 = .ok (.aload_n 3, 1) := dk_45 (dk_at dksL_law_34 15 rfl rfl)
theorem dL_law_991 : decode cL_law 991 = .ok (.invokestatic 182, 3) := dk_184 0 182 (dk_at dksL_law_34 16 rfl rfl)
theorem dL_law_994 : decode cL_law 994 = .ok (.istore 5, 2) := dk_54 5 (dk_at dksL_law_34 19 rfl rfl)
theorem dL_law_996 : decode cL_law 996 = .ok (.aload_n 2, 1) := dk_44 (dk_at dksL_law_34 21 rfl rfl)
theorem dL_law_997 : decode cL_law 997 = .ok (.aload_n 0, 1) := dk_42 (dk_at dksL_law_34 22 rfl rfl)
theorem dL_law_998 : decode cL_law 998 = .ok (.iload 4, 2) := dk_21 4 (dk_at dksL_law_35 0 rfl rfl)
theorem dL_law_1000 : decode cL_law 1000 = .ok (.iconst 1, 1) := dk_4 (dk_at dksL_law_35 2 rfl rfl)
theorem dL_law_1001 : decode cL_law 1001 = .ok (.iadd, 1) := dk_96 (dk_at dksL_law_35 3 rfl rfl)
theorem dL_law_1002 : decode cL_law 1002 = .ok (.iaload, 1) := dk_46 (dk_at dksL_law_35 4 rfl rfl)
theorem dL_law_1003 : decode cL_law 1003 = .ok (.invokevirtual 184, 3) := dk_182 0 184 (dk_at dksL_law_35 5 rfl rfl)
theorem dL_law_1006 : decode cL_law 1006 = .ok (.istore 6, 2) := dk_54 6 (dk_at dksL_law_35 8 rfl rfl)
theorem dL_law_1008 : decode cL_law 1008 = .ok (.aload_n 2, 1) := dk_44 (dk_at dksL_law_35 10 rfl rfl)
theorem dL_law_1009 : decode cL_law 1009 = .ok (.invokevirtual 145, 3) := dk_182 0 145 (dk_at dksL_law_35 11 rfl rfl)
theorem dL_law_1012 : decode cL_law 1012 = .ok (.iload 5, 2) := dk_21 5 (dk_at dksL_law_35 14 rfl rfl)
theorem dL_law_1014 : decode cL_law 1014 = .ok (.if_icmp .eq 5, 3) := dk_159 0 5 (dk_at dksL_law_35 16 rfl rfl)
theorem dL_law_1017 : decode cL_law 1017 = .ok (.iconst 0, 1) := dk_3 (dk_at dksL_law_35 19 rfl rfl)
theorem dL_law_1018 : decode cL_law 1018 = .ok (.ireturn, 1) := dk_172 (dk_at dksL_law_35 20 rfl rfl)
theorem dL_law_1019 : decode cL_law 1019 = .ok (.iload 5, 2) := dk_21 5 (dk_at dksL_law_35 21 rfl rfl)
theorem dL_law_1021 : decode cL_law 1021 = .ok (.ifCond .ne 15, 3) := dk_154 0 15 (dk_at dksL_law_36 0 rfl rfl)
theorem dL_law_1024 : decode cL_law 1024 = .ok (.aload_n 3, 1) := dk_45 (dk_at dksL_law_36 3 rfl rfl)
theorem dL_law_1025 : decode cL_law 1025 = .ok (.iconst 0, 1) := dk_3 (dk_at dksL_law_36 4 rfl rfl)
theorem dL_law_1026 : decode cL_law 1026 = .ok (.laload, 1) := dk_47 (dk_at dksL_law_36 5 rfl rfl)
theorem dL_law_1027 : decode cL_law 1027 = .ok (.iload 6, 2) := dk_21 6 (dk_at dksL_law_36 6 rfl rfl)
theorem dL_law_1029 : decode cL_law 1029 = .ok (.i2l, 1) := dk_133 (dk_at dksL_law_36 8 rfl rfl)
theorem dL_law_1030 : decode cL_law 1030 = .ok (.lcmp, 1) := dk_148 (dk_at dksL_law_36 9 rfl rfl)
theorem dL_law_1031 : decode cL_law 1031 = .ok (.ifCond .eq 5, 3) := dk_153 0 5 (dk_at dksL_law_36 10 rfl rfl)
theorem dL_law_1034 : decode cL_law 1034 = .ok (.iconst 0, 1) := dk_3 (dk_at dksL_law_36 13 rfl rfl)
theorem dL_law_1035 : decode cL_law 1035 = .ok (.ireturn, 1) := dk_172 (dk_at dksL_law_36 14 rfl rfl)
theorem dL_law_1036 : decode cL_law 1036 = .ok (.goto 1684, 3) := dk_167 6 148 (dk_at dksL_law_36 15 rfl rfl)
theorem dL_law_1039 : decode cL_law 1039 = .ok (.aload_n 1, 1) := dk_43 (dk_at dksL_law_36 18 rfl rfl)
theorem dL_law_1040 : decode cL_law 1040 = .ok (.aload_n 0, 1) := dk_42 (dk_at dksL_law_36 19 rfl rfl)
theorem dL_law_1041 : decode cL_law 1041 = .ok (.iload 4, 2) := dk_21 4 (dk_at dksL_law_36 20 rfl rfl)
theorem dL_law_1043 : decode cL_law 1043 = .ok (.iconst 1, 1) := dk_4 (dk_at dksL_law_36 22 rfl rfl)
theorem dL_law_1044 : decode cL_law 1044 = .ok (.iadd, 1) := dk_96 (dk_at dksL_law_36 23 rfl rfl)
theorem dL_law_1045 : decode cL_law 1045 = .ok (.iaload, 1) := dk_46 (dk_at dksL_law_37 0 rfl rfl)
theorem dL_law_1046 : decode cL_law 1046 = .ok (.aload_n 0, 1) := dk_42 (dk_at dksL_law_37 1 rfl rfl)
theorem dL_law_1047 : decode cL_law 1047 = .ok (.iload 4, 2) := dk_21 4 (dk_at dksL_law_37 2 rfl rfl)
theorem dL_law_1049 : decode cL_law 1049 = .ok (.iconst 2, 1) := dk_5 (dk_at dksL_law_37 4 rfl rfl)
theorem dL_law_1050 : decode cL_law 1050 = .ok (.iadd, 1) := dk_96 (dk_at dksL_law_37 5 rfl rfl)
theorem dL_law_1051 : decode cL_law 1051 = .ok (.iaload, 1) := dk_46 (dk_at dksL_law_37 6 rfl rfl)
theorem dL_law_1052 : decode cL_law 1052 = .ok (.ifCond .eq 7, 3) := dk_153 0 7 (dk_at dksL_law_37 7 rfl rfl)
theorem dL_law_1055 : decode cL_law 1055 = .ok (.iconst 1, 1) := dk_4 (dk_at dksL_law_37 10 rfl rfl)
theorem dL_law_1056 : decode cL_law 1056 = .ok (.goto 4, 3) := dk_167 0 4 (dk_at dksL_law_37 11 rfl rfl)
theorem dL_law_1059 : decode cL_law 1059 = .ok (.iconst 0, 1) := dk_3 (dk_at dksL_law_37 14 rfl rfl)
theorem dL_law_1060 : decode cL_law 1060 = .ok (.aload_n 3, 1) := dk_45 (dk_at dksL_law_37 15 rfl rfl)
theorem dL_law_1061 : decode cL_law 1061 = .ok (.invokestatic 185, 3) := dk_184 0 185 (dk_at dksL_law_37 16 rfl rfl)
theorem dL_law_1064 : decode cL_law 1064 = .ok (.istore 5, 2) := dk_54 5 (dk_at dksL_law_37 19 rfl rfl)
theorem dL_law_1066 : decode cL_law 1066 = .ok (.aload_n 2, 1) := dk_44 (dk_at dksL_law_37 21 rfl rfl)
theorem dL_law_1067 : decode cL_law 1067 = .ok (.aload_n 0, 1) := dk_42 (dk_at dksL_law_37 22 rfl rfl)
theorem dL_law_1068 : decode cL_law 1068 = .ok (.iload 4, 2) := dk_21 4 (dk_at dksL_law_38 0 rfl rfl)
theorem dL_law_1070 : decode cL_law 1070 = .ok (.iconst 1, 1) := dk_4 (dk_at dksL_law_38 2 rfl rfl)
theorem dL_law_1071 : decode cL_law 1071 = .ok (.iadd, 1) := dk_96 (dk_at dksL_law_38 3 rfl rfl)
theorem dL_law_1072 : decode cL_law 1072 = .ok (.iaload, 1) := dk_46 (dk_at dksL_law_38 4 rfl rfl)
theorem dL_law_1073 : decode cL_law 1073 = .ok (.aload_n 0, 1) := dk_42 (dk_at dksL_law_38 5 rfl rfl)
theorem dL_law_1074 : decode cL_law 1074 = .ok (.iload 4, 2) := dk_21 4 (dk_at dksL_law_38 6 rfl rfl)
theorem dL_law_1076 : decode cL_law 1076 = .ok (.iconst 2, 1) := dk_5 (dk_at dksL_law_38 8 rfl rfl)
theorem dL_law_1077 : decode cL_law 1077 = .ok (.iadd, 1) := dk_96 (dk_at dksL_law_38 9 rfl rfl)
theorem dL_law_1078 : decode cL_law 1078 = .ok (.iaload, 1) := dk_46 (dk_at dksL_law_38 10 rfl rfl)
theorem dL_law_1079 : decode cL_law 1079 = .ok (.ifCond .eq 7, 3) := dk_153 0 7 (dk_at dksL_law_38 11 rfl rfl)
theorem dL_law_1082 : decode cL_law 1082 = .ok (.iconst 1, 1) := dk_4 (dk_at dksL_law_38 14 rfl rfl)
theorem dL_law_1083 : decode cL_law 1083 = .ok (.goto 4, 3) := dk_167 0 4 (dk_at dksL_law_38 15 rfl rfl)
theorem dL_law_1086 : decode cL_law 1086 = .ok (.iconst 0, 1) := dk_3 (dk_at dksL_law_38 18 rfl rfl)
theorem dL_law_1087 : decode cL_law 1087 = .ok (.invokevirtual 188, 3) := dk_182 0 188 (dk_at dksL_law_38 19 rfl rfl)
theorem dL_law_1090 : decode cL_law 1090 = .ok (.istore 6, 2) := dk_54 6 (dk_at dksL_law_38 22 rfl rfl)
theorem dL_law_1092 : decode cL_law 1092 = .ok (.aload_n 2, 1) := dk_44 (dk_at dksL_law_39 0 rfl rfl)
theorem dL_law_1093 : decode cL_law 1093 = .ok (.invokevirtual 145, 3) := dk_182 0 145 (dk_at dksL_law_39 1 rfl rfl)
theorem dL_law_1096 : decode cL_law 1096 = .ok (.iload 5, 2) := dk_21 5 (dk_at dksL_law_39 4 rfl rfl)
theorem dL_law_1098 : decode cL_law 1098 = .ok (.if_icmp .eq 5, 3) := dk_159 0 5 (dk_at dksL_law_39 6 rfl rfl)
theorem dL_law_1101 : decode cL_law 1101 = .ok (.iconst 0, 1) := dk_3 (dk_at dksL_law_39 9 rfl rfl)
theorem dL_law_1102 : decode cL_law 1102 = .ok (.ireturn, 1) := dk_172 (dk_at dksL_law_39 10 rfl rfl)
theorem dL_law_1103 : decode cL_law 1103 = .ok (.iload 5, 2) := dk_21 5 (dk_at dksL_law_39 11 rfl rfl)
theorem dL_law_1105 : decode cL_law 1105 = .ok (.ifCond .ne 22, 3) := dk_154 0 22 (dk_at dksL_law_39 13 rfl rfl)
theorem dL_law_1108 : decode cL_law 1108 = .ok (.aload_n 3, 1) := dk_45 (dk_at dksL_law_39 16 rfl rfl)
theorem dL_law_1109 : decode cL_law 1109 = .ok (.iconst 0, 1) := dk_3 (dk_at dksL_law_39 17 rfl rfl)
theorem dL_law_1110 : decode cL_law 1110 = .ok (.laload, 1) := dk_47 (dk_at dksL_law_39 18 rfl rfl)
theorem dL_law_1111 : decode cL_law 1111 = .ok (.iload 6, 2) := dk_21 6 (dk_at dksL_law_39 19 rfl rfl)
theorem dL_law_1113 : decode cL_law 1113 = .ok (.ifCond .eq 7, 3) := dk_153 0 7 (dk_at dksL_law_39 21 rfl rfl)
theorem dL_law_1116 : decode cL_law 1116 = .ok (.lconst 1, 1) := dk_10 (dk_at dksL_law_40 0 rfl rfl)
theorem dL_law_1117 : decode cL_law 1117 = .ok (.goto 4, 3) := dk_167 0 4 (dk_at dksL_law_40 1 rfl rfl)
theorem dL_law_1120 : decode cL_law 1120 = .ok (.lconst 0, 1) := dk_9 (dk_at dksL_law_40 4 rfl rfl)
theorem dL_law_1121 : decode cL_law 1121 = .ok (.lcmp, 1) := dk_148 (dk_at dksL_law_40 5 rfl rfl)
theorem dL_law_1122 : decode cL_law 1122 = .ok (.ifCond .eq 5, 3) := dk_153 0 5 (dk_at dksL_law_40 6 rfl rfl)
theorem dL_law_1125 : decode cL_law 1125 = .ok (.iconst 0, 1) := dk_3 (dk_at dksL_law_40 9 rfl rfl)
theorem dL_law_1126 : decode cL_law 1126 = .ok (.ireturn, 1) := dk_172 (dk_at dksL_law_40 10 rfl rfl)
theorem dL_law_1127 : decode cL_law 1127 = .ok (.goto 1593, 3) := dk_167 6 57 (dk_at dksL_law_40 11 rfl rfl)
theorem dL_law_1130 : decode cL_law 1130 = .ok (.aload_n 1, 1) := dk_43 (dk_at dksL_law_40 14 rfl rfl)
theorem dL_law_1131 : decode cL_law 1131 = .ok (.aload_n 0, 1) := dk_42 (dk_at dksL_law_40 15 rfl rfl)
theorem dL_law_1132 : decode cL_law 1132 = .ok (.iload 4, 2) := dk_21 4 (dk_at dksL_law_40 16 rfl rfl)
theorem dL_law_1134 : decode cL_law 1134 = .ok (.iconst 1, 1) := dk_4 (dk_at dksL_law_40 18 rfl rfl)
theorem dL_law_1135 : decode cL_law 1135 = .ok (.iadd, 1) := dk_96 (dk_at dksL_law_40 19 rfl rfl)
theorem dL_law_1136 : decode cL_law 1136 = .ok (.iaload, 1) := dk_46 (dk_at dksL_law_40 20 rfl rfl)
theorem dL_law_1137 : decode cL_law 1137 = .ok (.aload_n 3, 1) := dk_45 (dk_at dksL_law_40 21 rfl rfl)
theorem dL_law_1138 : decode cL_law 1138 = .ok (.invokestatic 189, 3) := dk_184 0 189 (dk_at dksL_law_41 0 rfl rfl)
theorem dL_law_1141 : decode cL_law 1141 = .ok (.istore 5, 2) := dk_54 5 (dk_at dksL_law_41 3 rfl rfl)
theorem dL_law_1143 : decode cL_law 1143 = .ok (.aload_n 2, 1) := dk_44 (dk_at dksL_law_41 5 rfl rfl)
theorem dL_law_1144 : decode cL_law 1144 = .ok (.aload_n 0, 1) := dk_42 (dk_at dksL_law_41 6 rfl rfl)
theorem dL_law_1145 : decode cL_law 1145 = .ok (.iload 4, 2) := dk_21 4 (dk_at dksL_law_41 7 rfl rfl)
theorem dL_law_1147 : decode cL_law 1147 = .ok (.iconst 1, 1) := dk_4 (dk_at dksL_law_41 9 rfl rfl)
theorem dL_law_1148 : decode cL_law 1148 = .ok (.iadd, 1) := dk_96 (dk_at dksL_law_41 10 rfl rfl)
theorem dL_law_1149 : decode cL_law 1149 = .ok (.iaload, 1) := dk_46 (dk_at dksL_law_41 11 rfl rfl)
theorem dL_law_1150 : decode cL_law 1150 = .ok (.invokevirtual 191, 3) := dk_182 0 191 (dk_at dksL_law_41 12 rfl rfl)
theorem dL_law_1153 : decode cL_law 1153 = .ok (.istore 6, 2) := dk_54 6 (dk_at dksL_law_41 15 rfl rfl)
theorem dL_law_1155 : decode cL_law 1155 = .ok (.aload_n 2, 1) := dk_44 (dk_at dksL_law_41 17 rfl rfl)
theorem dL_law_1156 : decode cL_law 1156 = .ok (.invokevirtual 145, 3) := dk_182 0 145 (dk_at dksL_law_41 18 rfl rfl)
theorem dL_law_1159 : decode cL_law 1159 = .ok (.iload 5, 2) := dk_21 5 (dk_at dksL_law_41 21 rfl rfl)
theorem dL_law_1161 : decode cL_law 1161 = .ok (.if_icmp .eq 5, 3) := dk_159 0 5 (dk_at dksL_law_42 0 rfl rfl)
theorem dL_law_1164 : decode cL_law 1164 = .ok (.iconst 0, 1) := dk_3 (dk_at dksL_law_42 3 rfl rfl)
theorem dL_law_1165 : decode cL_law 1165 = .ok (.ireturn, 1) := dk_172 (dk_at dksL_law_42 4 rfl rfl)
theorem dL_law_1166 : decode cL_law 1166 = .ok (.iload 5, 2) := dk_21 5 (dk_at dksL_law_42 5 rfl rfl)
theorem dL_law_1168 : decode cL_law 1168 = .ok (.ifCond .ne 15, 3) := dk_154 0 15 (dk_at dksL_law_42 7 rfl rfl)
theorem dL_law_1171 : decode cL_law 1171 = .ok (.aload_n 3, 1) := dk_45 (dk_at dksL_law_42 10 rfl rfl)
theorem dL_law_1172 : decode cL_law 1172 = .ok (.iconst 0, 1) := dk_3 (dk_at dksL_law_42 11 rfl rfl)
theorem dL_law_1173 : decode cL_law 1173 = .ok (.laload, 1) := dk_47 (dk_at dksL_law_42 12 rfl rfl)
theorem dL_law_1174 : decode cL_law 1174 = .ok (.iload 6, 2) := dk_21 6 (dk_at dksL_law_42 13 rfl rfl)
theorem dL_law_1176 : decode cL_law 1176 = .ok (.i2l, 1) := dk_133 (dk_at dksL_law_42 15 rfl rfl)
theorem dL_law_1177 : decode cL_law 1177 = .ok (.lcmp, 1) := dk_148 (dk_at dksL_law_42 16 rfl rfl)
theorem dL_law_1178 : decode cL_law 1178 = .ok (.ifCond .eq 5, 3) := dk_153 0 5 (dk_at dksL_law_42 17 rfl rfl)
theorem dL_law_1181 : decode cL_law 1181 = .ok (.iconst 0, 1) := dk_3 (dk_at dksL_law_42 20 rfl rfl)
theorem dL_law_1182 : decode cL_law 1182 = .ok (.ireturn, 1) := dk_172 (dk_at dksL_law_42 21 rfl rfl)
theorem dL_law_1183 : decode cL_law 1183 = .ok (.goto 1537, 3) := dk_167 6 1 (dk_at dksL_law_43 0 rfl rfl)
theorem dL_law_1186 : decode cL_law 1186 = .ok (.aload_n 1, 1) := dk_43 (dk_at dksL_law_43 3 rfl rfl)
theorem dL_law_1187 : decode cL_law 1187 = .ok (.aload_n 0, 1) := dk_42 (dk_at dksL_law_43 4 rfl rfl)
theorem dL_law_1188 : decode cL_law 1188 = .ok (.iload 4, 2) := dk_21 4 (dk_at dksL_law_43 5 rfl rfl)
theorem dL_law_1190 : decode cL_law 1190 = .ok (.iconst 1, 1) := dk_4 (dk_at dksL_law_43 7 rfl rfl)
theorem dL_law_1191 : decode cL_law 1191 = .ok (.iadd, 1) := dk_96 (dk_at dksL_law_43 8 rfl rfl)
theorem dL_law_1192 : decode cL_law 1192 = .ok (.iaload, 1) := dk_46 (dk_at dksL_law_43 9 rfl rfl)
theorem dL_law_1193 : decode cL_law 1193 = .ok (.aload_n 3, 1) := dk_45 (dk_at dksL_law_43 10 rfl rfl)
theorem dL_law_1194 : decode cL_law 1194 = .ok (.invokestatic 192, 3) := dk_184 0 192 (dk_at dksL_law_43 11 rfl rfl)
theorem dL_law_1197 : decode cL_law 1197 = .ok (.istore 5, 2) := dk_54 5 (dk_at dksL_law_43 14 rfl rfl)
theorem dL_law_1199 : decode cL_law 1199 = .ok (.aload_n 2, 1) := dk_44 (dk_at dksL_law_43 16 rfl rfl)
theorem dL_law_1200 : decode cL_law 1200 = .ok (.aload_n 0, 1) := dk_42 (dk_at dksL_law_43 17 rfl rfl)
theorem dL_law_1201 : decode cL_law 1201 = .ok (.iload 4, 2) := dk_21 4 (dk_at dksL_law_43 18 rfl rfl)
theorem dL_law_1203 : decode cL_law 1203 = .ok (.iconst 1, 1) := dk_4 (dk_at dksL_law_43 20 rfl rfl)
theorem dL_law_1204 : decode cL_law 1204 = .ok (.iadd, 1) := dk_96 (dk_at dksL_law_43 21 rfl rfl)
theorem dL_law_1205 : decode cL_law 1205 = .ok (.iaload, 1) := dk_46 (dk_at dksL_law_43 22 rfl rfl)
theorem dL_law_1206 : decode cL_law 1206 = .ok (.invokevirtual 194, 3) := dk_182 0 194 (dk_at dksL_law_44 0 rfl rfl)
theorem dL_law_1209 : decode cL_law 1209 = .ok (.istore 6, 2) := dk_54 6 (dk_at dksL_law_44 3 rfl rfl)
theorem dL_law_1211 : decode cL_law 1211 = .ok (.aload_n 2, 1) := dk_44 (dk_at dksL_law_44 5 rfl rfl)
theorem dL_law_1212 : decode cL_law 1212 = .ok (.invokevirtual 145, 3) := dk_182 0 145 (dk_at dksL_law_44 6 rfl rfl)
theorem dL_law_1215 : decode cL_law 1215 = .ok (.iload 5, 2) := dk_21 5 (dk_at dksL_law_44 9 rfl rfl)
theorem dL_law_1217 : decode cL_law 1217 = .ok (.if_icmp .eq 5, 3) := dk_159 0 5 (dk_at dksL_law_44 11 rfl rfl)
theorem dL_law_1220 : decode cL_law 1220 = .ok (.iconst 0, 1) := dk_3 (dk_at dksL_law_44 14 rfl rfl)
theorem dL_law_1221 : decode cL_law 1221 = .ok (.ireturn, 1) := dk_172 (dk_at dksL_law_44 15 rfl rfl)
theorem dL_law_1222 : decode cL_law 1222 = .ok (.iload 5, 2) := dk_21 5 (dk_at dksL_law_44 16 rfl rfl)
theorem dL_law_1224 : decode cL_law 1224 = .ok (.ifCond .ne 15, 3) := dk_154 0 15 (dk_at dksL_law_44 18 rfl rfl)
theorem dL_law_1227 : decode cL_law 1227 = .ok (.aload_n 3, 1) := dk_45 (dk_at dksL_law_44 21 rfl rfl)
theorem dL_law_1228 : decode cL_law 1228 = .ok (.iconst 0, 1) := dk_3 (dk_at dksL_law_44 22 rfl rfl)
theorem dL_law_1229 : decode cL_law 1229 = .ok (.laload, 1) := dk_47 (dk_at dksL_law_44 23 rfl rfl)
theorem dL_law_1230 : decode cL_law 1230 = .ok (.iload 6, 2) := dk_21 6 (dk_at dksL_law_45 0 rfl rfl)
theorem dL_law_1232 : decode cL_law 1232 = .ok (.i2l, 1) := dk_133 (dk_at dksL_law_45 2 rfl rfl)
theorem dL_law_1233 : decode cL_law 1233 = .ok (.lcmp, 1) := dk_148 (dk_at dksL_law_45 3 rfl rfl)
theorem dL_law_1234 : decode cL_law 1234 = .ok (.ifCond .eq 5, 3) := dk_153 0 5 (dk_at dksL_law_45 4 rfl rfl)
theorem dL_law_1237 : decode cL_law 1237 = .ok (.iconst 0, 1) := dk_3 (dk_at dksL_law_45 7 rfl rfl)
theorem dL_law_1238 : decode cL_law 1238 = .ok (.ireturn, 1) := dk_172 (dk_at dksL_law_45 8 rfl rfl)
theorem dL_law_1239 : decode cL_law 1239 = .ok (.goto 1481, 3) := dk_167 5 201 (dk_at dksL_law_45 9 rfl rfl)
theorem dL_law_1242 : decode cL_law 1242 = .ok (.aload_n 1, 1) := dk_43 (dk_at dksL_law_45 12 rfl rfl)
theorem dL_law_1243 : decode cL_law 1243 = .ok (.aload_n 0, 1) := dk_42 (dk_at dksL_law_45 13 rfl rfl)
theorem dL_law_1244 : decode cL_law 1244 = .ok (.iload 4, 2) := dk_21 4 (dk_at dksL_law_45 14 rfl rfl)
theorem dL_law_1246 : decode cL_law 1246 = .ok (.iconst 1, 1) := dk_4 (dk_at dksL_law_45 16 rfl rfl)
theorem dL_law_1247 : decode cL_law 1247 = .ok (.iadd, 1) := dk_96 (dk_at dksL_law_45 17 rfl rfl)
theorem dL_law_1248 : decode cL_law 1248 = .ok (.iaload, 1) := dk_46 (dk_at dksL_law_45 18 rfl rfl)
theorem dL_law_1249 : decode cL_law 1249 = .ok (.aload_n 0, 1) := dk_42 (dk_at dksL_law_45 19 rfl rfl)
theorem dL_law_1250 : decode cL_law 1250 = .ok (.iload 4, 2) := dk_21 4 (dk_at dksL_law_45 20 rfl rfl)
theorem dL_law_1252 : decode cL_law 1252 = .ok (.iconst 2, 1) := dk_5 (dk_at dksL_law_45 22 rfl rfl)
theorem dL_law_1253 : decode cL_law 1253 = .ok (.iadd, 1) := dk_96 (dk_at dksL_law_45 23 rfl rfl)
theorem dL_law_1254 : decode cL_law 1254 = .ok (.iaload, 1) := dk_46 (dk_at dksL_law_46 0 rfl rfl)
theorem dL_law_1255 : decode cL_law 1255 = .ok (.aload_n 0, 1) := dk_42 (dk_at dksL_law_46 1 rfl rfl)
theorem dL_law_1256 : decode cL_law 1256 = .ok (.iload 4, 2) := dk_21 4 (dk_at dksL_law_46 2 rfl rfl)
theorem dL_law_1258 : decode cL_law 1258 = .ok (.iconst 3, 1) := dk_6 (dk_at dksL_law_46 4 rfl rfl)
theorem dL_law_1259 : decode cL_law 1259 = .ok (.iadd, 1) := dk_96 (dk_at dksL_law_46 5 rfl rfl)
theorem dL_law_1260 : decode cL_law 1260 = .ok (.iaload, 1) := dk_46 (dk_at dksL_law_46 6 rfl rfl)
theorem dL_law_1261 : decode cL_law 1261 = .ok (.aload_n 3, 1) := dk_45 (dk_at dksL_law_46 7 rfl rfl)
theorem dL_law_1262 : decode cL_law 1262 = .ok (.invokestatic 195, 3) := dk_184 0 195 (dk_at dksL_law_46 8 rfl rfl)
theorem dL_law_1265 : decode cL_law 1265 = .ok (.istore 5, 2) := dk_54 5 (dk_at dksL_law_46 11 rfl rfl)
theorem dL_law_1267 : decode cL_law 1267 = .ok (.aload_n 2, 1) := dk_44 (dk_at dksL_law_46 13 rfl rfl)
theorem dL_law_1268 : decode cL_law 1268 = .ok (.aload_n 0, 1) := dk_42 (dk_at dksL_law_46 14 rfl rfl)
theorem dL_law_1269 : decode cL_law 1269 = .ok (.iload 4, 2) := dk_21 4 (dk_at dksL_law_46 15 rfl rfl)
theorem dL_law_1271 : decode cL_law 1271 = .ok (.iconst 1, 1) := dk_4 (dk_at dksL_law_46 17 rfl rfl)
theorem dL_law_1272 : decode cL_law 1272 = .ok (.iadd, 1) := dk_96 (dk_at dksL_law_46 18 rfl rfl)
theorem dL_law_1273 : decode cL_law 1273 = .ok (.iaload, 1) := dk_46 (dk_at dksL_law_46 19 rfl rfl)
theorem dL_law_1274 : decode cL_law 1274 = .ok (.aload_n 0, 1) := dk_42 (dk_at dksL_law_46 20 rfl rfl)
theorem dL_law_1275 : decode cL_law 1275 = .ok (.iload 4, 2) := dk_21 4 (dk_at dksL_law_46 21 rfl rfl)
theorem dL_law_1277 : decode cL_law 1277 = .ok (.iconst 2, 1) := dk_5 (dk_at dksL_law_46 23 rfl rfl)
theorem dL_law_1278 : decode cL_law 1278 = .ok (.iadd, 1) := dk_96 (dk_at dksL_law_47 0 rfl rfl)
theorem dL_law_1279 : decode cL_law 1279 = .ok (.iaload, 1) := dk_46 (dk_at dksL_law_47 1 rfl rfl)
theorem dL_law_1280 : decode cL_law 1280 = .ok (.aload_n 0, 1) := dk_42 (dk_at dksL_law_47 2 rfl rfl)
theorem dL_law_1281 : decode cL_law 1281 = .ok (.iload 4, 2) := dk_21 4 (dk_at dksL_law_47 3 rfl rfl)
theorem dL_law_1283 : decode cL_law 1283 = .ok (.iconst 3, 1) := dk_6 (dk_at dksL_law_47 5 rfl rfl)
theorem dL_law_1284 : decode cL_law 1284 = .ok (.iadd, 1) := dk_96 (dk_at dksL_law_47 6 rfl rfl)
theorem dL_law_1285 : decode cL_law 1285 = .ok (.iaload, 1) := dk_46 (dk_at dksL_law_47 7 rfl rfl)
theorem dL_law_1286 : decode cL_law 1286 = .ok (.invokevirtual 197, 3) := dk_182 0 197 (dk_at dksL_law_47 8 rfl rfl)
theorem dL_law_1289 : decode cL_law 1289 = .ok (.istore 6, 2) := dk_54 6 (dk_at dksL_law_47 11 rfl rfl)
theorem dL_law_1291 : decode cL_law 1291 = .ok (.aload_n 2, 1) := dk_44 (dk_at dksL_law_47 13 rfl rfl)
theorem dL_law_1292 : decode cL_law 1292 = .ok (.invokevirtual 145, 3) := dk_182 0 145 (dk_at dksL_law_47 14 rfl rfl)
theorem dL_law_1295 : decode cL_law 1295 = .ok (.iload 5, 2) := dk_21 5 (dk_at dksL_law_47 17 rfl rfl)
theorem dL_law_1297 : decode cL_law 1297 = .ok (.if_icmp .eq 5, 3) := dk_159 0 5 (dk_at dksL_law_47 19 rfl rfl)
theorem dL_law_1300 : decode cL_law 1300 = .ok (.iconst 0, 1) := dk_3 (dk_at dksL_law_47 22 rfl rfl)
theorem dL_law_1301 : decode cL_law 1301 = .ok (.ireturn, 1) := dk_172 (dk_at dksL_law_47 23 rfl rfl)
theorem dL_law_1302 : decode cL_law 1302 = .ok (.iload 5, 2) := dk_21 5 (dk_at dksL_law_48 0 rfl rfl)
theorem dL_law_1304 : decode cL_law 1304 = .ok (.ifCond .ne 15, 3) := dk_154 0 15 (dk_at dksL_law_48 2 rfl rfl)
theorem dL_law_1307 : decode cL_law 1307 = .ok (.aload_n 3, 1) := dk_45 (dk_at dksL_law_48 5 rfl rfl)
theorem dL_law_1308 : decode cL_law 1308 = .ok (.iconst 0, 1) := dk_3 (dk_at dksL_law_48 6 rfl rfl)
theorem dL_law_1309 : decode cL_law 1309 = .ok (.laload, 1) := dk_47 (dk_at dksL_law_48 7 rfl rfl)
theorem dL_law_1310 : decode cL_law 1310 = .ok (.iload 6, 2) := dk_21 6 (dk_at dksL_law_48 8 rfl rfl)
theorem dL_law_1312 : decode cL_law 1312 = .ok (.i2l, 1) := dk_133 (dk_at dksL_law_48 10 rfl rfl)
theorem dL_law_1313 : decode cL_law 1313 = .ok (.lcmp, 1) := dk_148 (dk_at dksL_law_48 11 rfl rfl)
theorem dL_law_1314 : decode cL_law 1314 = .ok (.ifCond .eq 5, 3) := dk_153 0 5 (dk_at dksL_law_48 12 rfl rfl)
theorem dL_law_1317 : decode cL_law 1317 = .ok (.iconst 0, 1) := dk_3 (dk_at dksL_law_48 15 rfl rfl)
theorem dL_law_1318 : decode cL_law 1318 = .ok (.ireturn, 1) := dk_172 (dk_at dksL_law_48 16 rfl rfl)
theorem dL_law_1319 : decode cL_law 1319 = .ok (.goto 1401, 3) := dk_167 5 121 (dk_at dksL_law_48 17 rfl rfl)
theorem dL_law_1322 : decode cL_law 1322 = .ok (.aload_n 1, 1) := dk_43 (dk_at dksL_law_48 20 rfl rfl)
theorem dL_law_1323 : decode cL_law 1323 = .ok (.aload_n 0, 1) := dk_42 (dk_at dksL_law_48 21 rfl rfl)
theorem dL_law_1324 : decode cL_law 1324 = .ok (.iload 4, 2) := dk_21 4 (dk_at dksL_law_48 22 rfl rfl)
theorem dL_law_1326 : decode cL_law 1326 = .ok (.iconst 1, 1) := dk_4 (dk_at dksL_law_49 0 rfl rfl)
theorem dL_law_1327 : decode cL_law 1327 = .ok (.iadd, 1) := dk_96 (dk_at dksL_law_49 1 rfl rfl)
theorem dL_law_1328 : decode cL_law 1328 = .ok (.iaload, 1) := dk_46 (dk_at dksL_law_49 2 rfl rfl)
theorem dL_law_1329 : decode cL_law 1329 = .ok (.aload_n 0, 1) := dk_42 (dk_at dksL_law_49 3 rfl rfl)
theorem dL_law_1330 : decode cL_law 1330 = .ok (.iload 4, 2) := dk_21 4 (dk_at dksL_law_49 4 rfl rfl)
theorem dL_law_1332 : decode cL_law 1332 = .ok (.iconst 2, 1) := dk_5 (dk_at dksL_law_49 6 rfl rfl)
theorem dL_law_1333 : decode cL_law 1333 = .ok (.iadd, 1) := dk_96 (dk_at dksL_law_49 7 rfl rfl)
theorem dL_law_1334 : decode cL_law 1334 = .ok (.iaload, 1) := dk_46 (dk_at dksL_law_49 8 rfl rfl)
theorem dL_law_1335 : decode cL_law 1335 = .ok (.aload_n 3, 1) := dk_45 (dk_at dksL_law_49 9 rfl rfl)
theorem dL_law_1336 : decode cL_law 1336 = .ok (.invokestatic 198, 3) := dk_184 0 198 (dk_at dksL_law_49 10 rfl rfl)
theorem dL_law_1339 : decode cL_law 1339 = .ok (.istore 5, 2) := dk_54 5 (dk_at dksL_law_49 13 rfl rfl)
theorem dL_law_1341 : decode cL_law 1341 = .ok (.aload_n 2, 1) := dk_44 (dk_at dksL_law_49 15 rfl rfl)
theorem dL_law_1342 : decode cL_law 1342 = .ok (.aload_n 0, 1) := dk_42 (dk_at dksL_law_49 16 rfl rfl)
theorem dL_law_1343 : decode cL_law 1343 = .ok (.iload 4, 2) := dk_21 4 (dk_at dksL_law_49 17 rfl rfl)
theorem dL_law_1345 : decode cL_law 1345 = .ok (.iconst 1, 1) := dk_4 (dk_at dksL_law_49 19 rfl rfl)
theorem dL_law_1346 : decode cL_law 1346 = .ok (.iadd, 1) := dk_96 (dk_at dksL_law_49 20 rfl rfl)
theorem dL_law_1347 : decode cL_law 1347 = .ok (.iaload, 1) := dk_46 (dk_at dksL_law_49 21 rfl rfl)
theorem dL_law_1348 : decode cL_law 1348 = .ok (.aload_n 0, 1) := dk_42 (dk_at dksL_law_49 22 rfl rfl)
theorem dL_law_1349 : decode cL_law 1349 = .ok (.iload 4, 2) := dk_21 4 (dk_at dksL_law_50 0 rfl rfl)
theorem dL_law_1351 : decode cL_law 1351 = .ok (.iconst 2, 1) := dk_5 (dk_at dksL_law_50 2 rfl rfl)
theorem dL_law_1352 : decode cL_law 1352 = .ok (.iadd, 1) := dk_96 (dk_at dksL_law_50 3 rfl rfl)
theorem dL_law_1353 : decode cL_law 1353 = .ok (.iaload, 1) := dk_46 (dk_at dksL_law_50 4 rfl rfl)
theorem dL_law_1354 : decode cL_law 1354 = .ok (.invokevirtual 200, 3) := dk_182 0 200 (dk_at dksL_law_50 5 rfl rfl)
theorem dL_law_1357 : decode cL_law 1357 = .ok (.istore 6, 2) := dk_54 6 (dk_at dksL_law_50 8 rfl rfl)
theorem dL_law_1359 : decode cL_law 1359 = .ok (.aload_n 2, 1) := dk_44 (dk_at dksL_law_50 10 rfl rfl)
theorem dL_law_1360 : decode cL_law 1360 = .ok (.invokevirtual 145, 3) := dk_182 0 145 (dk_at dksL_law_50 11 rfl rfl)
theorem dL_law_1363 : decode cL_law 1363 = .ok (.iload 5, 2) := dk_21 5 (dk_at dksL_law_50 14 rfl rfl)
theorem dL_law_1365 : decode cL_law 1365 = .ok (.if_icmp .eq 5, 3) := dk_159 0 5 (dk_at dksL_law_50 16 rfl rfl)
theorem dL_law_1368 : decode cL_law 1368 = .ok (.iconst 0, 1) := dk_3 (dk_at dksL_law_50 19 rfl rfl)
theorem dL_law_1369 : decode cL_law 1369 = .ok (.ireturn, 1) := dk_172 (dk_at dksL_law_50 20 rfl rfl)
theorem dL_law_1370 : decode cL_law 1370 = .ok (.iload 5, 2) := dk_21 5 (dk_at dksL_law_50 21 rfl rfl)
theorem dL_law_1372 : decode cL_law 1372 = .ok (.ifCond .ne 15, 3) := dk_154 0 15 (dk_at dksL_law_51 0 rfl rfl)
theorem dL_law_1375 : decode cL_law 1375 = .ok (.aload_n 3, 1) := dk_45 (dk_at dksL_law_51 3 rfl rfl)
theorem dL_law_1376 : decode cL_law 1376 = .ok (.iconst 0, 1) := dk_3 (dk_at dksL_law_51 4 rfl rfl)
theorem dL_law_1377 : decode cL_law 1377 = .ok (.laload, 1) := dk_47 (dk_at dksL_law_51 5 rfl rfl)
theorem dL_law_1378 : decode cL_law 1378 = .ok (.iload 6, 2) := dk_21 6 (dk_at dksL_law_51 6 rfl rfl)
theorem dL_law_1380 : decode cL_law 1380 = .ok (.i2l, 1) := dk_133 (dk_at dksL_law_51 8 rfl rfl)
theorem dL_law_1381 : decode cL_law 1381 = .ok (.lcmp, 1) := dk_148 (dk_at dksL_law_51 9 rfl rfl)
theorem dL_law_1382 : decode cL_law 1382 = .ok (.ifCond .eq 5, 3) := dk_153 0 5 (dk_at dksL_law_51 10 rfl rfl)
theorem dL_law_1385 : decode cL_law 1385 = .ok (.iconst 0, 1) := dk_3 (dk_at dksL_law_51 13 rfl rfl)
theorem dL_law_1386 : decode cL_law 1386 = .ok (.ireturn, 1) := dk_172 (dk_at dksL_law_51 14 rfl rfl)
theorem dL_law_1387 : decode cL_law 1387 = .ok (.goto 1333, 3) := dk_167 5 53 (dk_at dksL_law_51 15 rfl rfl)
theorem dL_law_1390 : decode cL_law 1390 = .ok (.aload_n 1, 1) := dk_43 (dk_at dksL_law_51 18 rfl rfl)
theorem dL_law_1391 : decode cL_law 1391 = .ok (.aload_n 0, 1) := dk_42 (dk_at dksL_law_51 19 rfl rfl)
theorem dL_law_1392 : decode cL_law 1392 = .ok (.iload 4, 2) := dk_21 4 (dk_at dksL_law_51 20 rfl rfl)
theorem dL_law_1394 : decode cL_law 1394 = .ok (.iconst 1, 1) := dk_4 (dk_at dksL_law_51 22 rfl rfl)
theorem dL_law_1395 : decode cL_law 1395 = .ok (.iadd, 1) := dk_96 (dk_at dksL_law_51 23 rfl rfl)
theorem dL_law_1396 : decode cL_law 1396 = .ok (.iaload, 1) := dk_46 (dk_at dksL_law_52 0 rfl rfl)
theorem dL_law_1397 : decode cL_law 1397 = .ok (.aload_n 0, 1) := dk_42 (dk_at dksL_law_52 1 rfl rfl)
theorem dL_law_1398 : decode cL_law 1398 = .ok (.iload 4, 2) := dk_21 4 (dk_at dksL_law_52 2 rfl rfl)
theorem dL_law_1400 : decode cL_law 1400 = .ok (.iconst 2, 1) := dk_5 (dk_at dksL_law_52 4 rfl rfl)
theorem dL_law_1401 : decode cL_law 1401 = .ok (.iadd, 1) := dk_96 (dk_at dksL_law_52 5 rfl rfl)
theorem dL_law_1402 : decode cL_law 1402 = .ok (.iaload, 1) := dk_46 (dk_at dksL_law_52 6 rfl rfl)
theorem dL_law_1403 : decode cL_law 1403 = .ok (.aload_n 0, 1) := dk_42 (dk_at dksL_law_52 7 rfl rfl)
theorem dL_law_1404 : decode cL_law 1404 = .ok (.iload 4, 2) := dk_21 4 (dk_at dksL_law_52 8 rfl rfl)
theorem dL_law_1406 : decode cL_law 1406 = .ok (.iconst 3, 1) := dk_6 (dk_at dksL_law_52 10 rfl rfl)
theorem dL_law_1407 : decode cL_law 1407 = .ok (.iadd, 1) := dk_96 (dk_at dksL_law_52 11 rfl rfl)
theorem dL_law_1408 : decode cL_law 1408 = .ok (.iaload, 1) := dk_46 (dk_at dksL_law_52 12 rfl rfl)
theorem dL_law_1409 : decode cL_law 1409 = .ok (.aload_n 0, 1) := dk_42 (dk_at dksL_law_52 13 rfl rfl)
theorem dL_law_1410 : decode cL_law 1410 = .ok (.iload 4, 2) := dk_21 4 (dk_at dksL_law_52 14 rfl rfl)
theorem dL_law_1412 : decode cL_law 1412 = .ok (.iconst 4, 1) := dk_7 (dk_at dksL_law_52 16 rfl rfl)
theorem dL_law_1413 : decode cL_law 1413 = .ok (.iadd, 1) := dk_96 (dk_at dksL_law_52 17 rfl rfl)
theorem dL_law_1414 : decode cL_law 1414 = .ok (.iaload, 1) := dk_46 (dk_at dksL_law_52 18 rfl rfl)
theorem dL_law_1415 : decode cL_law 1415 = .ok (.aload_n 3, 1) := dk_45 (dk_at dksL_law_52 19 rfl rfl)
theorem dL_law_1416 : decode cL_law 1416 = .ok (.invokestatic 201, 3) := dk_184 0 201 (dk_at dksL_law_52 20 rfl rfl)
theorem dL_law_1419 : decode cL_law 1419 = .ok (.istore 5, 2) := dk_54 5 (dk_at dksL_law_53 0 rfl rfl)
theorem dL_law_1421 : decode cL_law 1421 = .ok (.aload_n 2, 1) := dk_44 (dk_at dksL_law_53 2 rfl rfl)
theorem dL_law_1422 : decode cL_law 1422 = .ok (.aload_n 0, 1) := dk_42 (dk_at dksL_law_53 3 rfl rfl)
theorem dL_law_1423 : decode cL_law 1423 = .ok (.iload 4, 2) := dk_21 4 (dk_at dksL_law_53 4 rfl rfl)
theorem dL_law_1425 : decode cL_law 1425 = .ok (.iconst 1, 1) := dk_4 (dk_at dksL_law_53 6 rfl rfl)
theorem dL_law_1426 : decode cL_law 1426 = .ok (.iadd, 1) := dk_96 (dk_at dksL_law_53 7 rfl rfl)
theorem dL_law_1427 : decode cL_law 1427 = .ok (.iaload, 1) := dk_46 (dk_at dksL_law_53 8 rfl rfl)
theorem dL_law_1428 : decode cL_law 1428 = .ok (.aload_n 0, 1) := dk_42 (dk_at dksL_law_53 9 rfl rfl)
theorem dL_law_1429 : decode cL_law 1429 = .ok (.iload 4, 2) := dk_21 4 (dk_at dksL_law_53 10 rfl rfl)
theorem dL_law_1431 : decode cL_law 1431 = .ok (.iconst 2, 1) := dk_5 (dk_at dksL_law_53 12 rfl rfl)
theorem dL_law_1432 : decode cL_law 1432 = .ok (.iadd, 1) := dk_96 (dk_at dksL_law_53 13 rfl rfl)
theorem dL_law_1433 : decode cL_law 1433 = .ok (.iaload, 1) := dk_46 (dk_at dksL_law_53 14 rfl rfl)
theorem dL_law_1434 : decode cL_law 1434 = .ok (.aload_n 0, 1) := dk_42 (dk_at dksL_law_53 15 rfl rfl)
theorem dL_law_1435 : decode cL_law 1435 = .ok (.iload 4, 2) := dk_21 4 (dk_at dksL_law_53 16 rfl rfl)
theorem dL_law_1437 : decode cL_law 1437 = .ok (.iconst 3, 1) := dk_6 (dk_at dksL_law_53 18 rfl rfl)
theorem dL_law_1438 : decode cL_law 1438 = .ok (.iadd, 1) := dk_96 (dk_at dksL_law_53 19 rfl rfl)
theorem dL_law_1439 : decode cL_law 1439 = .ok (.iaload, 1) := dk_46 (dk_at dksL_law_53 20 rfl rfl)
theorem dL_law_1440 : decode cL_law 1440 = .ok (.aload_n 0, 1) := dk_42 (dk_at dksL_law_53 21 rfl rfl)
theorem dL_law_1441 : decode cL_law 1441 = .ok (.iload 4, 2) := dk_21 4 (dk_at dksL_law_53 22 rfl rfl)
theorem dL_law_1443 : decode cL_law 1443 = .ok (.iconst 4, 1) := dk_7 (dk_at dksL_law_54 0 rfl rfl)
theorem dL_law_1444 : decode cL_law 1444 = .ok (.iadd, 1) := dk_96 (dk_at dksL_law_54 1 rfl rfl)
theorem dL_law_1445 : decode cL_law 1445 = .ok (.iaload, 1) := dk_46 (dk_at dksL_law_54 2 rfl rfl)
theorem dL_law_1446 : decode cL_law 1446 = .ok (.invokevirtual 204, 3) := dk_182 0 204 (dk_at dksL_law_54 3 rfl rfl)
theorem dL_law_1449 : decode cL_law 1449 = .ok (.istore 6, 2) := dk_54 6 (dk_at dksL_law_54 6 rfl rfl)
theorem dL_law_1451 : decode cL_law 1451 = .ok (.aload_n 2, 1) := dk_44 (dk_at dksL_law_54 8 rfl rfl)
theorem dL_law_1452 : decode cL_law 1452 = .ok (.invokevirtual 145, 3) := dk_182 0 145 (dk_at dksL_law_54 9 rfl rfl)
theorem dL_law_1455 : decode cL_law 1455 = .ok (.iload 5, 2) := dk_21 5 (dk_at dksL_law_54 12 rfl rfl)
theorem dL_law_1457 : decode cL_law 1457 = .ok (.if_icmp .eq 5, 3) := dk_159 0 5 (dk_at dksL_law_54 14 rfl rfl)
theorem dL_law_1460 : decode cL_law 1460 = .ok (.iconst 0, 1) := dk_3 (dk_at dksL_law_54 17 rfl rfl)
theorem dL_law_1461 : decode cL_law 1461 = .ok (.ireturn, 1) := dk_172 (dk_at dksL_law_54 18 rfl rfl)
theorem dL_law_1462 : decode cL_law 1462 = .ok (.iload 5, 2) := dk_21 5 (dk_at dksL_law_54 19 rfl rfl)
theorem dL_law_1464 : decode cL_law 1464 = .ok (.ifCond .ne 15, 3) := dk_154 0 15 (dk_at dksL_law_54 21 rfl rfl)
theorem dL_law_1467 : decode cL_law 1467 = .ok (.aload_n 3, 1) := dk_45 (dk_at dksL_law_55 0 rfl rfl)
theorem dL_law_1468 : decode cL_law 1468 = .ok (.iconst 0, 1) := dk_3 (dk_at dksL_law_55 1 rfl rfl)
theorem dL_law_1469 : decode cL_law 1469 = .ok (.laload, 1) := dk_47 (dk_at dksL_law_55 2 rfl rfl)
theorem dL_law_1470 : decode cL_law 1470 = .ok (.iload 6, 2) := dk_21 6 (dk_at dksL_law_55 3 rfl rfl)
theorem dL_law_1472 : decode cL_law 1472 = .ok (.i2l, 1) := dk_133 (dk_at dksL_law_55 5 rfl rfl)
theorem dL_law_1473 : decode cL_law 1473 = .ok (.lcmp, 1) := dk_148 (dk_at dksL_law_55 6 rfl rfl)
theorem dL_law_1474 : decode cL_law 1474 = .ok (.ifCond .eq 5, 3) := dk_153 0 5 (dk_at dksL_law_55 7 rfl rfl)
theorem dL_law_1477 : decode cL_law 1477 = .ok (.iconst 0, 1) := dk_3 (dk_at dksL_law_55 10 rfl rfl)
theorem dL_law_1478 : decode cL_law 1478 = .ok (.ireturn, 1) := dk_172 (dk_at dksL_law_55 11 rfl rfl)
theorem dL_law_1479 : decode cL_law 1479 = .ok (.goto 1241, 3) := dk_167 4 217 (dk_at dksL_law_55 12 rfl rfl)
theorem dL_law_1482 : decode cL_law 1482 = .ok (.aload_n 1, 1) := dk_43 (dk_at dksL_law_55 15 rfl rfl)
theorem dL_law_1483 : decode cL_law 1483 = .ok (.aload_n 0, 1) := dk_42 (dk_at dksL_law_55 16 rfl rfl)
theorem dL_law_1484 : decode cL_law 1484 = .ok (.iload 4, 2) := dk_21 4 (dk_at dksL_law_55 17 rfl rfl)
theorem dL_law_1486 : decode cL_law 1486 = .ok (.iconst 1, 1) := dk_4 (dk_at dksL_law_55 19 rfl rfl)
theorem dL_law_1487 : decode cL_law 1487 = .ok (.iadd, 1) := dk_96 (dk_at dksL_law_55 20 rfl rfl)
theorem dL_law_1488 : decode cL_law 1488 = .ok (.iaload, 1) := dk_46 (dk_at dksL_law_55 21 rfl rfl)
theorem dL_law_1489 : decode cL_law 1489 = .ok (.aload_n 3, 1) := dk_45 (dk_at dksL_law_55 22 rfl rfl)
theorem dL_law_1490 : decode cL_law 1490 = .ok (.invokestatic 205, 3) := dk_184 0 205 (dk_at dksL_law_56 0 rfl rfl)
theorem dL_law_1493 : decode cL_law 1493 = .ok (.istore 5, 2) := dk_54 5 (dk_at dksL_law_56 3 rfl rfl)
theorem dL_law_1495 : decode cL_law 1495 = .ok (.aload_n 2, 1) := dk_44 (dk_at dksL_law_56 5 rfl rfl)
theorem dL_law_1496 : decode cL_law 1496 = .ok (.aload_n 0, 1) := dk_42 (dk_at dksL_law_56 6 rfl rfl)
theorem dL_law_1497 : decode cL_law 1497 = .ok (.iload 4, 2) := dk_21 4 (dk_at dksL_law_56 7 rfl rfl)
theorem dL_law_1499 : decode cL_law 1499 = .ok (.iconst 1, 1) := dk_4 (dk_at dksL_law_56 9 rfl rfl)
theorem dL_law_1500 : decode cL_law 1500 = .ok (.iadd, 1) := dk_96 (dk_at dksL_law_56 10 rfl rfl)
theorem dL_law_1501 : decode cL_law 1501 = .ok (.iaload, 1) := dk_46 (dk_at dksL_law_56 11 rfl rfl)
theorem dL_law_1502 : decode cL_law 1502 = .ok (.invokevirtual 207, 3) := dk_182 0 207 (dk_at dksL_law_56 12 rfl rfl)
theorem dL_law_1505 : decode cL_law 1505 = .ok (.istore 6, 2) := dk_54 6 (dk_at dksL_law_56 15 rfl rfl)
theorem dL_law_1507 : decode cL_law 1507 = .ok (.aload_n 2, 1) := dk_44 (dk_at dksL_law_56 17 rfl rfl)
theorem dL_law_1508 : decode cL_law 1508 = .ok (.invokevirtual 145, 3) := dk_182 0 145 (dk_at dksL_law_56 18 rfl rfl)
theorem dL_law_1511 : decode cL_law 1511 = .ok (.iload 5, 2) := dk_21 5 (dk_at dksL_law_56 21 rfl rfl)
theorem dL_law_1513 : decode cL_law 1513 = .ok (.if_icmp .eq 5, 3) := dk_159 0 5 (dk_at dksL_law_57 0 rfl rfl)
theorem dL_law_1516 : decode cL_law 1516 = .ok (.iconst 0, 1) := dk_3 (dk_at dksL_law_57 3 rfl rfl)
theorem dL_law_1517 : decode cL_law 1517 = .ok (.ireturn, 1) := dk_172 (dk_at dksL_law_57 4 rfl rfl)
theorem dL_law_1518 : decode cL_law 1518 = .ok (.iload 5, 2) := dk_21 5 (dk_at dksL_law_57 5 rfl rfl)
theorem dL_law_1520 : decode cL_law 1520 = .ok (.ifCond .ne 15, 3) := dk_154 0 15 (dk_at dksL_law_57 7 rfl rfl)
theorem dL_law_1523 : decode cL_law 1523 = .ok (.aload_n 3, 1) := dk_45 (dk_at dksL_law_57 10 rfl rfl)
theorem dL_law_1524 : decode cL_law 1524 = .ok (.iconst 0, 1) := dk_3 (dk_at dksL_law_57 11 rfl rfl)
theorem dL_law_1525 : decode cL_law 1525 = .ok (.laload, 1) := dk_47 (dk_at dksL_law_57 12 rfl rfl)
theorem dL_law_1526 : decode cL_law 1526 = .ok (.iload 6, 2) := dk_21 6 (dk_at dksL_law_57 13 rfl rfl)
theorem dL_law_1528 : decode cL_law 1528 = .ok (.i2l, 1) := dk_133 (dk_at dksL_law_57 15 rfl rfl)
theorem dL_law_1529 : decode cL_law 1529 = .ok (.lcmp, 1) := dk_148 (dk_at dksL_law_57 16 rfl rfl)
theorem dL_law_1530 : decode cL_law 1530 = .ok (.ifCond .eq 5, 3) := dk_153 0 5 (dk_at dksL_law_57 17 rfl rfl)
theorem dL_law_1533 : decode cL_law 1533 = .ok (.iconst 0, 1) := dk_3 (dk_at dksL_law_57 20 rfl rfl)
theorem dL_law_1534 : decode cL_law 1534 = .ok (.ireturn, 1) := dk_172 (dk_at dksL_law_57 21 rfl rfl)
theorem dL_law_1535 : decode cL_law 1535 = .ok (.goto 1185, 3) := dk_167 4 161 (dk_at dksL_law_58 0 rfl rfl)
theorem dL_law_1538 : decode cL_law 1538 = .ok (.aload_n 1, 1) := dk_43 (dk_at dksL_law_58 3 rfl rfl)
theorem dL_law_1539 : decode cL_law 1539 = .ok (.aload_n 0, 1) := dk_42 (dk_at dksL_law_58 4 rfl rfl)
theorem dL_law_1540 : decode cL_law 1540 = .ok (.iload 4, 2) := dk_21 4 (dk_at dksL_law_58 5 rfl rfl)
theorem dL_law_1542 : decode cL_law 1542 = .ok (.iconst 1, 1) := dk_4 (dk_at dksL_law_58 7 rfl rfl)
theorem dL_law_1543 : decode cL_law 1543 = .ok (.iadd, 1) := dk_96 (dk_at dksL_law_58 8 rfl rfl)
theorem dL_law_1544 : decode cL_law 1544 = .ok (.iaload, 1) := dk_46 (dk_at dksL_law_58 9 rfl rfl)
theorem dL_law_1545 : decode cL_law 1545 = .ok (.aload_n 0, 1) := dk_42 (dk_at dksL_law_58 10 rfl rfl)
theorem dL_law_1546 : decode cL_law 1546 = .ok (.iload 4, 2) := dk_21 4 (dk_at dksL_law_58 11 rfl rfl)
theorem dL_law_1548 : decode cL_law 1548 = .ok (.iconst 2, 1) := dk_5 (dk_at dksL_law_58 13 rfl rfl)
theorem dL_law_1549 : decode cL_law 1549 = .ok (.iadd, 1) := dk_96 (dk_at dksL_law_58 14 rfl rfl)
theorem dL_law_1550 : decode cL_law 1550 = .ok (.iaload, 1) := dk_46 (dk_at dksL_law_58 15 rfl rfl)
theorem dL_law_1551 : decode cL_law 1551 = .ok (.aload_n 3, 1) := dk_45 (dk_at dksL_law_58 16 rfl rfl)
theorem dL_law_1552 : decode cL_law 1552 = .ok (.invokestatic 208, 3) := dk_184 0 208 (dk_at dksL_law_58 17 rfl rfl)
theorem dL_law_1555 : decode cL_law 1555 = .ok (.istore 5, 2) := dk_54 5 (dk_at dksL_law_58 20 rfl rfl)
theorem dL_law_1557 : decode cL_law 1557 = .ok (.aload_n 2, 1) := dk_44 (dk_at dksL_law_58 22 rfl rfl)
theorem dL_law_1558 : decode cL_law 1558 = .ok (.aload_n 0, 1) := dk_42 (dk_at dksL_law_58 23 rfl rfl)
theorem dL_law_1559 : decode cL_law 1559 = .ok (.iload 4, 2) := dk_21 4 (dk_at dksL_law_59 0 rfl rfl)
theorem dL_law_1561 : decode cL_law 1561 = .ok (.iconst 1, 1) := dk_4 (dk_at dksL_law_59 2 rfl rfl)
theorem dL_law_1562 : decode cL_law 1562 = .ok (.iadd, 1) := dk_96 (dk_at dksL_law_59 3 rfl rfl)
theorem dL_law_1563 : decode cL_law 1563 = .ok (.iaload, 1) := dk_46 (dk_at dksL_law_59 4 rfl rfl)
theorem dL_law_1564 : decode cL_law 1564 = .ok (.aload_n 0, 1) := dk_42 (dk_at dksL_law_59 5 rfl rfl)
theorem dL_law_1565 : decode cL_law 1565 = .ok (.iload 4, 2) := dk_21 4 (dk_at dksL_law_59 6 rfl rfl)
theorem dL_law_1567 : decode cL_law 1567 = .ok (.iconst 2, 1) := dk_5 (dk_at dksL_law_59 8 rfl rfl)
theorem dL_law_1568 : decode cL_law 1568 = .ok (.iadd, 1) := dk_96 (dk_at dksL_law_59 9 rfl rfl)
theorem dL_law_1569 : decode cL_law 1569 = .ok (.iaload, 1) := dk_46 (dk_at dksL_law_59 10 rfl rfl)
theorem dL_law_1570 : decode cL_law 1570 = .ok (.invokevirtual 210, 3) := dk_182 0 210 (dk_at dksL_law_59 11 rfl rfl)
theorem dL_law_1573 : decode cL_law 1573 = .ok (.istore 6, 2) := dk_54 6 (dk_at dksL_law_59 14 rfl rfl)
theorem dL_law_1575 : decode cL_law 1575 = .ok (.aload_n 2, 1) := dk_44 (dk_at dksL_law_59 16 rfl rfl)
theorem dL_law_1576 : decode cL_law 1576 = .ok (.invokevirtual 145, 3) := dk_182 0 145 (dk_at dksL_law_59 17 rfl rfl)
theorem dL_law_1579 : decode cL_law 1579 = .ok (.iload 5, 2) := dk_21 5 (dk_at dksL_law_59 20 rfl rfl)
theorem dL_law_1581 : decode cL_law 1581 = .ok (.if_icmp .eq 5, 3) := dk_159 0 5 (dk_at dksL_law_60 0 rfl rfl)
theorem dL_law_1584 : decode cL_law 1584 = .ok (.iconst 0, 1) := dk_3 (dk_at dksL_law_60 3 rfl rfl)
theorem dL_law_1585 : decode cL_law 1585 = .ok (.ireturn, 1) := dk_172 (dk_at dksL_law_60 4 rfl rfl)
theorem dL_law_1586 : decode cL_law 1586 = .ok (.iload 5, 2) := dk_21 5 (dk_at dksL_law_60 5 rfl rfl)
theorem dL_law_1588 : decode cL_law 1588 = .ok (.ifCond .ne 15, 3) := dk_154 0 15 (dk_at dksL_law_60 7 rfl rfl)
theorem dL_law_1591 : decode cL_law 1591 = .ok (.aload_n 3, 1) := dk_45 (dk_at dksL_law_60 10 rfl rfl)
theorem dL_law_1592 : decode cL_law 1592 = .ok (.iconst 0, 1) := dk_3 (dk_at dksL_law_60 11 rfl rfl)
theorem dL_law_1593 : decode cL_law 1593 = .ok (.laload, 1) := dk_47 (dk_at dksL_law_60 12 rfl rfl)
theorem dL_law_1594 : decode cL_law 1594 = .ok (.iload 6, 2) := dk_21 6 (dk_at dksL_law_60 13 rfl rfl)
theorem dL_law_1596 : decode cL_law 1596 = .ok (.i2l, 1) := dk_133 (dk_at dksL_law_60 15 rfl rfl)
theorem dL_law_1597 : decode cL_law 1597 = .ok (.lcmp, 1) := dk_148 (dk_at dksL_law_60 16 rfl rfl)
theorem dL_law_1598 : decode cL_law 1598 = .ok (.ifCond .eq 5, 3) := dk_153 0 5 (dk_at dksL_law_60 17 rfl rfl)
theorem dL_law_1601 : decode cL_law 1601 = .ok (.iconst 0, 1) := dk_3 (dk_at dksL_law_60 20 rfl rfl)
theorem dL_law_1602 : decode cL_law 1602 = .ok (.ireturn, 1) := dk_172 (dk_at dksL_law_60 21 rfl rfl)
theorem dL_law_1603 : decode cL_law 1603 = .ok (.goto 1117, 3) := dk_167 4 93 (dk_at dksL_law_61 0 rfl rfl)
theorem dL_law_1606 : decode cL_law 1606 = .ok (.aload_n 1, 1) := dk_43 (dk_at dksL_law_61 3 rfl rfl)
theorem dL_law_1607 : decode cL_law 1607 = .ok (.aload_n 3, 1) := dk_45 (dk_at dksL_law_61 4 rfl rfl)
theorem dL_law_1608 : decode cL_law 1608 = .ok (.invokestatic 211, 3) := dk_184 0 211 (dk_at dksL_law_61 5 rfl rfl)
theorem dL_law_1611 : decode cL_law 1611 = .ok (.istore 5, 2) := dk_54 5 (dk_at dksL_law_61 8 rfl rfl)
theorem dL_law_1613 : decode cL_law 1613 = .ok (.aload_n 2, 1) := dk_44 (dk_at dksL_law_61 10 rfl rfl)
theorem dL_law_1614 : decode cL_law 1614 = .ok (.invokevirtual 213, 3) := dk_182 0 213 (dk_at dksL_law_61 11 rfl rfl)
theorem dL_law_1617 : decode cL_law 1617 = .ok (.istore 6, 2) := dk_54 6 (dk_at dksL_law_61 14 rfl rfl)
theorem dL_law_1619 : decode cL_law 1619 = .ok (.aload_n 2, 1) := dk_44 (dk_at dksL_law_61 16 rfl rfl)
theorem dL_law_1620 : decode cL_law 1620 = .ok (.invokevirtual 145, 3) := dk_182 0 145 (dk_at dksL_law_61 17 rfl rfl)
theorem dL_law_1623 : decode cL_law 1623 = .ok (.iload 5, 2) := dk_21 5 (dk_at dksL_law_61 20 rfl rfl)
theorem dL_law_1625 : decode cL_law 1625 = .ok (.if_icmp .eq 5, 3) := dk_159 0 5 (dk_at dksL_law_62 0 rfl rfl)
theorem dL_law_1628 : decode cL_law 1628 = .ok (.iconst 0, 1) := dk_3 (dk_at dksL_law_62 3 rfl rfl)
theorem dL_law_1629 : decode cL_law 1629 = .ok (.ireturn, 1) := dk_172 (dk_at dksL_law_62 4 rfl rfl)
theorem dL_law_1630 : decode cL_law 1630 = .ok (.iload 5, 2) := dk_21 5 (dk_at dksL_law_62 5 rfl rfl)
theorem dL_law_1632 : decode cL_law 1632 = .ok (.ifCond .ne 15, 3) := dk_154 0 15 (dk_at dksL_law_62 7 rfl rfl)
theorem dL_law_1635 : decode cL_law 1635 = .ok (.aload_n 3, 1) := dk_45 (dk_at dksL_law_62 10 rfl rfl)
theorem dL_law_1636 : decode cL_law 1636 = .ok (.iconst 0, 1) := dk_3 (dk_at dksL_law_62 11 rfl rfl)
theorem dL_law_1637 : decode cL_law 1637 = .ok (.laload, 1) := dk_47 (dk_at dksL_law_62 12 rfl rfl)
theorem dL_law_1638 : decode cL_law 1638 = .ok (.iload 6, 2) := dk_21 6 (dk_at dksL_law_62 13 rfl rfl)
theorem dL_law_1640 : decode cL_law 1640 = .ok (.i2l, 1) := dk_133 (dk_at dksL_law_62 15 rfl rfl)
theorem dL_law_1641 : decode cL_law 1641 = .ok (.lcmp, 1) := dk_148 (dk_at dksL_law_62 16 rfl rfl)
theorem dL_law_1642 : decode cL_law 1642 = .ok (.ifCond .eq 5, 3) := dk_153 0 5 (dk_at dksL_law_62 17 rfl rfl)
theorem dL_law_1645 : decode cL_law 1645 = .ok (.iconst 0, 1) := dk_3 (dk_at dksL_law_62 20 rfl rfl)
theorem dL_law_1646 : decode cL_law 1646 = .ok (.ireturn, 1) := dk_172 (dk_at dksL_law_62 21 rfl rfl)
theorem dL_law_1647 : decode cL_law 1647 = .ok (.goto 1073, 3) := dk_167 4 49 (dk_at dksL_law_63 0 rfl rfl)
theorem dL_law_1650 : decode cL_law 1650 = .ok (.aload_n 1, 1) := dk_43 (dk_at dksL_law_63 3 rfl rfl)
theorem dL_law_1651 : decode cL_law 1651 = .ok (.aload_n 3, 1) := dk_45 (dk_at dksL_law_63 4 rfl rfl)
theorem dL_law_1652 : decode cL_law 1652 = .ok (.invokestatic 214, 3) := dk_184 0 214 (dk_at dksL_law_63 5 rfl rfl)
theorem dL_law_1655 : decode cL_law 1655 = .ok (.istore 5, 2) := dk_54 5 (dk_at dksL_law_63 8 rfl rfl)
theorem dL_law_1657 : decode cL_law 1657 = .ok (.aload_n 2, 1) := dk_44 (dk_at dksL_law_63 10 rfl rfl)
theorem dL_law_1658 : decode cL_law 1658 = .ok (.invokevirtual 216, 3) := dk_182 0 216 (dk_at dksL_law_63 11 rfl rfl)
theorem dL_law_1661 : decode cL_law 1661 = .ok (.istore 6, 2) := dk_54 6 (dk_at dksL_law_63 14 rfl rfl)
theorem dL_law_1663 : decode cL_law 1663 = .ok (.aload_n 2, 1) := dk_44 (dk_at dksL_law_63 16 rfl rfl)
theorem dL_law_1664 : decode cL_law 1664 = .ok (.invokevirtual 145, 3) := dk_182 0 145 (dk_at dksL_law_63 17 rfl rfl)
theorem dL_law_1667 : decode cL_law 1667 = .ok (.iload 5, 2) := dk_21 5 (dk_at dksL_law_63 20 rfl rfl)
theorem dL_law_1669 : decode cL_law 1669 = .ok (.if_icmp .eq 5, 3) := dk_159 0 5 (dk_at dksL_law_64 0 rfl rfl)
theorem dL_law_1672 : decode cL_law 1672 = .ok (.iconst 0, 1) := dk_3 (dk_at dksL_law_64 3 rfl rfl)
theorem dL_law_1673 : decode cL_law 1673 = .ok (.ireturn, 1) := dk_172 (dk_at dksL_law_64 4 rfl rfl)
theorem dL_law_1674 : decode cL_law 1674 = .ok (.iload 5, 2) := dk_21 5 (dk_at dksL_law_64 5 rfl rfl)
theorem dL_law_1676 : decode cL_law 1676 = .ok (.ifCond .ne 15, 3) := dk_154 0 15 (dk_at dksL_law_64 7 rfl rfl)
theorem dL_law_1679 : decode cL_law 1679 = .ok (.aload_n 3, 1) := dk_45 (dk_at dksL_law_64 10 rfl rfl)
theorem dL_law_1680 : decode cL_law 1680 = .ok (.iconst 0, 1) := dk_3 (dk_at dksL_law_64 11 rfl rfl)
theorem dL_law_1681 : decode cL_law 1681 = .ok (.laload, 1) := dk_47 (dk_at dksL_law_64 12 rfl rfl)
theorem dL_law_1682 : decode cL_law 1682 = .ok (.iload 6, 2) := dk_21 6 (dk_at dksL_law_64 13 rfl rfl)
theorem dL_law_1684 : decode cL_law 1684 = .ok (.i2l, 1) := dk_133 (dk_at dksL_law_64 15 rfl rfl)
theorem dL_law_1685 : decode cL_law 1685 = .ok (.lcmp, 1) := dk_148 (dk_at dksL_law_64 16 rfl rfl)
theorem dL_law_1686 : decode cL_law 1686 = .ok (.ifCond .eq 5, 3) := dk_153 0 5 (dk_at dksL_law_64 17 rfl rfl)
theorem dL_law_1689 : decode cL_law 1689 = .ok (.iconst 0, 1) := dk_3 (dk_at dksL_law_64 20 rfl rfl)
theorem dL_law_1690 : decode cL_law 1690 = .ok (.ireturn, 1) := dk_172 (dk_at dksL_law_64 21 rfl rfl)
theorem dL_law_1691 : decode cL_law 1691 = .ok (.goto 1029, 3) := dk_167 4 5 (dk_at dksL_law_65 0 rfl rfl)
theorem dL_law_1694 : decode cL_law 1694 = .ok (.aload_n 1, 1) := dk_43 (dk_at dksL_law_65 3 rfl rfl)
theorem dL_law_1695 : decode cL_law 1695 = .ok (.aload_n 0, 1) := dk_42 (dk_at dksL_law_65 4 rfl rfl)
theorem dL_law_1696 : decode cL_law 1696 = .ok (.iload 4, 2) := dk_21 4 (dk_at dksL_law_65 5 rfl rfl)
theorem dL_law_1698 : decode cL_law 1698 = .ok (.iconst 1, 1) := dk_4 (dk_at dksL_law_65 7 rfl rfl)
theorem dL_law_1699 : decode cL_law 1699 = .ok (.iadd, 1) := dk_96 (dk_at dksL_law_65 8 rfl rfl)
theorem dL_law_1700 : decode cL_law 1700 = .ok (.iaload, 1) := dk_46 (dk_at dksL_law_65 9 rfl rfl)
theorem dL_law_1701 : decode cL_law 1701 = .ok (.aload_n 0, 1) := dk_42 (dk_at dksL_law_65 10 rfl rfl)
theorem dL_law_1702 : decode cL_law 1702 = .ok (.iload 4, 2) := dk_21 4 (dk_at dksL_law_65 11 rfl rfl)
theorem dL_law_1704 : decode cL_law 1704 = .ok (.iconst 2, 1) := dk_5 (dk_at dksL_law_65 13 rfl rfl)
theorem dL_law_1705 : decode cL_law 1705 = .ok (.iadd, 1) := dk_96 (dk_at dksL_law_65 14 rfl rfl)
theorem dL_law_1706 : decode cL_law 1706 = .ok (.iaload, 1) := dk_46 (dk_at dksL_law_65 15 rfl rfl)
theorem dL_law_1707 : decode cL_law 1707 = .ok (.aload_n 3, 1) := dk_45 (dk_at dksL_law_65 16 rfl rfl)
theorem dL_law_1708 : decode cL_law 1708 = .ok (.invokestatic 217, 3) := dk_184 0 217 (dk_at dksL_law_65 17 rfl rfl)
theorem dL_law_1711 : decode cL_law 1711 = .ok (.istore 5, 2) := dk_54 5 (dk_at dksL_law_65 20 rfl rfl)
theorem dL_law_1713 : decode cL_law 1713 = .ok (.aload_n 2, 1) := dk_44 (dk_at dksL_law_65 22 rfl rfl)
theorem dL_law_1714 : decode cL_law 1714 = .ok (.aload_n 0, 1) := dk_42 (dk_at dksL_law_65 23 rfl rfl)
theorem dL_law_1715 : decode cL_law 1715 = .ok (.iload 4, 2) := dk_21 4 (dk_at dksL_law_66 0 rfl rfl)
theorem dL_law_1717 : decode cL_law 1717 = .ok (.iconst 1, 1) := dk_4 (dk_at dksL_law_66 2 rfl rfl)
theorem dL_law_1718 : decode cL_law 1718 = .ok (.iadd, 1) := dk_96 (dk_at dksL_law_66 3 rfl rfl)
theorem dL_law_1719 : decode cL_law 1719 = .ok (.iaload, 1) := dk_46 (dk_at dksL_law_66 4 rfl rfl)
theorem dL_law_1720 : decode cL_law 1720 = .ok (.aload_n 0, 1) := dk_42 (dk_at dksL_law_66 5 rfl rfl)
theorem dL_law_1721 : decode cL_law 1721 = .ok (.iload 4, 2) := dk_21 4 (dk_at dksL_law_66 6 rfl rfl)
theorem dL_law_1723 : decode cL_law 1723 = .ok (.iconst 2, 1) := dk_5 (dk_at dksL_law_66 8 rfl rfl)
theorem dL_law_1724 : decode cL_law 1724 = .ok (.iadd, 1) := dk_96 (dk_at dksL_law_66 9 rfl rfl)
theorem dL_law_1725 : decode cL_law 1725 = .ok (.iaload, 1) := dk_46 (dk_at dksL_law_66 10 rfl rfl)
theorem dL_law_1726 : decode cL_law 1726 = .ok (.invokevirtual 219, 3) := dk_182 0 219 (dk_at dksL_law_66 11 rfl rfl)
theorem dL_law_1729 : decode cL_law 1729 = .ok (.istore 6, 2) := dk_54 6 (dk_at dksL_law_66 14 rfl rfl)
theorem dL_law_1731 : decode cL_law 1731 = .ok (.aload_n 2, 1) := dk_44 (dk_at dksL_law_66 16 rfl rfl)
theorem dL_law_1732 : decode cL_law 1732 = .ok (.invokevirtual 145, 3) := dk_182 0 145 (dk_at dksL_law_66 17 rfl rfl)
theorem dL_law_1735 : decode cL_law 1735 = .ok (.iload 5, 2) := dk_21 5 (dk_at dksL_law_66 20 rfl rfl)
theorem dL_law_1737 : decode cL_law 1737 = .ok (.if_icmp .eq 5, 3) := dk_159 0 5 (dk_at dksL_law_67 0 rfl rfl)
theorem dL_law_1740 : decode cL_law 1740 = .ok (.iconst 0, 1) := dk_3 (dk_at dksL_law_67 3 rfl rfl)
theorem dL_law_1741 : decode cL_law 1741 = .ok (.ireturn, 1) := dk_172 (dk_at dksL_law_67 4 rfl rfl)
theorem dL_law_1742 : decode cL_law 1742 = .ok (.iload 5, 2) := dk_21 5 (dk_at dksL_law_67 5 rfl rfl)
theorem dL_law_1744 : decode cL_law 1744 = .ok (.ifCond .ne 15, 3) := dk_154 0 15 (dk_at dksL_law_67 7 rfl rfl)
theorem dL_law_1747 : decode cL_law 1747 = .ok (.aload_n 3, 1) := dk_45 (dk_at dksL_law_67 10 rfl rfl)
theorem dL_law_1748 : decode cL_law 1748 = .ok (.iconst 0, 1) := dk_3 (dk_at dksL_law_67 11 rfl rfl)
theorem dL_law_1749 : decode cL_law 1749 = .ok (.laload, 1) := dk_47 (dk_at dksL_law_67 12 rfl rfl)
theorem dL_law_1750 : decode cL_law 1750 = .ok (.iload 6, 2) := dk_21 6 (dk_at dksL_law_67 13 rfl rfl)
theorem dL_law_1752 : decode cL_law 1752 = .ok (.i2l, 1) := dk_133 (dk_at dksL_law_67 15 rfl rfl)
theorem dL_law_1753 : decode cL_law 1753 = .ok (.lcmp, 1) := dk_148 (dk_at dksL_law_67 16 rfl rfl)
theorem dL_law_1754 : decode cL_law 1754 = .ok (.ifCond .eq 5, 3) := dk_153 0 5 (dk_at dksL_law_67 17 rfl rfl)
theorem dL_law_1757 : decode cL_law 1757 = .ok (.iconst 0, 1) := dk_3 (dk_at dksL_law_67 20 rfl rfl)
theorem dL_law_1758 : decode cL_law 1758 = .ok (.ireturn, 1) := dk_172 (dk_at dksL_law_67 21 rfl rfl)
theorem dL_law_1759 : decode cL_law 1759 = .ok (.goto 961, 3) := dk_167 3 193 (dk_at dksL_law_68 0 rfl rfl)
theorem dL_law_1762 : decode cL_law 1762 = .ok (.aload_n 1, 1) := dk_43 (dk_at dksL_law_68 3 rfl rfl)
theorem dL_law_1763 : decode cL_law 1763 = .ok (.aload_n 0, 1) := dk_42 (dk_at dksL_law_68 4 rfl rfl)
theorem dL_law_1764 : decode cL_law 1764 = .ok (.iload 4, 2) := dk_21 4 (dk_at dksL_law_68 5 rfl rfl)
theorem dL_law_1766 : decode cL_law 1766 = .ok (.iconst 1, 1) := dk_4 (dk_at dksL_law_68 7 rfl rfl)
theorem dL_law_1767 : decode cL_law 1767 = .ok (.iadd, 1) := dk_96 (dk_at dksL_law_68 8 rfl rfl)
theorem dL_law_1768 : decode cL_law 1768 = .ok (.iaload, 1) := dk_46 (dk_at dksL_law_68 9 rfl rfl)
theorem dL_law_1769 : decode cL_law 1769 = .ok (.aload_n 0, 1) := dk_42 (dk_at dksL_law_68 10 rfl rfl)
theorem dL_law_1770 : decode cL_law 1770 = .ok (.iload 4, 2) := dk_21 4 (dk_at dksL_law_68 11 rfl rfl)
theorem dL_law_1772 : decode cL_law 1772 = .ok (.iconst 2, 1) := dk_5 (dk_at dksL_law_68 13 rfl rfl)
theorem dL_law_1773 : decode cL_law 1773 = .ok (.iadd, 1) := dk_96 (dk_at dksL_law_68 14 rfl rfl)
theorem dL_law_1774 : decode cL_law 1774 = .ok (.iaload, 1) := dk_46 (dk_at dksL_law_68 15 rfl rfl)
theorem dL_law_1775 : decode cL_law 1775 = .ok (.aload_n 0, 1) := dk_42 (dk_at dksL_law_68 16 rfl rfl)
theorem dL_law_1776 : decode cL_law 1776 = .ok (.iload 4, 2) := dk_21 4 (dk_at dksL_law_68 17 rfl rfl)
theorem dL_law_1778 : decode cL_law 1778 = .ok (.iconst 3, 1) := dk_6 (dk_at dksL_law_68 19 rfl rfl)
theorem dL_law_1779 : decode cL_law 1779 = .ok (.iadd, 1) := dk_96 (dk_at dksL_law_68 20 rfl rfl)
theorem dL_law_1780 : decode cL_law 1780 = .ok (.iaload, 1) := dk_46 (dk_at dksL_law_68 21 rfl rfl)
theorem dL_law_1781 : decode cL_law 1781 = .ok (.aload_n 3, 1) := dk_45 (dk_at dksL_law_68 22 rfl rfl)
theorem dL_law_1782 : decode cL_law 1782 = .ok (.invokestatic 220, 3) := dk_184 0 220 (dk_at dksL_law_69 0 rfl rfl)
theorem dL_law_1785 : decode cL_law 1785 = .ok (.istore 5, 2) := dk_54 5 (dk_at dksL_law_69 3 rfl rfl)
theorem dL_law_1787 : decode cL_law 1787 = .ok (.aload_n 2, 1) := dk_44 (dk_at dksL_law_69 5 rfl rfl)
theorem dL_law_1788 : decode cL_law 1788 = .ok (.aload_n 0, 1) := dk_42 (dk_at dksL_law_69 6 rfl rfl)
theorem dL_law_1789 : decode cL_law 1789 = .ok (.iload 4, 2) := dk_21 4 (dk_at dksL_law_69 7 rfl rfl)
theorem dL_law_1791 : decode cL_law 1791 = .ok (.iconst 1, 1) := dk_4 (dk_at dksL_law_69 9 rfl rfl)
theorem dL_law_1792 : decode cL_law 1792 = .ok (.iadd, 1) := dk_96 (dk_at dksL_law_69 10 rfl rfl)
theorem dL_law_1793 : decode cL_law 1793 = .ok (.iaload, 1) := dk_46 (dk_at dksL_law_69 11 rfl rfl)
theorem dL_law_1794 : decode cL_law 1794 = .ok (.aload_n 0, 1) := dk_42 (dk_at dksL_law_69 12 rfl rfl)
theorem dL_law_1795 : decode cL_law 1795 = .ok (.iload 4, 2) := dk_21 4 (dk_at dksL_law_69 13 rfl rfl)
theorem dL_law_1797 : decode cL_law 1797 = .ok (.iconst 2, 1) := dk_5 (dk_at dksL_law_69 15 rfl rfl)
theorem dL_law_1798 : decode cL_law 1798 = .ok (.iadd, 1) := dk_96 (dk_at dksL_law_69 16 rfl rfl)
theorem dL_law_1799 : decode cL_law 1799 = .ok (.iaload, 1) := dk_46 (dk_at dksL_law_69 17 rfl rfl)
theorem dL_law_1800 : decode cL_law 1800 = .ok (.aload_n 0, 1) := dk_42 (dk_at dksL_law_69 18 rfl rfl)
theorem dL_law_1801 : decode cL_law 1801 = .ok (.iload 4, 2) := dk_21 4 (dk_at dksL_law_69 19 rfl rfl)
theorem dL_law_1803 : decode cL_law 1803 = .ok (.iconst 3, 1) := dk_6 (dk_at dksL_law_69 21 rfl rfl)
theorem dL_law_1804 : decode cL_law 1804 = .ok (.iadd, 1) := dk_96 (dk_at dksL_law_69 22 rfl rfl)
theorem dL_law_1805 : decode cL_law 1805 = .ok (.iaload, 1) := dk_46 (dk_at dksL_law_69 23 rfl rfl)
theorem dL_law_1806 : decode cL_law 1806 = .ok (.invokevirtual 222, 3) := dk_182 0 222 (dk_at dksL_law_70 0 rfl rfl)
theorem dL_law_1809 : decode cL_law 1809 = .ok (.istore 6, 2) := dk_54 6 (dk_at dksL_law_70 3 rfl rfl)
theorem dL_law_1811 : decode cL_law 1811 = .ok (.aload_n 2, 1) := dk_44 (dk_at dksL_law_70 5 rfl rfl)
theorem dL_law_1812 : decode cL_law 1812 = .ok (.invokevirtual 145, 3) := dk_182 0 145 (dk_at dksL_law_70 6 rfl rfl)
theorem dL_law_1815 : decode cL_law 1815 = .ok (.iload 5, 2) := dk_21 5 (dk_at dksL_law_70 9 rfl rfl)
theorem dL_law_1817 : decode cL_law 1817 = .ok (.if_icmp .eq 5, 3) := dk_159 0 5 (dk_at dksL_law_70 11 rfl rfl)
theorem dL_law_1820 : decode cL_law 1820 = .ok (.iconst 0, 1) := dk_3 (dk_at dksL_law_70 14 rfl rfl)
theorem dL_law_1821 : decode cL_law 1821 = .ok (.ireturn, 1) := dk_172 (dk_at dksL_law_70 15 rfl rfl)
theorem dL_law_1822 : decode cL_law 1822 = .ok (.iload 5, 2) := dk_21 5 (dk_at dksL_law_70 16 rfl rfl)
theorem dL_law_1824 : decode cL_law 1824 = .ok (.ifCond .ne 15, 3) := dk_154 0 15 (dk_at dksL_law_70 18 rfl rfl)
theorem dL_law_1827 : decode cL_law 1827 = .ok (.aload_n 3, 1) := dk_45 (dk_at dksL_law_70 21 rfl rfl)
theorem dL_law_1828 : decode cL_law 1828 = .ok (.iconst 0, 1) := dk_3 (dk_at dksL_law_70 22 rfl rfl)
theorem dL_law_1829 : decode cL_law 1829 = .ok (.laload, 1) := dk_47 (dk_at dksL_law_70 23 rfl rfl)
theorem dL_law_1830 : decode cL_law 1830 = .ok (.iload 6, 2) := dk_21 6 (dk_at dksL_law_71 0 rfl rfl)
theorem dL_law_1832 : decode cL_law 1832 = .ok (.i2l, 1) := dk_133 (dk_at dksL_law_71 2 rfl rfl)
theorem dL_law_1833 : decode cL_law 1833 = .ok (.lcmp, 1) := dk_148 (dk_at dksL_law_71 3 rfl rfl)
theorem dL_law_1834 : decode cL_law 1834 = .ok (.ifCond .eq 5, 3) := dk_153 0 5 (dk_at dksL_law_71 4 rfl rfl)
theorem dL_law_1837 : decode cL_law 1837 = .ok (.iconst 0, 1) := dk_3 (dk_at dksL_law_71 7 rfl rfl)
theorem dL_law_1838 : decode cL_law 1838 = .ok (.ireturn, 1) := dk_172 (dk_at dksL_law_71 8 rfl rfl)
theorem dL_law_1839 : decode cL_law 1839 = .ok (.goto 881, 3) := dk_167 3 113 (dk_at dksL_law_71 9 rfl rfl)
theorem dL_law_1842 : decode cL_law 1842 = .ok (.aload_n 1, 1) := dk_43 (dk_at dksL_law_71 12 rfl rfl)
theorem dL_law_1843 : decode cL_law 1843 = .ok (.aload_n 0, 1) := dk_42 (dk_at dksL_law_71 13 rfl rfl)
theorem dL_law_1844 : decode cL_law 1844 = .ok (.iload 4, 2) := dk_21 4 (dk_at dksL_law_71 14 rfl rfl)
theorem dL_law_1846 : decode cL_law 1846 = .ok (.iconst 1, 1) := dk_4 (dk_at dksL_law_71 16 rfl rfl)
theorem dL_law_1847 : decode cL_law 1847 = .ok (.iadd, 1) := dk_96 (dk_at dksL_law_71 17 rfl rfl)
theorem dL_law_1848 : decode cL_law 1848 = .ok (.iaload, 1) := dk_46 (dk_at dksL_law_71 18 rfl rfl)
theorem dL_law_1849 : decode cL_law 1849 = .ok (.aload_n 3, 1) := dk_45 (dk_at dksL_law_71 19 rfl rfl)
theorem dL_law_1850 : decode cL_law 1850 = .ok (.invokestatic 223, 3) := dk_184 0 223 (dk_at dksL_law_71 20 rfl rfl)
theorem dL_law_1853 : decode cL_law 1853 = .ok (.istore 5, 2) := dk_54 5 (dk_at dksL_law_72 0 rfl rfl)
theorem dL_law_1855 : decode cL_law 1855 = .ok (.aload_n 2, 1) := dk_44 (dk_at dksL_law_72 2 rfl rfl)
theorem dL_law_1856 : decode cL_law 1856 = .ok (.aload_n 0, 1) := dk_42 (dk_at dksL_law_72 3 rfl rfl)
theorem dL_law_1857 : decode cL_law 1857 = .ok (.iload 4, 2) := dk_21 4 (dk_at dksL_law_72 4 rfl rfl)
theorem dL_law_1859 : decode cL_law 1859 = .ok (.iconst 1, 1) := dk_4 (dk_at dksL_law_72 6 rfl rfl)
theorem dL_law_1860 : decode cL_law 1860 = .ok (.iadd, 1) := dk_96 (dk_at dksL_law_72 7 rfl rfl)
theorem dL_law_1861 : decode cL_law 1861 = .ok (.iaload, 1) := dk_46 (dk_at dksL_law_72 8 rfl rfl)
theorem dL_law_1862 : decode cL_law 1862 = .ok (.invokevirtual 225, 3) := dk_182 0 225 (dk_at dksL_law_72 9 rfl rfl)
theorem dL_law_1865 : decode cL_law 1865 = .ok (.istore 6, 2) := dk_54 6 (dk_at dksL_law_72 12 rfl rfl)
theorem dL_law_1867 : decode cL_law 1867 = .ok (.aload_n 2, 1) := dk_44 (dk_at dksL_law_72 14 rfl rfl)
theorem dL_law_1868 : decode cL_law 1868 = .ok (.invokevirtual 145, 3) := dk_182 0 145 (dk_at dksL_law_72 15 rfl rfl)
theorem dL_law_1871 : decode cL_law 1871 = .ok (.iload 5, 2) := dk_21 5 (dk_at dksL_law_72 18 rfl rfl)
theorem dL_law_1873 : decode cL_law 1873 = .ok (.if_icmp .eq 5, 3) := dk_159 0 5 (dk_at dksL_law_72 20 rfl rfl)
theorem dL_law_1876 : decode cL_law 1876 = .ok (.iconst 0, 1) := dk_3 (dk_at dksL_law_72 23 rfl rfl)
theorem dL_law_1877 : decode cL_law 1877 = .ok (.ireturn, 1) := dk_172 (dk_at dksL_law_73 0 rfl rfl)
theorem dL_law_1878 : decode cL_law 1878 = .ok (.iload 5, 2) := dk_21 5 (dk_at dksL_law_73 1 rfl rfl)
theorem dL_law_1880 : decode cL_law 1880 = .ok (.ifCond .ne 15, 3) := dk_154 0 15 (dk_at dksL_law_73 3 rfl rfl)
theorem dL_law_1883 : decode cL_law 1883 = .ok (.aload_n 3, 1) := dk_45 (dk_at dksL_law_73 6 rfl rfl)
theorem dL_law_1884 : decode cL_law 1884 = .ok (.iconst 0, 1) := dk_3 (dk_at dksL_law_73 7 rfl rfl)
theorem dL_law_1885 : decode cL_law 1885 = .ok (.laload, 1) := dk_47 (dk_at dksL_law_73 8 rfl rfl)
theorem dL_law_1886 : decode cL_law 1886 = .ok (.iload 6, 2) := dk_21 6 (dk_at dksL_law_73 9 rfl rfl)
theorem dL_law_1888 : decode cL_law 1888 = .ok (.i2l, 1) := dk_133 (dk_at dksL_law_73 11 rfl rfl)
theorem dL_law_1889 : decode cL_law 1889 = .ok (.lcmp, 1) := dk_148 (dk_at dksL_law_73 12 rfl rfl)
theorem dL_law_1890 : decode cL_law 1890 = .ok (.ifCond .eq 5, 3) := dk_153 0 5 (dk_at dksL_law_73 13 rfl rfl)
theorem dL_law_1893 : decode cL_law 1893 = .ok (.iconst 0, 1) := dk_3 (dk_at dksL_law_73 16 rfl rfl)
theorem dL_law_1894 : decode cL_law 1894 = .ok (.ireturn, 1) := dk_172 (dk_at dksL_law_73 17 rfl rfl)
theorem dL_law_1895 : decode cL_law 1895 = .ok (.goto 825, 3) := dk_167 3 57 (dk_at dksL_law_73 18 rfl rfl)
theorem dL_law_1898 : decode cL_law 1898 = .ok (.aload_n 1, 1) := dk_43 (dk_at dksL_law_73 21 rfl rfl)
theorem dL_law_1899 : decode cL_law 1899 = .ok (.invokevirtual 226, 3) := dk_182 0 226 (dk_at dksL_law_74 0 rfl rfl)
theorem dL_law_1902 : decode cL_law 1902 = .ok (.aload_n 2, 1) := dk_44 (dk_at dksL_law_74 3 rfl rfl)
theorem dL_law_1903 : decode cL_law 1903 = .ok (.invokevirtual 229, 3) := dk_182 0 229 (dk_at dksL_law_74 4 rfl rfl)
theorem dL_law_1906 : decode cL_law 1906 = .ok (.if_icmp .eq 814, 3) := dk_159 3 46 (dk_at dksL_law_74 7 rfl rfl)
theorem dL_law_1909 : decode cL_law 1909 = .ok (.iconst 0, 1) := dk_3 (dk_at dksL_law_74 10 rfl rfl)
theorem dL_law_1910 : decode cL_law 1910 = .ok (.ireturn, 1) := dk_172 (dk_at dksL_law_74 11 rfl rfl)
theorem dL_law_1911 : decode cL_law 1911 = .ok (.aload_n 1, 1) := dk_43 (dk_at dksL_law_74 12 rfl rfl)
theorem dL_law_1912 : decode cL_law 1912 = .ok (.invokevirtual 230, 3) := dk_182 0 230 (dk_at dksL_law_74 13 rfl rfl)
theorem dL_law_1915 : decode cL_law 1915 = .ok (.aload_n 2, 1) := dk_44 (dk_at dksL_law_74 16 rfl rfl)
theorem dL_law_1916 : decode cL_law 1916 = .ok (.invokevirtual 233, 3) := dk_182 0 233 (dk_at dksL_law_74 17 rfl rfl)
theorem dL_law_1919 : decode cL_law 1919 = .ok (.if_icmp .eq 801, 3) := dk_159 3 33 (dk_at dksL_law_74 20 rfl rfl)
theorem dL_law_1922 : decode cL_law 1922 = .ok (.iconst 0, 1) := dk_3 (dk_at dksL_law_74 23 rfl rfl)
theorem dL_law_1923 : decode cL_law 1923 = .ok (.ireturn, 1) := dk_172 (dk_at dksL_law_75 0 rfl rfl)
theorem dL_law_1924 : decode cL_law 1924 = .ok (.aload_n 1, 1) := dk_43 (dk_at dksL_law_75 1 rfl rfl)
theorem dL_law_1925 : decode cL_law 1925 = .ok (.aload_n 0, 1) := dk_42 (dk_at dksL_law_75 2 rfl rfl)
theorem dL_law_1926 : decode cL_law 1926 = .ok (.iload 4, 2) := dk_21 4 (dk_at dksL_law_75 3 rfl rfl)
theorem dL_law_1928 : decode cL_law 1928 = .ok (.iconst 1, 1) := dk_4 (dk_at dksL_law_75 5 rfl rfl)
theorem dL_law_1929 : decode cL_law 1929 = .ok (.iadd, 1) := dk_96 (dk_at dksL_law_75 6 rfl rfl)
theorem dL_law_1930 : decode cL_law 1930 = .ok (.iaload, 1) := dk_46 (dk_at dksL_law_75 7 rfl rfl)
theorem dL_law_1931 : decode cL_law 1931 = .ok (.aload_n 3, 1) := dk_45 (dk_at dksL_law_75 8 rfl rfl)
theorem dL_law_1932 : decode cL_law 1932 = .ok (.invokestatic 234, 3) := dk_184 0 234 (dk_at dksL_law_75 9 rfl rfl)
theorem dL_law_1935 : decode cL_law 1935 = .ok (.istore 5, 2) := dk_54 5 (dk_at dksL_law_75 12 rfl rfl)
theorem dL_law_1937 : decode cL_law 1937 = .ok (.aload_n 2, 1) := dk_44 (dk_at dksL_law_75 14 rfl rfl)
theorem dL_law_1938 : decode cL_law 1938 = .ok (.aload_n 0, 1) := dk_42 (dk_at dksL_law_75 15 rfl rfl)
theorem dL_law_1939 : decode cL_law 1939 = .ok (.iload 4, 2) := dk_21 4 (dk_at dksL_law_75 16 rfl rfl)
theorem dL_law_1941 : decode cL_law 1941 = .ok (.iconst 1, 1) := dk_4 (dk_at dksL_law_75 18 rfl rfl)
theorem dL_law_1942 : decode cL_law 1942 = .ok (.iadd, 1) := dk_96 (dk_at dksL_law_75 19 rfl rfl)
theorem dL_law_1943 : decode cL_law 1943 = .ok (.iaload, 1) := dk_46 (dk_at dksL_law_75 20 rfl rfl)
theorem dL_law_1944 : decode cL_law 1944 = .ok (.invokevirtual 236, 3) := dk_182 0 236 (dk_at dksL_law_75 21 rfl rfl)
theorem dL_law_1947 : decode cL_law 1947 = .ok (.istore 6, 2) := dk_54 6 (dk_at dksL_law_76 0 rfl rfl)
theorem dL_law_1949 : decode cL_law 1949 = .ok (.aload_n 2, 1) := dk_44 (dk_at dksL_law_76 2 rfl rfl)
theorem dL_law_1950 : decode cL_law 1950 = .ok (.invokevirtual 145, 3) := dk_182 0 145 (dk_at dksL_law_76 3 rfl rfl)
theorem dL_law_1953 : decode cL_law 1953 = .ok (.iload 5, 2) := dk_21 5 (dk_at dksL_law_76 6 rfl rfl)
theorem dL_law_1955 : decode cL_law 1955 = .ok (.if_icmp .eq 5, 3) := dk_159 0 5 (dk_at dksL_law_76 8 rfl rfl)
theorem dL_law_1958 : decode cL_law 1958 = .ok (.iconst 0, 1) := dk_3 (dk_at dksL_law_76 11 rfl rfl)
theorem dL_law_1959 : decode cL_law 1959 = .ok (.ireturn, 1) := dk_172 (dk_at dksL_law_76 12 rfl rfl)
theorem dL_law_1960 : decode cL_law 1960 = .ok (.iload 5, 2) := dk_21 5 (dk_at dksL_law_76 13 rfl rfl)
theorem dL_law_1962 : decode cL_law 1962 = .ok (.ifCond .ne 15, 3) := dk_154 0 15 (dk_at dksL_law_76 15 rfl rfl)
theorem dL_law_1965 : decode cL_law 1965 = .ok (.aload_n 3, 1) := dk_45 (dk_at dksL_law_76 18 rfl rfl)
theorem dL_law_1966 : decode cL_law 1966 = .ok (.iconst 0, 1) := dk_3 (dk_at dksL_law_76 19 rfl rfl)
theorem dL_law_1967 : decode cL_law 1967 = .ok (.laload, 1) := dk_47 (dk_at dksL_law_76 20 rfl rfl)
theorem dL_law_1968 : decode cL_law 1968 = .ok (.iload 6, 2) := dk_21 6 (dk_at dksL_law_76 21 rfl rfl)
theorem dL_law_1970 : decode cL_law 1970 = .ok (.i2l, 1) := dk_133 (dk_at dksL_law_76 23 rfl rfl)
theorem dL_law_1971 : decode cL_law 1971 = .ok (.lcmp, 1) := dk_148 (dk_at dksL_law_77 0 rfl rfl)
theorem dL_law_1972 : decode cL_law 1972 = .ok (.ifCond .eq 5, 3) := dk_153 0 5 (dk_at dksL_law_77 1 rfl rfl)
theorem dL_law_1975 : decode cL_law 1975 = .ok (.iconst 0, 1) := dk_3 (dk_at dksL_law_77 4 rfl rfl)
theorem dL_law_1976 : decode cL_law 1976 = .ok (.ireturn, 1) := dk_172 (dk_at dksL_law_77 5 rfl rfl)
theorem dL_law_1977 : decode cL_law 1977 = .ok (.goto 743, 3) := dk_167 2 231 (dk_at dksL_law_77 6 rfl rfl)
theorem dL_law_1980 : decode cL_law 1980 = .ok (.aload_n 1, 1) := dk_43 (dk_at dksL_law_77 9 rfl rfl)
theorem dL_law_1981 : decode cL_law 1981 = .ok (.aload_n 0, 1) := dk_42 (dk_at dksL_law_77 10 rfl rfl)
theorem dL_law_1982 : decode cL_law 1982 = .ok (.iload 4, 2) := dk_21 4 (dk_at dksL_law_77 11 rfl rfl)
theorem dL_law_1984 : decode cL_law 1984 = .ok (.iconst 1, 1) := dk_4 (dk_at dksL_law_77 13 rfl rfl)
theorem dL_law_1985 : decode cL_law 1985 = .ok (.iadd, 1) := dk_96 (dk_at dksL_law_77 14 rfl rfl)
theorem dL_law_1986 : decode cL_law 1986 = .ok (.iaload, 1) := dk_46 (dk_at dksL_law_77 15 rfl rfl)
theorem dL_law_1987 : decode cL_law 1987 = .ok (.aload_n 3, 1) := dk_45 (dk_at dksL_law_77 16 rfl rfl)
theorem dL_law_1988 : decode cL_law 1988 = .ok (.invokestatic 237, 3) := dk_184 0 237 (dk_at dksL_law_77 17 rfl rfl)
theorem dL_law_1991 : decode cL_law 1991 = .ok (.istore 5, 2) := dk_54 5 (dk_at dksL_law_77 20 rfl rfl)
theorem dL_law_1993 : decode cL_law 1993 = .ok (.aload_n 2, 1) := dk_44 (dk_at dksL_law_77 22 rfl rfl)
theorem dL_law_1994 : decode cL_law 1994 = .ok (.aload_n 0, 1) := dk_42 (dk_at dksL_law_77 23 rfl rfl)
theorem dL_law_1995 : decode cL_law 1995 = .ok (.iload 4, 2) := dk_21 4 (dk_at dksL_law_78 0 rfl rfl)
theorem dL_law_1997 : decode cL_law 1997 = .ok (.iconst 1, 1) := dk_4 (dk_at dksL_law_78 2 rfl rfl)
theorem dL_law_1998 : decode cL_law 1998 = .ok (.iadd, 1) := dk_96 (dk_at dksL_law_78 3 rfl rfl)
theorem dL_law_1999 : decode cL_law 1999 = .ok (.iaload, 1) := dk_46 (dk_at dksL_law_78 4 rfl rfl)
theorem dL_law_2000 : decode cL_law 2000 = .ok (.invokevirtual 239, 3) := dk_182 0 239 (dk_at dksL_law_78 5 rfl rfl)
theorem dL_law_2003 : decode cL_law 2003 = .ok (.istore 6, 2) := dk_54 6 (dk_at dksL_law_78 8 rfl rfl)
theorem dL_law_2005 : decode cL_law 2005 = .ok (.aload_n 2, 1) := dk_44 (dk_at dksL_law_78 10 rfl rfl)
theorem dL_law_2006 : decode cL_law 2006 = .ok (.invokevirtual 145, 3) := dk_182 0 145 (dk_at dksL_law_78 11 rfl rfl)
theorem dL_law_2009 : decode cL_law 2009 = .ok (.iload 5, 2) := dk_21 5 (dk_at dksL_law_78 14 rfl rfl)
theorem dL_law_2011 : decode cL_law 2011 = .ok (.if_icmp .eq 5, 3) := dk_159 0 5 (dk_at dksL_law_78 16 rfl rfl)
theorem dL_law_2014 : decode cL_law 2014 = .ok (.iconst 0, 1) := dk_3 (dk_at dksL_law_78 19 rfl rfl)
theorem dL_law_2015 : decode cL_law 2015 = .ok (.ireturn, 1) := dk_172 (dk_at dksL_law_78 20 rfl rfl)
theorem dL_law_2016 : decode cL_law 2016 = .ok (.iload 5, 2) := dk_21 5 (dk_at dksL_law_78 21 rfl rfl)
theorem dL_law_2018 : decode cL_law 2018 = .ok (.ifCond .ne 22, 3) := dk_154 0 22 (dk_at dksL_law_79 0 rfl rfl)
theorem dL_law_2021 : decode cL_law 2021 = .ok (.aload_n 3, 1) := dk_45 (dk_at dksL_law_79 3 rfl rfl)
theorem dL_law_2022 : decode cL_law 2022 = .ok (.iconst 0, 1) := dk_3 (dk_at dksL_law_79 4 rfl rfl)
theorem dL_law_2023 : decode cL_law 2023 = .ok (.laload, 1) := dk_47 (dk_at dksL_law_79 5 rfl rfl)
theorem dL_law_2024 : decode cL_law 2024 = .ok (.iload 6, 2) := dk_21 6 (dk_at dksL_law_79 6 rfl rfl)
theorem dL_law_2026 : decode cL_law 2026 = .ok (.ifCond .eq 7, 3) := dk_153 0 7 (dk_at dksL_law_79 8 rfl rfl)
theorem dL_law_2029 : decode cL_law 2029 = .ok (.lconst 1, 1) := dk_10 (dk_at dksL_law_79 11 rfl rfl)
theorem dL_law_2030 : decode cL_law 2030 = .ok (.goto 4, 3) := dk_167 0 4 (dk_at dksL_law_79 12 rfl rfl)
theorem dL_law_2033 : decode cL_law 2033 = .ok (.lconst 0, 1) := dk_9 (dk_at dksL_law_79 15 rfl rfl)
theorem dL_law_2034 : decode cL_law 2034 = .ok (.lcmp, 1) := dk_148 (dk_at dksL_law_79 16 rfl rfl)
theorem dL_law_2035 : decode cL_law 2035 = .ok (.ifCond .eq 5, 3) := dk_153 0 5 (dk_at dksL_law_79 17 rfl rfl)
theorem dL_law_2038 : decode cL_law 2038 = .ok (.iconst 0, 1) := dk_3 (dk_at dksL_law_79 20 rfl rfl)
theorem dL_law_2039 : decode cL_law 2039 = .ok (.ireturn, 1) := dk_172 (dk_at dksL_law_79 21 rfl rfl)
theorem dL_law_2040 : decode cL_law 2040 = .ok (.goto 680, 3) := dk_167 2 168 (dk_at dksL_law_80 0 rfl rfl)
theorem dL_law_2043 : decode cL_law 2043 = .ok (.aload_n 1, 1) := dk_43 (dk_at dksL_law_80 3 rfl rfl)
theorem dL_law_2044 : decode cL_law 2044 = .ok (.aload_n 0, 1) := dk_42 (dk_at dksL_law_80 4 rfl rfl)
theorem dL_law_2045 : decode cL_law 2045 = .ok (.iload 4, 2) := dk_21 4 (dk_at dksL_law_80 5 rfl rfl)
theorem dL_law_2047 : decode cL_law 2047 = .ok (.iconst 1, 1) := dk_4 (dk_at dksL_law_80 7 rfl rfl)
theorem dL_law_2048 : decode cL_law 2048 = .ok (.iadd, 1) := dk_96 (dk_at dksL_law_80 8 rfl rfl)
theorem dL_law_2049 : decode cL_law 2049 = .ok (.iaload, 1) := dk_46 (dk_at dksL_law_80 9 rfl rfl)
theorem dL_law_2050 : decode cL_law 2050 = .ok (.aload_n 0, 1) := dk_42 (dk_at dksL_law_80 10 rfl rfl)
theorem dL_law_2051 : decode cL_law 2051 = .ok (.iload 4, 2) := dk_21 4 (dk_at dksL_law_80 11 rfl rfl)
theorem dL_law_2053 : decode cL_law 2053 = .ok (.iconst 2, 1) := dk_5 (dk_at dksL_law_80 13 rfl rfl)
theorem dL_law_2054 : decode cL_law 2054 = .ok (.iadd, 1) := dk_96 (dk_at dksL_law_80 14 rfl rfl)
theorem dL_law_2055 : decode cL_law 2055 = .ok (.iaload, 1) := dk_46 (dk_at dksL_law_80 15 rfl rfl)
theorem dL_law_2056 : decode cL_law 2056 = .ok (.aload_n 3, 1) := dk_45 (dk_at dksL_law_80 16 rfl rfl)
theorem dL_law_2057 : decode cL_law 2057 = .ok (.invokestatic 240, 3) := dk_184 0 240 (dk_at dksL_law_80 17 rfl rfl)
theorem dL_law_2060 : decode cL_law 2060 = .ok (.istore 5, 2) := dk_54 5 (dk_at dksL_law_80 20 rfl rfl)
theorem dL_law_2062 : decode cL_law 2062 = .ok (.aload_n 2, 1) := dk_44 (dk_at dksL_law_80 22 rfl rfl)
theorem dL_law_2063 : decode cL_law 2063 = .ok (.aload_n 0, 1) := dk_42 (dk_at dksL_law_80 23 rfl rfl)
theorem dL_law_2064 : decode cL_law 2064 = .ok (.iload 4, 2) := dk_21 4 (dk_at dksL_law_81 0 rfl rfl)
theorem dL_law_2066 : decode cL_law 2066 = .ok (.iconst 1, 1) := dk_4 (dk_at dksL_law_81 2 rfl rfl)
theorem dL_law_2067 : decode cL_law 2067 = .ok (.iadd, 1) := dk_96 (dk_at dksL_law_81 3 rfl rfl)
theorem dL_law_2068 : decode cL_law 2068 = .ok (.iaload, 1) := dk_46 (dk_at dksL_law_81 4 rfl rfl)
theorem dL_law_2069 : decode cL_law 2069 = .ok (.aload_n 0, 1) := dk_42 (dk_at dksL_law_81 5 rfl rfl)
theorem dL_law_2070 : decode cL_law 2070 = .ok (.iload 4, 2) := dk_21 4 (dk_at dksL_law_81 6 rfl rfl)
theorem dL_law_2072 : decode cL_law 2072 = .ok (.iconst 2, 1) := dk_5 (dk_at dksL_law_81 8 rfl rfl)
theorem dL_law_2073 : decode cL_law 2073 = .ok (.iadd, 1) := dk_96 (dk_at dksL_law_81 9 rfl rfl)
theorem dL_law_2074 : decode cL_law 2074 = .ok (.iaload, 1) := dk_46 (dk_at dksL_law_81 10 rfl rfl)
theorem dL_law_2075 : decode cL_law 2075 = .ok (.invokevirtual 242, 3) := dk_182 0 242 (dk_at dksL_law_81 11 rfl rfl)
theorem dL_law_2078 : decode cL_law 2078 = .ok (.istore 6, 2) := dk_54 6 (dk_at dksL_law_81 14 rfl rfl)
theorem dL_law_2080 : decode cL_law 2080 = .ok (.aload_n 2, 1) := dk_44 (dk_at dksL_law_81 16 rfl rfl)
theorem dL_law_2081 : decode cL_law 2081 = .ok (.invokevirtual 145, 3) := dk_182 0 145 (dk_at dksL_law_81 17 rfl rfl)
theorem dL_law_2084 : decode cL_law 2084 = .ok (.iload 5, 2) := dk_21 5 (dk_at dksL_law_81 20 rfl rfl)
theorem dL_law_2086 : decode cL_law 2086 = .ok (.if_icmp .eq 5, 3) := dk_159 0 5 (dk_at dksL_law_82 0 rfl rfl)
theorem dL_law_2089 : decode cL_law 2089 = .ok (.iconst 0, 1) := dk_3 (dk_at dksL_law_82 3 rfl rfl)
theorem dL_law_2090 : decode cL_law 2090 = .ok (.ireturn, 1) := dk_172 (dk_at dksL_law_82 4 rfl rfl)
theorem dL_law_2091 : decode cL_law 2091 = .ok (.iload 5, 2) := dk_21 5 (dk_at dksL_law_82 5 rfl rfl)
theorem dL_law_2093 : decode cL_law 2093 = .ok (.ifCond .ne 15, 3) := dk_154 0 15 (dk_at dksL_law_82 7 rfl rfl)
theorem dL_law_2096 : decode cL_law 2096 = .ok (.aload_n 3, 1) := dk_45 (dk_at dksL_law_82 10 rfl rfl)
theorem dL_law_2097 : decode cL_law 2097 = .ok (.iconst 0, 1) := dk_3 (dk_at dksL_law_82 11 rfl rfl)
theorem dL_law_2098 : decode cL_law 2098 = .ok (.laload, 1) := dk_47 (dk_at dksL_law_82 12 rfl rfl)
theorem dL_law_2099 : decode cL_law 2099 = .ok (.iload 6, 2) := dk_21 6 (dk_at dksL_law_82 13 rfl rfl)
theorem dL_law_2101 : decode cL_law 2101 = .ok (.i2l, 1) := dk_133 (dk_at dksL_law_82 15 rfl rfl)
theorem dL_law_2102 : decode cL_law 2102 = .ok (.lcmp, 1) := dk_148 (dk_at dksL_law_82 16 rfl rfl)
theorem dL_law_2103 : decode cL_law 2103 = .ok (.ifCond .eq 5, 3) := dk_153 0 5 (dk_at dksL_law_82 17 rfl rfl)
theorem dL_law_2106 : decode cL_law 2106 = .ok (.iconst 0, 1) := dk_3 (dk_at dksL_law_82 20 rfl rfl)
theorem dL_law_2107 : decode cL_law 2107 = .ok (.ireturn, 1) := dk_172 (dk_at dksL_law_82 21 rfl rfl)
theorem dL_law_2108 : decode cL_law 2108 = .ok (.goto 612, 3) := dk_167 2 100 (dk_at dksL_law_83 0 rfl rfl)
theorem dL_law_2111 : decode cL_law 2111 = .ok (.aload_n 1, 1) := dk_43 (dk_at dksL_law_83 3 rfl rfl)
theorem dL_law_2112 : decode cL_law 2112 = .ok (.aload_n 0, 1) := dk_42 (dk_at dksL_law_83 4 rfl rfl)
theorem dL_law_2113 : decode cL_law 2113 = .ok (.iload 4, 2) := dk_21 4 (dk_at dksL_law_83 5 rfl rfl)
theorem dL_law_2115 : decode cL_law 2115 = .ok (.iconst 1, 1) := dk_4 (dk_at dksL_law_83 7 rfl rfl)
theorem dL_law_2116 : decode cL_law 2116 = .ok (.iadd, 1) := dk_96 (dk_at dksL_law_83 8 rfl rfl)
theorem dL_law_2117 : decode cL_law 2117 = .ok (.iaload, 1) := dk_46 (dk_at dksL_law_83 9 rfl rfl)
theorem dL_law_2118 : decode cL_law 2118 = .ok (.aload_n 3, 1) := dk_45 (dk_at dksL_law_83 10 rfl rfl)
theorem dL_law_2119 : decode cL_law 2119 = .ok (.invokestatic 243, 3) := dk_184 0 243 (dk_at dksL_law_83 11 rfl rfl)
theorem dL_law_2122 : decode cL_law 2122 = .ok (.istore 5, 2) := dk_54 5 (dk_at dksL_law_83 14 rfl rfl)
theorem dL_law_2124 : decode cL_law 2124 = .ok (.aload_n 2, 1) := dk_44 (dk_at dksL_law_83 16 rfl rfl)
theorem dL_law_2125 : decode cL_law 2125 = .ok (.aload_n 0, 1) := dk_42 (dk_at dksL_law_83 17 rfl rfl)
theorem dL_law_2126 : decode cL_law 2126 = .ok (.iload 4, 2) := dk_21 4 (dk_at dksL_law_83 18 rfl rfl)
theorem dL_law_2128 : decode cL_law 2128 = .ok (.iconst 1, 1) := dk_4 (dk_at dksL_law_83 20 rfl rfl)
theorem dL_law_2129 : decode cL_law 2129 = .ok (.iadd, 1) := dk_96 (dk_at dksL_law_83 21 rfl rfl)
theorem dL_law_2130 : decode cL_law 2130 = .ok (.iaload, 1) := dk_46 (dk_at dksL_law_83 22 rfl rfl)
theorem dL_law_2131 : decode cL_law 2131 = .ok (.invokevirtual 245, 3) := dk_182 0 245 (dk_at dksL_law_84 0 rfl rfl)
theorem dL_law_2134 : decode cL_law 2134 = .ok (.istore 6, 2) := dk_54 6 (dk_at dksL_law_84 3 rfl rfl)
theorem dL_law_2136 : decode cL_law 2136 = .ok (.aload_n 2, 1) := dk_44 (dk_at dksL_law_84 5 rfl rfl)
theorem dL_law_2137 : decode cL_law 2137 = .ok (.invokevirtual 145, 3) := dk_182 0 145 (dk_at dksL_law_84 6 rfl rfl)
theorem dL_law_2140 : decode cL_law 2140 = .ok (.iload 5, 2) := dk_21 5 (dk_at dksL_law_84 9 rfl rfl)
theorem dL_law_2142 : decode cL_law 2142 = .ok (.if_icmp .eq 5, 3) := dk_159 0 5 (dk_at dksL_law_84 11 rfl rfl)
theorem dL_law_2145 : decode cL_law 2145 = .ok (.iconst 0, 1) := dk_3 (dk_at dksL_law_84 14 rfl rfl)
theorem dL_law_2146 : decode cL_law 2146 = .ok (.ireturn, 1) := dk_172 (dk_at dksL_law_84 15 rfl rfl)
theorem dL_law_2147 : decode cL_law 2147 = .ok (.iload 5, 2) := dk_21 5 (dk_at dksL_law_84 16 rfl rfl)
theorem dL_law_2149 : decode cL_law 2149 = .ok (.ifCond .ne 15, 3) := dk_154 0 15 (dk_at dksL_law_84 18 rfl rfl)
theorem dL_law_2152 : decode cL_law 2152 = .ok (.aload_n 3, 1) := dk_45 (dk_at dksL_law_84 21 rfl rfl)
theorem dL_law_2153 : decode cL_law 2153 = .ok (.iconst 0, 1) := dk_3 (dk_at dksL_law_84 22 rfl rfl)
theorem dL_law_2154 : decode cL_law 2154 = .ok (.laload, 1) := dk_47 (dk_at dksL_law_84 23 rfl rfl)
theorem dL_law_2155 : decode cL_law 2155 = .ok (.iload 6, 2) := dk_21 6 (dk_at dksL_law_85 0 rfl rfl)
theorem dL_law_2157 : decode cL_law 2157 = .ok (.i2l, 1) := dk_133 (dk_at dksL_law_85 2 rfl rfl)
theorem dL_law_2158 : decode cL_law 2158 = .ok (.lcmp, 1) := dk_148 (dk_at dksL_law_85 3 rfl rfl)
theorem dL_law_2159 : decode cL_law 2159 = .ok (.ifCond .eq 5, 3) := dk_153 0 5 (dk_at dksL_law_85 4 rfl rfl)
theorem dL_law_2162 : decode cL_law 2162 = .ok (.iconst 0, 1) := dk_3 (dk_at dksL_law_85 7 rfl rfl)
theorem dL_law_2163 : decode cL_law 2163 = .ok (.ireturn, 1) := dk_172 (dk_at dksL_law_85 8 rfl rfl)
theorem dL_law_2164 : decode cL_law 2164 = .ok (.goto 556, 3) := dk_167 2 44 (dk_at dksL_law_85 9 rfl rfl)
theorem dL_law_2167 : decode cL_law 2167 = .ok (.aload_n 1, 1) := dk_43 (dk_at dksL_law_85 12 rfl rfl)
theorem dL_law_2168 : decode cL_law 2168 = .ok (.invokevirtual 246, 3) := dk_182 0 246 (dk_at dksL_law_85 13 rfl rfl)
theorem dL_law_2171 : decode cL_law 2171 = .ok (.aload_n 2, 1) := dk_44 (dk_at dksL_law_85 16 rfl rfl)
theorem dL_law_2172 : decode cL_law 2172 = .ok (.invokevirtual 249, 3) := dk_182 0 249 (dk_at dksL_law_85 17 rfl rfl)
theorem dL_law_2175 : decode cL_law 2175 = .ok (.if_icmp .eq 545, 3) := dk_159 2 33 (dk_at dksL_law_85 20 rfl rfl)
theorem dL_law_2178 : decode cL_law 2178 = .ok (.iconst 0, 1) := dk_3 (dk_at dksL_law_85 23 rfl rfl)
theorem dL_law_2179 : decode cL_law 2179 = .ok (.ireturn, 1) := dk_172 (dk_at dksL_law_86 0 rfl rfl)
theorem dL_law_2180 : decode cL_law 2180 = .ok (.aload_n 1, 1) := dk_43 (dk_at dksL_law_86 1 rfl rfl)
theorem dL_law_2181 : decode cL_law 2181 = .ok (.invokevirtual 250, 3) := dk_182 0 250 (dk_at dksL_law_86 2 rfl rfl)
theorem dL_law_2184 : decode cL_law 2184 = .ok (.aload_n 2, 1) := dk_44 (dk_at dksL_law_86 5 rfl rfl)
theorem dL_law_2185 : decode cL_law 2185 = .ok (.invokevirtual 253, 3) := dk_182 0 253 (dk_at dksL_law_86 6 rfl rfl)
theorem dL_law_2188 : decode cL_law 2188 = .ok (.if_icmp .eq 532, 3) := dk_159 2 20 (dk_at dksL_law_86 9 rfl rfl)
theorem dL_law_2191 : decode cL_law 2191 = .ok (.iconst 0, 1) := dk_3 (dk_at dksL_law_86 12 rfl rfl)
theorem dL_law_2192 : decode cL_law 2192 = .ok (.ireturn, 1) := dk_172 (dk_at dksL_law_86 13 rfl rfl)
theorem dL_law_2193 : decode cL_law 2193 = .ok (.aload_n 1, 1) := dk_43 (dk_at dksL_law_86 14 rfl rfl)
theorem dL_law_2194 : decode cL_law 2194 = .ok (.invokevirtual 254, 3) := dk_182 0 254 (dk_at dksL_law_86 15 rfl rfl)
theorem dL_law_2197 : decode cL_law 2197 = .ok (.aload_n 2, 1) := dk_44 (dk_at dksL_law_86 18 rfl rfl)
theorem dL_law_2198 : decode cL_law 2198 = .ok (.invokevirtual 257, 3) := dk_182 1 1 (dk_at dksL_law_86 19 rfl rfl)
theorem dL_law_2201 : decode cL_law 2201 = .ok (.if_icmp .eq 519, 3) := dk_159 2 7 (dk_at dksL_law_87 0 rfl rfl)
theorem dL_law_2204 : decode cL_law 2204 = .ok (.iconst 0, 1) := dk_3 (dk_at dksL_law_87 3 rfl rfl)
theorem dL_law_2205 : decode cL_law 2205 = .ok (.ireturn, 1) := dk_172 (dk_at dksL_law_87 4 rfl rfl)
theorem dL_law_2206 : decode cL_law 2206 = .ok (.aload_n 1, 1) := dk_43 (dk_at dksL_law_87 5 rfl rfl)
theorem dL_law_2207 : decode cL_law 2207 = .ok (.invokevirtual 258, 3) := dk_182 1 2 (dk_at dksL_law_87 6 rfl rfl)
theorem dL_law_2210 : decode cL_law 2210 = .ok (.aload_n 2, 1) := dk_44 (dk_at dksL_law_87 9 rfl rfl)
theorem dL_law_2211 : decode cL_law 2211 = .ok (.invokevirtual 261, 3) := dk_182 1 5 (dk_at dksL_law_87 10 rfl rfl)
theorem dL_law_2214 : decode cL_law 2214 = .ok (.if_icmp .eq 506, 3) := dk_159 1 250 (dk_at dksL_law_87 13 rfl rfl)
theorem dL_law_2217 : decode cL_law 2217 = .ok (.iconst 0, 1) := dk_3 (dk_at dksL_law_87 16 rfl rfl)
theorem dL_law_2218 : decode cL_law 2218 = .ok (.ireturn, 1) := dk_172 (dk_at dksL_law_87 17 rfl rfl)
theorem dL_law_2219 : decode cL_law 2219 = .ok (.aload_n 1, 1) := dk_43 (dk_at dksL_law_87 18 rfl rfl)
theorem dL_law_2220 : decode cL_law 2220 = .ok (.invokevirtual 262, 3) := dk_182 1 6 (dk_at dksL_law_87 19 rfl rfl)
theorem dL_law_2223 : decode cL_law 2223 = .ok (.aload_n 2, 1) := dk_44 (dk_at dksL_law_87 22 rfl rfl)
theorem dL_law_2224 : decode cL_law 2224 = .ok (.invokevirtual 265, 3) := dk_182 1 9 (dk_at dksL_law_88 0 rfl rfl)
theorem dL_law_2227 : decode cL_law 2227 = .ok (.if_icmp .eq 493, 3) := dk_159 1 237 (dk_at dksL_law_88 3 rfl rfl)
theorem dL_law_2230 : decode cL_law 2230 = .ok (.iconst 0, 1) := dk_3 (dk_at dksL_law_88 6 rfl rfl)
theorem dL_law_2231 : decode cL_law 2231 = .ok (.ireturn, 1) := dk_172 (dk_at dksL_law_88 7 rfl rfl)
theorem dL_law_2232 : decode cL_law 2232 = .ok (.aload_n 1, 1) := dk_43 (dk_at dksL_law_88 8 rfl rfl)
theorem dL_law_2233 : decode cL_law 2233 = .ok (.aload_n 0, 1) := dk_42 (dk_at dksL_law_88 9 rfl rfl)
theorem dL_law_2234 : decode cL_law 2234 = .ok (.iload 4, 2) := dk_21 4 (dk_at dksL_law_88 10 rfl rfl)
theorem dL_law_2236 : decode cL_law 2236 = .ok (.iconst 1, 1) := dk_4 (dk_at dksL_law_88 12 rfl rfl)
theorem dL_law_2237 : decode cL_law 2237 = .ok (.iadd, 1) := dk_96 (dk_at dksL_law_88 13 rfl rfl)
theorem dL_law_2238 : decode cL_law 2238 = .ok (.iaload, 1) := dk_46 (dk_at dksL_law_88 14 rfl rfl)
theorem dL_law_2239 : decode cL_law 2239 = .ok (.aload_n 0, 1) := dk_42 (dk_at dksL_law_88 15 rfl rfl)
theorem dL_law_2240 : decode cL_law 2240 = .ok (.iload 4, 2) := dk_21 4 (dk_at dksL_law_88 16 rfl rfl)
theorem dL_law_2242 : decode cL_law 2242 = .ok (.iconst 2, 1) := dk_5 (dk_at dksL_law_88 18 rfl rfl)
theorem dL_law_2243 : decode cL_law 2243 = .ok (.iadd, 1) := dk_96 (dk_at dksL_law_88 19 rfl rfl)
theorem dL_law_2244 : decode cL_law 2244 = .ok (.iaload, 1) := dk_46 (dk_at dksL_law_88 20 rfl rfl)
theorem dL_law_2245 : decode cL_law 2245 = .ok (.aload_n 3, 1) := dk_45 (dk_at dksL_law_88 21 rfl rfl)
theorem dL_law_2246 : decode cL_law 2246 = .ok (.invokestatic 266, 3) := dk_184 1 10 (dk_at dksL_law_89 0 rfl rfl)
theorem dL_law_2249 : decode cL_law 2249 = .ok (.istore 5, 2) := dk_54 5 (dk_at dksL_law_89 3 rfl rfl)
theorem dL_law_2251 : decode cL_law 2251 = .ok (.aload_n 2, 1) := dk_44 (dk_at dksL_law_89 5 rfl rfl)
theorem dL_law_2252 : decode cL_law 2252 = .ok (.aload_n 0, 1) := dk_42 (dk_at dksL_law_89 6 rfl rfl)
theorem dL_law_2253 : decode cL_law 2253 = .ok (.iload 4, 2) := dk_21 4 (dk_at dksL_law_89 7 rfl rfl)
theorem dL_law_2255 : decode cL_law 2255 = .ok (.iconst 1, 1) := dk_4 (dk_at dksL_law_89 9 rfl rfl)
theorem dL_law_2256 : decode cL_law 2256 = .ok (.iadd, 1) := dk_96 (dk_at dksL_law_89 10 rfl rfl)
theorem dL_law_2257 : decode cL_law 2257 = .ok (.iaload, 1) := dk_46 (dk_at dksL_law_89 11 rfl rfl)
theorem dL_law_2258 : decode cL_law 2258 = .ok (.aload_n 0, 1) := dk_42 (dk_at dksL_law_89 12 rfl rfl)
theorem dL_law_2259 : decode cL_law 2259 = .ok (.iload 4, 2) := dk_21 4 (dk_at dksL_law_89 13 rfl rfl)
theorem dL_law_2261 : decode cL_law 2261 = .ok (.iconst 2, 1) := dk_5 (dk_at dksL_law_89 15 rfl rfl)
theorem dL_law_2262 : decode cL_law 2262 = .ok (.iadd, 1) := dk_96 (dk_at dksL_law_89 16 rfl rfl)
theorem dL_law_2263 : decode cL_law 2263 = .ok (.iaload, 1) := dk_46 (dk_at dksL_law_89 17 rfl rfl)
theorem dL_law_2264 : decode cL_law 2264 = .ok (.invokevirtual 268, 3) := dk_182 1 12 (dk_at dksL_law_89 18 rfl rfl)
theorem dL_law_2267 : decode cL_law 2267 = .ok (.istore 6, 2) := dk_54 6 (dk_at dksL_law_89 21 rfl rfl)
theorem dL_law_2269 : decode cL_law 2269 = .ok (.aload_n 2, 1) := dk_44 (dk_at dksL_law_89 23 rfl rfl)
theorem dL_law_2270 : decode cL_law 2270 = .ok (.invokevirtual 145, 3) := dk_182 0 145 (dk_at dksL_law_90 0 rfl rfl)
theorem dL_law_2273 : decode cL_law 2273 = .ok (.iload 5, 2) := dk_21 5 (dk_at dksL_law_90 3 rfl rfl)
theorem dL_law_2275 : decode cL_law 2275 = .ok (.if_icmp .eq 5, 3) := dk_159 0 5 (dk_at dksL_law_90 5 rfl rfl)
theorem dL_law_2278 : decode cL_law 2278 = .ok (.iconst 0, 1) := dk_3 (dk_at dksL_law_90 8 rfl rfl)
theorem dL_law_2279 : decode cL_law 2279 = .ok (.ireturn, 1) := dk_172 (dk_at dksL_law_90 9 rfl rfl)
theorem dL_law_2280 : decode cL_law 2280 = .ok (.iload 5, 2) := dk_21 5 (dk_at dksL_law_90 10 rfl rfl)
theorem dL_law_2282 : decode cL_law 2282 = .ok (.ifCond .ne 15, 3) := dk_154 0 15 (dk_at dksL_law_90 12 rfl rfl)
theorem dL_law_2285 : decode cL_law 2285 = .ok (.aload_n 3, 1) := dk_45 (dk_at dksL_law_90 15 rfl rfl)
theorem dL_law_2286 : decode cL_law 2286 = .ok (.iconst 0, 1) := dk_3 (dk_at dksL_law_90 16 rfl rfl)
theorem dL_law_2287 : decode cL_law 2287 = .ok (.laload, 1) := dk_47 (dk_at dksL_law_90 17 rfl rfl)
theorem dL_law_2288 : decode cL_law 2288 = .ok (.iload 6, 2) := dk_21 6 (dk_at dksL_law_90 18 rfl rfl)
theorem dL_law_2290 : decode cL_law 2290 = .ok (.i2l, 1) := dk_133 (dk_at dksL_law_90 20 rfl rfl)
theorem dL_law_2291 : decode cL_law 2291 = .ok (.lcmp, 1) := dk_148 (dk_at dksL_law_90 21 rfl rfl)
theorem dL_law_2292 : decode cL_law 2292 = .ok (.ifCond .eq 5, 3) := dk_153 0 5 (dk_at dksL_law_91 0 rfl rfl)
theorem dL_law_2295 : decode cL_law 2295 = .ok (.iconst 0, 1) := dk_3 (dk_at dksL_law_91 3 rfl rfl)
theorem dL_law_2296 : decode cL_law 2296 = .ok (.ireturn, 1) := dk_172 (dk_at dksL_law_91 4 rfl rfl)
theorem dL_law_2297 : decode cL_law 2297 = .ok (.goto 423, 3) := dk_167 1 167 (dk_at dksL_law_91 5 rfl rfl)
theorem dL_law_2300 : decode cL_law 2300 = .ok (.aload_n 1, 1) := dk_43 (dk_at dksL_law_91 8 rfl rfl)
theorem dL_law_2301 : decode cL_law 2301 = .ok (.invokevirtual 269, 3) := dk_182 1 13 (dk_at dksL_law_91 9 rfl rfl)
theorem dL_law_2304 : decode cL_law 2304 = .ok (.aload_n 2, 1) := dk_44 (dk_at dksL_law_91 12 rfl rfl)
theorem dL_law_2305 : decode cL_law 2305 = .ok (.invokevirtual 272, 3) := dk_182 1 16 (dk_at dksL_law_91 13 rfl rfl)
theorem dL_law_2308 : decode cL_law 2308 = .ok (.if_icmp .eq 412, 3) := dk_159 1 156 (dk_at dksL_law_91 16 rfl rfl)
theorem dL_law_2311 : decode cL_law 2311 = .ok (.iconst 0, 1) := dk_3 (dk_at dksL_law_91 19 rfl rfl)
theorem dL_law_2312 : decode cL_law 2312 = .ok (.ireturn, 1) := dk_172 (dk_at dksL_law_91 20 rfl rfl)
theorem dL_law_2313 : decode cL_law 2313 = .ok (.aload_n 1, 1) := dk_43 (dk_at dksL_law_91 21 rfl rfl)
theorem dL_law_2314 : decode cL_law 2314 = .ok (.aload_n 0, 1) := dk_42 (dk_at dksL_law_91 22 rfl rfl)
theorem dL_law_2315 : decode cL_law 2315 = .ok (.iload 4, 2) := dk_21 4 (dk_at dksL_law_92 0 rfl rfl)
theorem dL_law_2317 : decode cL_law 2317 = .ok (.iconst 1, 1) := dk_4 (dk_at dksL_law_92 2 rfl rfl)
theorem dL_law_2318 : decode cL_law 2318 = .ok (.iadd, 1) := dk_96 (dk_at dksL_law_92 3 rfl rfl)
theorem dL_law_2319 : decode cL_law 2319 = .ok (.iaload, 1) := dk_46 (dk_at dksL_law_92 4 rfl rfl)
theorem dL_law_2320 : decode cL_law 2320 = .ok (.aload_n 0, 1) := dk_42 (dk_at dksL_law_92 5 rfl rfl)
theorem dL_law_2321 : decode cL_law 2321 = .ok (.iload 4, 2) := dk_21 4 (dk_at dksL_law_92 6 rfl rfl)
theorem dL_law_2323 : decode cL_law 2323 = .ok (.iconst 2, 1) := dk_5 (dk_at dksL_law_92 8 rfl rfl)
theorem dL_law_2324 : decode cL_law 2324 = .ok (.iadd, 1) := dk_96 (dk_at dksL_law_92 9 rfl rfl)
theorem dL_law_2325 : decode cL_law 2325 = .ok (.iaload, 1) := dk_46 (dk_at dksL_law_92 10 rfl rfl)
theorem dL_law_2326 : decode cL_law 2326 = .ok (.ifCond .eq 7, 3) := dk_153 0 7 (dk_at dksL_law_92 11 rfl rfl)
theorem dL_law_2329 : decode cL_law 2329 = .ok (.iconst 1, 1) := dk_4 (dk_at dksL_law_92 14 rfl rfl)
theorem dL_law_2330 : decode cL_law 2330 = .ok (.goto 4, 3) := dk_167 0 4 (dk_at dksL_law_92 15 rfl rfl)
theorem dL_law_2333 : decode cL_law 2333 = .ok (.iconst 0, 1) := dk_3 (dk_at dksL_law_92 18 rfl rfl)
theorem dL_law_2334 : decode cL_law 2334 = .ok (.aload_n 3, 1) := dk_45 (dk_at dksL_law_92 19 rfl rfl)
theorem dL_law_2335 : decode cL_law 2335 = .ok (.invokestatic 273, 3) := dk_184 1 17 (dk_at dksL_law_92 20 rfl rfl)
theorem dL_law_2338 : decode cL_law 2338 = .ok (.istore 5, 2) := dk_54 5 (dk_at dksL_law_93 0 rfl rfl)
theorem dL_law_2340 : decode cL_law 2340 = .ok (.aload_n 2, 1) := dk_44 (dk_at dksL_law_93 2 rfl rfl)
theorem dL_law_2341 : decode cL_law 2341 = .ok (.aload_n 0, 1) := dk_42 (dk_at dksL_law_93 3 rfl rfl)
theorem dL_law_2342 : decode cL_law 2342 = .ok (.iload 4, 2) := dk_21 4 (dk_at dksL_law_93 4 rfl rfl)
theorem dL_law_2344 : decode cL_law 2344 = .ok (.iconst 1, 1) := dk_4 (dk_at dksL_law_93 6 rfl rfl)
theorem dL_law_2345 : decode cL_law 2345 = .ok (.iadd, 1) := dk_96 (dk_at dksL_law_93 7 rfl rfl)
theorem dL_law_2346 : decode cL_law 2346 = .ok (.iaload, 1) := dk_46 (dk_at dksL_law_93 8 rfl rfl)
theorem dL_law_2347 : decode cL_law 2347 = .ok (.aload_n 0, 1) := dk_42 (dk_at dksL_law_93 9 rfl rfl)
theorem dL_law_2348 : decode cL_law 2348 = .ok (.iload 4, 2) := dk_21 4 (dk_at dksL_law_93 10 rfl rfl)
theorem dL_law_2350 : decode cL_law 2350 = .ok (.iconst 2, 1) := dk_5 (dk_at dksL_law_93 12 rfl rfl)
theorem dL_law_2351 : decode cL_law 2351 = .ok (.iadd, 1) := dk_96 (dk_at dksL_law_93 13 rfl rfl)
theorem dL_law_2352 : decode cL_law 2352 = .ok (.iaload, 1) := dk_46 (dk_at dksL_law_93 14 rfl rfl)
theorem dL_law_2353 : decode cL_law 2353 = .ok (.ifCond .eq 7, 3) := dk_153 0 7 (dk_at dksL_law_93 15 rfl rfl)
theorem dL_law_2356 : decode cL_law 2356 = .ok (.iconst 1, 1) := dk_4 (dk_at dksL_law_93 18 rfl rfl)
theorem dL_law_2357 : decode cL_law 2357 = .ok (.goto 4, 3) := dk_167 0 4 (dk_at dksL_law_93 19 rfl rfl)
theorem dL_law_2360 : decode cL_law 2360 = .ok (.iconst 0, 1) := dk_3 (dk_at dksL_law_93 22 rfl rfl)
theorem dL_law_2361 : decode cL_law 2361 = .ok (.invokevirtual 275, 3) := dk_182 1 19 (dk_at dksL_law_94 0 rfl rfl)
theorem dL_law_2364 : decode cL_law 2364 = .ok (.istore 6, 2) := dk_54 6 (dk_at dksL_law_94 3 rfl rfl)
theorem dL_law_2366 : decode cL_law 2366 = .ok (.aload_n 2, 1) := dk_44 (dk_at dksL_law_94 5 rfl rfl)
theorem dL_law_2367 : decode cL_law 2367 = .ok (.invokevirtual 145, 3) := dk_182 0 145 (dk_at dksL_law_94 6 rfl rfl)
theorem dL_law_2370 : decode cL_law 2370 = .ok (.iload 5, 2) := dk_21 5 (dk_at dksL_law_94 9 rfl rfl)
theorem dL_law_2372 : decode cL_law 2372 = .ok (.if_icmp .eq 5, 3) := dk_159 0 5 (dk_at dksL_law_94 11 rfl rfl)
theorem dL_law_2375 : decode cL_law 2375 = .ok (.iconst 0, 1) := dk_3 (dk_at dksL_law_94 14 rfl rfl)
theorem dL_law_2376 : decode cL_law 2376 = .ok (.ireturn, 1) := dk_172 (dk_at dksL_law_94 15 rfl rfl)
theorem dL_law_2377 : decode cL_law 2377 = .ok (.iload 5, 2) := dk_21 5 (dk_at dksL_law_94 16 rfl rfl)
theorem dL_law_2379 : decode cL_law 2379 = .ok (.ifCond .ne 15, 3) := dk_154 0 15 (dk_at dksL_law_94 18 rfl rfl)
theorem dL_law_2382 : decode cL_law 2382 = .ok (.aload_n 3, 1) := dk_45 (dk_at dksL_law_94 21 rfl rfl)
theorem dL_law_2383 : decode cL_law 2383 = .ok (.iconst 0, 1) := dk_3 (dk_at dksL_law_94 22 rfl rfl)
theorem dL_law_2384 : decode cL_law 2384 = .ok (.laload, 1) := dk_47 (dk_at dksL_law_94 23 rfl rfl)
theorem dL_law_2385 : decode cL_law 2385 = .ok (.iload 6, 2) := dk_21 6 (dk_at dksL_law_95 0 rfl rfl)
theorem dL_law_2387 : decode cL_law 2387 = .ok (.i2l, 1) := dk_133 (dk_at dksL_law_95 2 rfl rfl)
theorem dL_law_2388 : decode cL_law 2388 = .ok (.lcmp, 1) := dk_148 (dk_at dksL_law_95 3 rfl rfl)
theorem dL_law_2389 : decode cL_law 2389 = .ok (.ifCond .eq 5, 3) := dk_153 0 5 (dk_at dksL_law_95 4 rfl rfl)
theorem dL_law_2392 : decode cL_law 2392 = .ok (.iconst 0, 1) := dk_3 (dk_at dksL_law_95 7 rfl rfl)
theorem dL_law_2393 : decode cL_law 2393 = .ok (.ireturn, 1) := dk_172 (dk_at dksL_law_95 8 rfl rfl)
theorem dL_law_2394 : decode cL_law 2394 = .ok (.goto 326, 3) := dk_167 1 70 (dk_at dksL_law_95 9 rfl rfl)
theorem dL_law_2397 : decode cL_law 2397 = .ok (.aload_n 1, 1) := dk_43 (dk_at dksL_law_95 12 rfl rfl)
theorem dL_law_2398 : decode cL_law 2398 = .ok (.aload_n 0, 1) := dk_42 (dk_at dksL_law_95 13 rfl rfl)
theorem dL_law_2399 : decode cL_law 2399 = .ok (.iload 4, 2) := dk_21 4 (dk_at dksL_law_95 14 rfl rfl)
theorem dL_law_2401 : decode cL_law 2401 = .ok (.iconst 1, 1) := dk_4 (dk_at dksL_law_95 16 rfl rfl)
theorem dL_law_2402 : decode cL_law 2402 = .ok (.iadd, 1) := dk_96 (dk_at dksL_law_95 17 rfl rfl)
theorem dL_law_2403 : decode cL_law 2403 = .ok (.iaload, 1) := dk_46 (dk_at dksL_law_95 18 rfl rfl)
theorem dL_law_2404 : decode cL_law 2404 = .ok (.aload_n 0, 1) := dk_42 (dk_at dksL_law_95 19 rfl rfl)
theorem dL_law_2405 : decode cL_law 2405 = .ok (.iload 4, 2) := dk_21 4 (dk_at dksL_law_95 20 rfl rfl)
theorem dL_law_2407 : decode cL_law 2407 = .ok (.iconst 2, 1) := dk_5 (dk_at dksL_law_95 22 rfl rfl)
theorem dL_law_2408 : decode cL_law 2408 = .ok (.iadd, 1) := dk_96 (dk_at dksL_law_95 23 rfl rfl)
theorem dL_law_2409 : decode cL_law 2409 = .ok (.iaload, 1) := dk_46 (dk_at dksL_law_96 0 rfl rfl)
theorem dL_law_2410 : decode cL_law 2410 = .ok (.ifCond .eq 7, 3) := dk_153 0 7 (dk_at dksL_law_96 1 rfl rfl)
theorem dL_law_2413 : decode cL_law 2413 = .ok (.iconst 1, 1) := dk_4 (dk_at dksL_law_96 4 rfl rfl)
theorem dL_law_2414 : decode cL_law 2414 = .ok (.goto 4, 3) := dk_167 0 4 (dk_at dksL_law_96 5 rfl rfl)
theorem dL_law_2417 : decode cL_law 2417 = .ok (.iconst 0, 1) := dk_3 (dk_at dksL_law_96 8 rfl rfl)
theorem dL_law_2418 : decode cL_law 2418 = .ok (.aload_n 3, 1) := dk_45 (dk_at dksL_law_96 9 rfl rfl)
theorem dL_law_2419 : decode cL_law 2419 = .ok (.invokestatic 276, 3) := dk_184 1 20 (dk_at dksL_law_96 10 rfl rfl)
theorem dL_law_2422 : decode cL_law 2422 = .ok (.istore 5, 2) := dk_54 5 (dk_at dksL_law_96 13 rfl rfl)
theorem dL_law_2424 : decode cL_law 2424 = .ok (.aload_n 2, 1) := dk_44 (dk_at dksL_law_96 15 rfl rfl)
theorem dL_law_2425 : decode cL_law 2425 = .ok (.aload_n 0, 1) := dk_42 (dk_at dksL_law_96 16 rfl rfl)
theorem dL_law_2426 : decode cL_law 2426 = .ok (.iload 4, 2) := dk_21 4 (dk_at dksL_law_96 17 rfl rfl)
theorem dL_law_2428 : decode cL_law 2428 = .ok (.iconst 1, 1) := dk_4 (dk_at dksL_law_96 19 rfl rfl)
theorem dL_law_2429 : decode cL_law 2429 = .ok (.iadd, 1) := dk_96 (dk_at dksL_law_96 20 rfl rfl)
theorem dL_law_2430 : decode cL_law 2430 = .ok (.iaload, 1) := dk_46 (dk_at dksL_law_96 21 rfl rfl)
theorem dL_law_2431 : decode cL_law 2431 = .ok (.aload_n 0, 1) := dk_42 (dk_at dksL_law_96 22 rfl rfl)
theorem dL_law_2432 : decode cL_law 2432 = .ok (.iload 4, 2) := dk_21 4 (dk_at dksL_law_97 0 rfl rfl)
theorem dL_law_2434 : decode cL_law 2434 = .ok (.iconst 2, 1) := dk_5 (dk_at dksL_law_97 2 rfl rfl)
theorem dL_law_2435 : decode cL_law 2435 = .ok (.iadd, 1) := dk_96 (dk_at dksL_law_97 3 rfl rfl)
theorem dL_law_2436 : decode cL_law 2436 = .ok (.iaload, 1) := dk_46 (dk_at dksL_law_97 4 rfl rfl)
theorem dL_law_2437 : decode cL_law 2437 = .ok (.ifCond .eq 7, 3) := dk_153 0 7 (dk_at dksL_law_97 5 rfl rfl)
theorem dL_law_2440 : decode cL_law 2440 = .ok (.iconst 1, 1) := dk_4 (dk_at dksL_law_97 8 rfl rfl)
theorem dL_law_2441 : decode cL_law 2441 = .ok (.goto 4, 3) := dk_167 0 4 (dk_at dksL_law_97 9 rfl rfl)
theorem dL_law_2444 : decode cL_law 2444 = .ok (.iconst 0, 1) := dk_3 (dk_at dksL_law_97 12 rfl rfl)
theorem dL_law_2445 : decode cL_law 2445 = .ok (.invokevirtual 278, 3) := dk_182 1 22 (dk_at dksL_law_97 13 rfl rfl)
theorem dL_law_2448 : decode cL_law 2448 = .ok (.istore 6, 2) := dk_54 6 (dk_at dksL_law_97 16 rfl rfl)
theorem dL_law_2450 : decode cL_law 2450 = .ok (.aload_n 2, 1) := dk_44 (dk_at dksL_law_97 18 rfl rfl)
theorem dL_law_2451 : decode cL_law 2451 = .ok (.invokevirtual 145, 3) := dk_182 0 145 (dk_at dksL_law_97 19 rfl rfl)
theorem dL_law_2454 : decode cL_law 2454 = .ok (.iload 5, 2) := dk_21 5 (dk_at dksL_law_97 22 rfl rfl)
theorem dL_law_2456 : decode cL_law 2456 = .ok (.if_icmp .eq 5, 3) := dk_159 0 5 (dk_at dksL_law_98 0 rfl rfl)
theorem dL_law_2459 : decode cL_law 2459 = .ok (.iconst 0, 1) := dk_3 (dk_at dksL_law_98 3 rfl rfl)
theorem dL_law_2460 : decode cL_law 2460 = .ok (.ireturn, 1) := dk_172 (dk_at dksL_law_98 4 rfl rfl)
theorem dL_law_2461 : decode cL_law 2461 = .ok (.iload 5, 2) := dk_21 5 (dk_at dksL_law_98 5 rfl rfl)
theorem dL_law_2463 : decode cL_law 2463 = .ok (.ifCond .ne 15, 3) := dk_154 0 15 (dk_at dksL_law_98 7 rfl rfl)
theorem dL_law_2466 : decode cL_law 2466 = .ok (.aload_n 3, 1) := dk_45 (dk_at dksL_law_98 10 rfl rfl)
theorem dL_law_2467 : decode cL_law 2467 = .ok (.iconst 0, 1) := dk_3 (dk_at dksL_law_98 11 rfl rfl)
theorem dL_law_2468 : decode cL_law 2468 = .ok (.laload, 1) := dk_47 (dk_at dksL_law_98 12 rfl rfl)
theorem dL_law_2469 : decode cL_law 2469 = .ok (.iload 6, 2) := dk_21 6 (dk_at dksL_law_98 13 rfl rfl)
theorem dL_law_2471 : decode cL_law 2471 = .ok (.i2l, 1) := dk_133 (dk_at dksL_law_98 15 rfl rfl)
theorem dL_law_2472 : decode cL_law 2472 = .ok (.lcmp, 1) := dk_148 (dk_at dksL_law_98 16 rfl rfl)
theorem dL_law_2473 : decode cL_law 2473 = .ok (.ifCond .eq 5, 3) := dk_153 0 5 (dk_at dksL_law_98 17 rfl rfl)
theorem dL_law_2476 : decode cL_law 2476 = .ok (.iconst 0, 1) := dk_3 (dk_at dksL_law_98 20 rfl rfl)
theorem dL_law_2477 : decode cL_law 2477 = .ok (.ireturn, 1) := dk_172 (dk_at dksL_law_98 21 rfl rfl)
theorem dL_law_2478 : decode cL_law 2478 = .ok (.goto 242, 3) := dk_167 0 242 (dk_at dksL_law_99 0 rfl rfl)
theorem dL_law_2481 : decode cL_law 2481 = .ok (.aload_n 1, 1) := dk_43 (dk_at dksL_law_99 3 rfl rfl)
theorem dL_law_2482 : decode cL_law 2482 = .ok (.aload_n 0, 1) := dk_42 (dk_at dksL_law_99 4 rfl rfl)
theorem dL_law_2483 : decode cL_law 2483 = .ok (.iload 4, 2) := dk_21 4 (dk_at dksL_law_99 5 rfl rfl)
theorem dL_law_2485 : decode cL_law 2485 = .ok (.iconst 1, 1) := dk_4 (dk_at dksL_law_99 7 rfl rfl)
theorem dL_law_2486 : decode cL_law 2486 = .ok (.iadd, 1) := dk_96 (dk_at dksL_law_99 8 rfl rfl)
theorem dL_law_2487 : decode cL_law 2487 = .ok (.iaload, 1) := dk_46 (dk_at dksL_law_99 9 rfl rfl)
theorem dL_law_2488 : decode cL_law 2488 = .ok (.aload_n 0, 1) := dk_42 (dk_at dksL_law_99 10 rfl rfl)
theorem dL_law_2489 : decode cL_law 2489 = .ok (.iload 4, 2) := dk_21 4 (dk_at dksL_law_99 11 rfl rfl)
theorem dL_law_2491 : decode cL_law 2491 = .ok (.iconst 2, 1) := dk_5 (dk_at dksL_law_99 13 rfl rfl)
theorem dL_law_2492 : decode cL_law 2492 = .ok (.iadd, 1) := dk_96 (dk_at dksL_law_99 14 rfl rfl)
theorem dL_law_2493 : decode cL_law 2493 = .ok (.iaload, 1) := dk_46 (dk_at dksL_law_99 15 rfl rfl)
theorem dL_law_2494 : decode cL_law 2494 = .ok (.ifCond .eq 7, 3) := dk_153 0 7 (dk_at dksL_law_99 16 rfl rfl)
theorem dL_law_2497 : decode cL_law 2497 = .ok (.iconst 1, 1) := dk_4 (dk_at dksL_law_99 19 rfl rfl)
theorem dL_law_2498 : decode cL_law 2498 = .ok (.goto 4, 3) := dk_167 0 4 (dk_at dksL_law_99 20 rfl rfl)
theorem dL_law_2501 : decode cL_law 2501 = .ok (.iconst 0, 1) := dk_3 (dk_at dksL_law_99 23 rfl rfl)
theorem dL_law_2502 : decode cL_law 2502 = .ok (.aload_n 3, 1) := dk_45 (dk_at dksL_law_100 0 rfl rfl)
theorem dL_law_2503 : decode cL_law 2503 = .ok (.invokestatic 279, 3) := dk_184 1 23 (dk_at dksL_law_100 1 rfl rfl)
theorem dL_law_2506 : decode cL_law 2506 = .ok (.istore 5, 2) := dk_54 5 (dk_at dksL_law_100 4 rfl rfl)
theorem dL_law_2508 : decode cL_law 2508 = .ok (.aload_n 2, 1) := dk_44 (dk_at dksL_law_100 6 rfl rfl)
theorem dL_law_2509 : decode cL_law 2509 = .ok (.aload_n 0, 1) := dk_42 (dk_at dksL_law_100 7 rfl rfl)
theorem dL_law_2510 : decode cL_law 2510 = .ok (.iload 4, 2) := dk_21 4 (dk_at dksL_law_100 8 rfl rfl)
theorem dL_law_2512 : decode cL_law 2512 = .ok (.iconst 1, 1) := dk_4 (dk_at dksL_law_100 10 rfl rfl)
theorem dL_law_2513 : decode cL_law 2513 = .ok (.iadd, 1) := dk_96 (dk_at dksL_law_100 11 rfl rfl)
theorem dL_law_2514 : decode cL_law 2514 = .ok (.iaload, 1) := dk_46 (dk_at dksL_law_100 12 rfl rfl)
theorem dL_law_2515 : decode cL_law 2515 = .ok (.aload_n 0, 1) := dk_42 (dk_at dksL_law_100 13 rfl rfl)
theorem dL_law_2516 : decode cL_law 2516 = .ok (.iload 4, 2) := dk_21 4 (dk_at dksL_law_100 14 rfl rfl)
theorem dL_law_2518 : decode cL_law 2518 = .ok (.iconst 2, 1) := dk_5 (dk_at dksL_law_100 16 rfl rfl)
theorem dL_law_2519 : decode cL_law 2519 = .ok (.iadd, 1) := dk_96 (dk_at dksL_law_100 17 rfl rfl)
theorem dL_law_2520 : decode cL_law 2520 = .ok (.iaload, 1) := dk_46 (dk_at dksL_law_100 18 rfl rfl)
theorem dL_law_2521 : decode cL_law 2521 = .ok (.ifCond .eq 7, 3) := dk_153 0 7 (dk_at dksL_law_100 19 rfl rfl)
theorem dL_law_2524 : decode cL_law 2524 = .ok (.iconst 1, 1) := dk_4 (dk_at dksL_law_100 22 rfl rfl)
theorem dL_law_2525 : decode cL_law 2525 = .ok (.goto 4, 3) := dk_167 0 4 (dk_at dksL_law_101 0 rfl rfl)
theorem dL_law_2528 : decode cL_law 2528 = .ok (.iconst 0, 1) := dk_3 (dk_at dksL_law_101 3 rfl rfl)
theorem dL_law_2529 : decode cL_law 2529 = .ok (.invokevirtual 281, 3) := dk_182 1 25 (dk_at dksL_law_101 4 rfl rfl)
theorem dL_law_2532 : decode cL_law 2532 = .ok (.istore 6, 2) := dk_54 6 (dk_at dksL_law_101 7 rfl rfl)
theorem dL_law_2534 : decode cL_law 2534 = .ok (.aload_n 2, 1) := dk_44 (dk_at dksL_law_101 9 rfl rfl)
theorem dL_law_2535 : decode cL_law 2535 = .ok (.invokevirtual 145, 3) := dk_182 0 145 (dk_at dksL_law_101 10 rfl rfl)
theorem dL_law_2538 : decode cL_law 2538 = .ok (.iload 5, 2) := dk_21 5 (dk_at dksL_law_101 13 rfl rfl)
theorem dL_law_2540 : decode cL_law 2540 = .ok (.if_icmp .eq 5, 3) := dk_159 0 5 (dk_at dksL_law_101 15 rfl rfl)
theorem dL_law_2543 : decode cL_law 2543 = .ok (.iconst 0, 1) := dk_3 (dk_at dksL_law_101 18 rfl rfl)
theorem dL_law_2544 : decode cL_law 2544 = .ok (.ireturn, 1) := dk_172 (dk_at dksL_law_101 19 rfl rfl)
theorem dL_law_2545 : decode cL_law 2545 = .ok (.iload 5, 2) := dk_21 5 (dk_at dksL_law_101 20 rfl rfl)
theorem dL_law_2547 : decode cL_law 2547 = .ok (.ifCond .ne 15, 3) := dk_154 0 15 (dk_at dksL_law_102 0 rfl rfl)
theorem dL_law_2550 : decode cL_law 2550 = .ok (.aload_n 3, 1) := dk_45 (dk_at dksL_law_102 3 rfl rfl)
theorem dL_law_2551 : decode cL_law 2551 = .ok (.iconst 0, 1) := dk_3 (dk_at dksL_law_102 4 rfl rfl)
theorem dL_law_2552 : decode cL_law 2552 = .ok (.laload, 1) := dk_47 (dk_at dksL_law_102 5 rfl rfl)
theorem dL_law_2553 : decode cL_law 2553 = .ok (.iload 6, 2) := dk_21 6 (dk_at dksL_law_102 6 rfl rfl)
theorem dL_law_2555 : decode cL_law 2555 = .ok (.i2l, 1) := dk_133 (dk_at dksL_law_102 8 rfl rfl)
theorem dL_law_2556 : decode cL_law 2556 = .ok (.lcmp, 1) := dk_148 (dk_at dksL_law_102 9 rfl rfl)
theorem dL_law_2557 : decode cL_law 2557 = .ok (.ifCond .eq 5, 3) := dk_153 0 5 (dk_at dksL_law_102 10 rfl rfl)
theorem dL_law_2560 : decode cL_law 2560 = .ok (.iconst 0, 1) := dk_3 (dk_at dksL_law_102 13 rfl rfl)
theorem dL_law_2561 : decode cL_law 2561 = .ok (.ireturn, 1) := dk_172 (dk_at dksL_law_102 14 rfl rfl)
theorem dL_law_2562 : decode cL_law 2562 = .ok (.goto 158, 3) := dk_167 0 158 (dk_at dksL_law_102 15 rfl rfl)
theorem dL_law_2565 : decode cL_law 2565 = .ok (.aload_n 1, 1) := dk_43 (dk_at dksL_law_102 18 rfl rfl)
theorem dL_law_2566 : decode cL_law 2566 = .ok (.aload_n 0, 1) := dk_42 (dk_at dksL_law_102 19 rfl rfl)
theorem dL_law_2567 : decode cL_law 2567 = .ok (.iload 4, 2) := dk_21 4 (dk_at dksL_law_102 20 rfl rfl)
theorem dL_law_2569 : decode cL_law 2569 = .ok (.iconst 1, 1) := dk_4 (dk_at dksL_law_102 22 rfl rfl)
theorem dL_law_2570 : decode cL_law 2570 = .ok (.iadd, 1) := dk_96 (dk_at dksL_law_102 23 rfl rfl)
theorem dL_law_2571 : decode cL_law 2571 = .ok (.iaload, 1) := dk_46 (dk_at dksL_law_103 0 rfl rfl)
theorem dL_law_2572 : decode cL_law 2572 = .ok (.aload_n 0, 1) := dk_42 (dk_at dksL_law_103 1 rfl rfl)
theorem dL_law_2573 : decode cL_law 2573 = .ok (.iload 4, 2) := dk_21 4 (dk_at dksL_law_103 2 rfl rfl)
theorem dL_law_2575 : decode cL_law 2575 = .ok (.iconst 2, 1) := dk_5 (dk_at dksL_law_103 4 rfl rfl)
theorem dL_law_2576 : decode cL_law 2576 = .ok (.iadd, 1) := dk_96 (dk_at dksL_law_103 5 rfl rfl)
theorem dL_law_2577 : decode cL_law 2577 = .ok (.iaload, 1) := dk_46 (dk_at dksL_law_103 6 rfl rfl)
theorem dL_law_2578 : decode cL_law 2578 = .ok (.aload_n 3, 1) := dk_45 (dk_at dksL_law_103 7 rfl rfl)
theorem dL_law_2579 : decode cL_law 2579 = .ok (.invokestatic 282, 3) := dk_184 1 26 (dk_at dksL_law_103 8 rfl rfl)
theorem dL_law_2582 : decode cL_law 2582 = .ok (.istore 5, 2) := dk_54 5 (dk_at dksL_law_103 11 rfl rfl)
theorem dL_law_2584 : decode cL_law 2584 = .ok (.aload_n 2, 1) := dk_44 (dk_at dksL_law_103 13 rfl rfl)
theorem dL_law_2585 : decode cL_law 2585 = .ok (.aload_n 0, 1) := dk_42 (dk_at dksL_law_103 14 rfl rfl)
theorem dL_law_2586 : decode cL_law 2586 = .ok (.iload 4, 2) := dk_21 4 (dk_at dksL_law_103 15 rfl rfl)
theorem dL_law_2588 : decode cL_law 2588 = .ok (.iconst 1, 1) := dk_4 (dk_at dksL_law_103 17 rfl rfl)
theorem dL_law_2589 : decode cL_law 2589 = .ok (.iadd, 1) := dk_96 (dk_at dksL_law_103 18 rfl rfl)
theorem dL_law_2590 : decode cL_law 2590 = .ok (.iaload, 1) := dk_46 (dk_at dksL_law_103 19 rfl rfl)
theorem dL_law_2591 : decode cL_law 2591 = .ok (.aload_n 0, 1) := dk_42 (dk_at dksL_law_103 20 rfl rfl)
theorem dL_law_2592 : decode cL_law 2592 = .ok (.iload 4, 2) := dk_21 4 (dk_at dksL_law_103 21 rfl rfl)
theorem dL_law_2594 : decode cL_law 2594 = .ok (.iconst 2, 1) := dk_5 (dk_at dksL_law_103 23 rfl rfl)
theorem dL_law_2595 : decode cL_law 2595 = .ok (.iadd, 1) := dk_96 (dk_at dksL_law_104 0 rfl rfl)
theorem dL_law_2596 : decode cL_law 2596 = .ok (.iaload, 1) := dk_46 (dk_at dksL_law_104 1 rfl rfl)
theorem dL_law_2597 : decode cL_law 2597 = .ok (.invokevirtual 284, 3) := dk_182 1 28 (dk_at dksL_law_104 2 rfl rfl)
theorem dL_law_2600 : decode cL_law 2600 = .ok (.istore 6, 2) := dk_54 6 (dk_at dksL_law_104 5 rfl rfl)
theorem dL_law_2602 : decode cL_law 2602 = .ok (.aload_n 2, 1) := dk_44 (dk_at dksL_law_104 7 rfl rfl)
theorem dL_law_2603 : decode cL_law 2603 = .ok (.invokevirtual 145, 3) := dk_182 0 145 (dk_at dksL_law_104 8 rfl rfl)
theorem dL_law_2606 : decode cL_law 2606 = .ok (.iload 5, 2) := dk_21 5 (dk_at dksL_law_104 11 rfl rfl)
theorem dL_law_2608 : decode cL_law 2608 = .ok (.if_icmp .eq 5, 3) := dk_159 0 5 (dk_at dksL_law_104 13 rfl rfl)
theorem dL_law_2611 : decode cL_law 2611 = .ok (.iconst 0, 1) := dk_3 (dk_at dksL_law_104 16 rfl rfl)
theorem dL_law_2612 : decode cL_law 2612 = .ok (.ireturn, 1) := dk_172 (dk_at dksL_law_104 17 rfl rfl)
theorem dL_law_2613 : decode cL_law 2613 = .ok (.iload 5, 2) := dk_21 5 (dk_at dksL_law_104 18 rfl rfl)
theorem dL_law_2615 : decode cL_law 2615 = .ok (.ifCond .ne 15, 3) := dk_154 0 15 (dk_at dksL_law_104 20 rfl rfl)
theorem dL_law_2618 : decode cL_law 2618 = .ok (.aload_n 3, 1) := dk_45 (dk_at dksL_law_104 23 rfl rfl)
theorem dL_law_2619 : decode cL_law 2619 = .ok (.iconst 0, 1) := dk_3 (dk_at dksL_law_105 0 rfl rfl)
theorem dL_law_2620 : decode cL_law 2620 = .ok (.laload, 1) := dk_47 (dk_at dksL_law_105 1 rfl rfl)
theorem dL_law_2621 : decode cL_law 2621 = .ok (.iload 6, 2) := dk_21 6 (dk_at dksL_law_105 2 rfl rfl)
theorem dL_law_2623 : decode cL_law 2623 = .ok (.i2l, 1) := dk_133 (dk_at dksL_law_105 4 rfl rfl)
theorem dL_law_2624 : decode cL_law 2624 = .ok (.lcmp, 1) := dk_148 (dk_at dksL_law_105 5 rfl rfl)
theorem dL_law_2625 : decode cL_law 2625 = .ok (.ifCond .eq 5, 3) := dk_153 0 5 (dk_at dksL_law_105 6 rfl rfl)
theorem dL_law_2628 : decode cL_law 2628 = .ok (.iconst 0, 1) := dk_3 (dk_at dksL_law_105 9 rfl rfl)
theorem dL_law_2629 : decode cL_law 2629 = .ok (.ireturn, 1) := dk_172 (dk_at dksL_law_105 10 rfl rfl)
theorem dL_law_2630 : decode cL_law 2630 = .ok (.goto 90, 3) := dk_167 0 90 (dk_at dksL_law_105 11 rfl rfl)
theorem dL_law_2633 : decode cL_law 2633 = .ok (.aload_n 1, 1) := dk_43 (dk_at dksL_law_105 14 rfl rfl)
theorem dL_law_2634 : decode cL_law 2634 = .ok (.aload_n 0, 1) := dk_42 (dk_at dksL_law_105 15 rfl rfl)
theorem dL_law_2635 : decode cL_law 2635 = .ok (.iload 4, 2) := dk_21 4 (dk_at dksL_law_105 16 rfl rfl)
theorem dL_law_2637 : decode cL_law 2637 = .ok (.iconst 1, 1) := dk_4 (dk_at dksL_law_105 18 rfl rfl)
theorem dL_law_2638 : decode cL_law 2638 = .ok (.iadd, 1) := dk_96 (dk_at dksL_law_105 19 rfl rfl)
theorem dL_law_2639 : decode cL_law 2639 = .ok (.iaload, 1) := dk_46 (dk_at dksL_law_105 20 rfl rfl)
theorem dL_law_2640 : decode cL_law 2640 = .ok (.invokevirtual 285, 3) := dk_182 1 29 (dk_at dksL_law_105 21 rfl rfl)
theorem dL_law_2643 : decode cL_law 2643 = .ok (.aload_n 2, 1) := dk_44 (dk_at dksL_law_106 0 rfl rfl)
theorem dL_law_2644 : decode cL_law 2644 = .ok (.aload_n 0, 1) := dk_42 (dk_at dksL_law_106 1 rfl rfl)
theorem dL_law_2645 : decode cL_law 2645 = .ok (.iload 4, 2) := dk_21 4 (dk_at dksL_law_106 2 rfl rfl)
theorem dL_law_2647 : decode cL_law 2647 = .ok (.iconst 1, 1) := dk_4 (dk_at dksL_law_106 4 rfl rfl)
theorem dL_law_2648 : decode cL_law 2648 = .ok (.iadd, 1) := dk_96 (dk_at dksL_law_106 5 rfl rfl)
theorem dL_law_2649 : decode cL_law 2649 = .ok (.iaload, 1) := dk_46 (dk_at dksL_law_106 6 rfl rfl)
theorem dL_law_2650 : decode cL_law 2650 = .ok (.invokevirtual 288, 3) := dk_182 1 32 (dk_at dksL_law_106 7 rfl rfl)
theorem dL_law_2653 : decode cL_law 2653 = .ok (.if_icmp .eq 67, 3) := dk_159 0 67 (dk_at dksL_law_106 10 rfl rfl)
theorem dL_law_2656 : decode cL_law 2656 = .ok (.iconst 0, 1) := dk_3 (dk_at dksL_law_106 13 rfl rfl)
theorem dL_law_2657 : decode cL_law 2657 = .ok (.ireturn, 1) := dk_172 (dk_at dksL_law_106 14 rfl rfl)
theorem dL_law_2658 : decode cL_law 2658 = .ok (.aload_n 1, 1) := dk_43 (dk_at dksL_law_106 15 rfl rfl)
theorem dL_law_2659 : decode cL_law 2659 = .ok (.invokevirtual 289, 3) := dk_182 1 33 (dk_at dksL_law_106 16 rfl rfl)
theorem dL_law_2662 : decode cL_law 2662 = .ok (.aload_n 2, 1) := dk_44 (dk_at dksL_law_106 19 rfl rfl)
theorem dL_law_2663 : decode cL_law 2663 = .ok (.invokevirtual 293, 3) := dk_182 1 37 (dk_at dksL_law_106 20 rfl rfl)
theorem dL_law_2666 : decode cL_law 2666 = .ok (.if_icmp .eq 54, 3) := dk_159 0 54 (dk_at dksL_law_107 0 rfl rfl)
theorem dL_law_2669 : decode cL_law 2669 = .ok (.iconst 0, 1) := dk_3 (dk_at dksL_law_107 3 rfl rfl)
theorem dL_law_2670 : decode cL_law 2670 = .ok (.ireturn, 1) := dk_172 (dk_at dksL_law_107 4 rfl rfl)
theorem dL_law_2671 : decode cL_law 2671 = .ok (.aload_n 1, 1) := dk_43 (dk_at dksL_law_107 5 rfl rfl)
theorem dL_law_2672 : decode cL_law 2672 = .ok (.invokevirtual 294, 3) := dk_182 1 38 (dk_at dksL_law_107 6 rfl rfl)
theorem dL_law_2675 : decode cL_law 2675 = .ok (.aload_n 2, 1) := dk_44 (dk_at dksL_law_107 9 rfl rfl)
theorem dL_law_2676 : decode cL_law 2676 = .ok (.invokevirtual 297, 3) := dk_182 1 41 (dk_at dksL_law_107 10 rfl rfl)
theorem dL_law_2679 : decode cL_law 2679 = .ok (.goto 41, 3) := dk_167 0 41 (dk_at dksL_law_107 13 rfl rfl)
theorem dL_law_2682 : decode cL_law 2682 = .ok (.aload_n 1, 1) := dk_43 (dk_at dksL_law_107 16 rfl rfl)
theorem dL_law_2683 : decode cL_law 2683 = .ok (.invokevirtual 298, 3) := dk_182 1 42 (dk_at dksL_law_107 17 rfl rfl)
theorem dL_law_2686 : decode cL_law 2686 = .ok (.aload_n 2, 1) := dk_44 (dk_at dksL_law_107 20 rfl rfl)
theorem dL_law_2687 : decode cL_law 2687 = .ok (.invokevirtual 301, 3) := dk_182 1 45 (dk_at dksL_law_107 21 rfl rfl)
theorem dL_law_2690 : decode cL_law 2690 = .ok (.if_icmp .eq 30, 3) := dk_159 0 30 (dk_at dksL_law_108 0 rfl rfl)
theorem dL_law_2693 : decode cL_law 2693 = .ok (.iconst 0, 1) := dk_3 (dk_at dksL_law_108 3 rfl rfl)
theorem dL_law_2694 : decode cL_law 2694 = .ok (.ireturn, 1) := dk_172 (dk_at dksL_law_108 4 rfl rfl)
theorem dL_law_2695 : decode cL_law 2695 = .ok (.aload_n 1, 1) := dk_43 (dk_at dksL_law_108 5 rfl rfl)
theorem dL_law_2696 : decode cL_law 2696 = .ok (.aload_n 0, 1) := dk_42 (dk_at dksL_law_108 6 rfl rfl)
theorem dL_law_2697 : decode cL_law 2697 = .ok (.iload 4, 2) := dk_21 4 (dk_at dksL_law_108 7 rfl rfl)
theorem dL_law_2699 : decode cL_law 2699 = .ok (.iconst 1, 1) := dk_4 (dk_at dksL_law_108 9 rfl rfl)
theorem dL_law_2700 : decode cL_law 2700 = .ok (.iadd, 1) := dk_96 (dk_at dksL_law_108 10 rfl rfl)
theorem dL_law_2701 : decode cL_law 2701 = .ok (.iaload, 1) := dk_46 (dk_at dksL_law_108 11 rfl rfl)
theorem dL_law_2702 : decode cL_law 2702 = .ok (.invokevirtual 302, 3) := dk_182 1 46 (dk_at dksL_law_108 12 rfl rfl)
theorem dL_law_2705 : decode cL_law 2705 = .ok (.aload_n 2, 1) := dk_44 (dk_at dksL_law_108 15 rfl rfl)
theorem dL_law_2706 : decode cL_law 2706 = .ok (.aload_n 0, 1) := dk_42 (dk_at dksL_law_108 16 rfl rfl)
theorem dL_law_2707 : decode cL_law 2707 = .ok (.iload 4, 2) := dk_21 4 (dk_at dksL_law_108 17 rfl rfl)
theorem dL_law_2709 : decode cL_law 2709 = .ok (.iconst 1, 1) := dk_4 (dk_at dksL_law_108 19 rfl rfl)
theorem dL_law_2710 : decode cL_law 2710 = .ok (.iadd, 1) := dk_96 (dk_at dksL_law_108 20 rfl rfl)
theorem dL_law_2711 : decode cL_law 2711 = .ok (.iaload, 1) := dk_46 (dk_at dksL_law_108 21 rfl rfl)
theorem dL_law_2712 : decode cL_law 2712 = .ok (.invokevirtual 305, 3) := dk_182 1 49 (dk_at dksL_law_109 0 rfl rfl)
theorem dL_law_2715 : decode cL_law 2715 = .ok (.if_icmp .eq 5, 3) := dk_159 0 5 (dk_at dksL_law_109 3 rfl rfl)
theorem dL_law_2718 : decode cL_law 2718 = .ok (.iconst 0, 1) := dk_3 (dk_at dksL_law_109 6 rfl rfl)
theorem dL_law_2719 : decode cL_law 2719 = .ok (.ireturn, 1) := dk_172 (dk_at dksL_law_109 7 rfl rfl)
theorem dL_law_2720 : decode cL_law 2720 = .ok (.iinc 4 6, 3) := dk_132 4 6 (dk_at dksL_law_109 8 rfl rfl)
theorem dL_law_2723 : decode cL_law 2723 = .ok (.goto (-2700), 3) := dk_167 245 116 (dk_at dksL_law_109 11 rfl rfl)
theorem dL_law_2726 : decode cL_law 2726 = .ok (.iconst 1, 1) := dk_4 (dk_at dksL_law_109 14 rfl rfl)
theorem dL_law_2727 : decode cL_law 2727 = .ok (.ireturn, 1) := dk_172 (dk_at dksL_law_109 15 rfl rfl)

/-! FundBookLaw -/
set_option maxRecDepth 100000
def RX0 : String := "FundBookLaw"
abbrev cX0_setCurve : ByteArray := method_3_code
def yX0_setCurve : MethodName := ⟨RX0, "setCurve", "(LFundBook;II[J)I"⟩
def dkwX0_setCurve_0 : List UInt8 := [45, 3, 42, 27, 28, 182, 0, 7, 133, 80, 167, 0, 11, 58, 4, 4, 172, 58, 4, 5, 172, 3, 172]
abbrev dktX0_setCurve_0 : List UInt8 := dkwX0_setCurve_0 ++ []
theorem dksX0_setCurve_0 : cX0_setCurve.data.toList.drop 0 = dktX0_setCurve_0 := by decide +kernel
theorem dX0_setCurve_0 : decode cX0_setCurve 0 = .ok (.aload_n 3, 1) := dk_45 (dk_at dksX0_setCurve_0 0 rfl rfl)
theorem dX0_setCurve_1 : decode cX0_setCurve 1 = .ok (.iconst 0, 1) := dk_3 (dk_at dksX0_setCurve_0 1 rfl rfl)
theorem dX0_setCurve_2 : decode cX0_setCurve 2 = .ok (.aload_n 0, 1) := dk_42 (dk_at dksX0_setCurve_0 2 rfl rfl)
theorem dX0_setCurve_3 : decode cX0_setCurve 3 = .ok (.iload_n 1, 1) := dk_27 (dk_at dksX0_setCurve_0 3 rfl rfl)
theorem dX0_setCurve_4 : decode cX0_setCurve 4 = .ok (.iload_n 2, 1) := dk_28 (dk_at dksX0_setCurve_0 4 rfl rfl)
theorem dX0_setCurve_5 : decode cX0_setCurve 5 = .ok (.invokevirtual 7, 3) := dk_182 0 7 (dk_at dksX0_setCurve_0 5 rfl rfl)
theorem dX0_setCurve_8 : decode cX0_setCurve 8 = .ok (.i2l, 1) := dk_133 (dk_at dksX0_setCurve_0 8 rfl rfl)
theorem dX0_setCurve_9 : decode cX0_setCurve 9 = .ok (.lastore, 1) := dk_80 (dk_at dksX0_setCurve_0 9 rfl rfl)
theorem dX0_setCurve_10 : decode cX0_setCurve 10 = .ok (.goto 11, 3) := dk_167 0 11 (dk_at dksX0_setCurve_0 10 rfl rfl)
theorem dX0_setCurve_13 : decode cX0_setCurve 13 = .ok (.astore 4, 2) := dk_58 4 (dk_at dksX0_setCurve_0 13 rfl rfl)
theorem dX0_setCurve_15 : decode cX0_setCurve 15 = .ok (.iconst 1, 1) := dk_4 (dk_at dksX0_setCurve_0 15 rfl rfl)
theorem dX0_setCurve_16 : decode cX0_setCurve 16 = .ok (.ireturn, 1) := dk_172 (dk_at dksX0_setCurve_0 16 rfl rfl)
theorem dX0_setCurve_17 : decode cX0_setCurve 17 = .ok (.astore 4, 2) := dk_58 4 (dk_at dksX0_setCurve_0 17 rfl rfl)
theorem dX0_setCurve_19 : decode cX0_setCurve 19 = .ok (.iconst 2, 1) := dk_5 (dk_at dksX0_setCurve_0 19 rfl rfl)
theorem dX0_setCurve_20 : decode cX0_setCurve 20 = .ok (.ireturn, 1) := dk_172 (dk_at dksX0_setCurve_0 20 rfl rfl)
theorem dX0_setCurve_21 : decode cX0_setCurve 21 = .ok (.iconst 0, 1) := dk_3 (dk_at dksX0_setCurve_0 21 rfl rfl)
theorem dX0_setCurve_22 : decode cX0_setCurve 22 = .ok (.ireturn, 1) := dk_172 (dk_at dksX0_setCurve_0 22 rfl rfl)
abbrev cX0_setRates : ByteArray := method_4_code
def yX0_setRates : MethodName := ⟨RX0, "setRates", "(LFundBook;III)I"⟩
def dkwX0_setRates_0 : List UInt8 := [42, 27, 28, 29, 182, 0, 17, 167, 0, 7, 58, 4, 4, 172, 3, 172]
abbrev dktX0_setRates_0 : List UInt8 := dkwX0_setRates_0 ++ []
theorem dksX0_setRates_0 : cX0_setRates.data.toList.drop 0 = dktX0_setRates_0 := by decide +kernel
theorem dX0_setRates_0 : decode cX0_setRates 0 = .ok (.aload_n 0, 1) := dk_42 (dk_at dksX0_setRates_0 0 rfl rfl)
theorem dX0_setRates_1 : decode cX0_setRates 1 = .ok (.iload_n 1, 1) := dk_27 (dk_at dksX0_setRates_0 1 rfl rfl)
theorem dX0_setRates_2 : decode cX0_setRates 2 = .ok (.iload_n 2, 1) := dk_28 (dk_at dksX0_setRates_0 2 rfl rfl)
theorem dX0_setRates_3 : decode cX0_setRates 3 = .ok (.iload_n 3, 1) := dk_29 (dk_at dksX0_setRates_0 3 rfl rfl)
theorem dX0_setRates_4 : decode cX0_setRates 4 = .ok (.invokevirtual 17, 3) := dk_182 0 17 (dk_at dksX0_setRates_0 4 rfl rfl)
theorem dX0_setRates_7 : decode cX0_setRates 7 = .ok (.goto 7, 3) := dk_167 0 7 (dk_at dksX0_setRates_0 7 rfl rfl)
theorem dX0_setRates_10 : decode cX0_setRates 10 = .ok (.astore 4, 2) := dk_58 4 (dk_at dksX0_setRates_0 10 rfl rfl)
theorem dX0_setRates_12 : decode cX0_setRates 12 = .ok (.iconst 1, 1) := dk_4 (dk_at dksX0_setRates_0 12 rfl rfl)
theorem dX0_setRates_13 : decode cX0_setRates 13 = .ok (.ireturn, 1) := dk_172 (dk_at dksX0_setRates_0 13 rfl rfl)
theorem dX0_setRates_14 : decode cX0_setRates 14 = .ok (.iconst 0, 1) := dk_3 (dk_at dksX0_setRates_0 14 rfl rfl)
theorem dX0_setRates_15 : decode cX0_setRates 15 = .ok (.ireturn, 1) := dk_172 (dk_at dksX0_setRates_0 15 rfl rfl)
abbrev cX0_lend : ByteArray := method_5_code
def yX0_lend : MethodName := ⟨RX0, "lend", "(LFundBook;IIIIIZ[J)I"⟩
def dkwX0_lend_1 : List UInt8 := [172, 58, 8, 5, 172, 58, 8, 6, 172, 3, 172]
abbrev dktX0_lend_1 : List UInt8 := dkwX0_lend_1 ++ []
def dkwX0_lend_0 : List UInt8 := [25, 7, 3, 42, 27, 28, 29, 21, 4, 21, 5, 21, 6, 182, 0, 21, 133, 80, 167, 0, 15, 58, 8, 4]
abbrev dktX0_lend_0 : List UInt8 := dkwX0_lend_0 ++ dktX0_lend_1
theorem dksX0_lend_0 : cX0_lend.data.toList.drop 0 = dktX0_lend_0 := by decide +kernel
theorem dksX0_lend_1 : cX0_lend.data.toList.drop 24 = dktX0_lend_1 := dk_seg dksX0_lend_0 24 rfl rfl
theorem dX0_lend_0 : decode cX0_lend 0 = .ok (.aload 7, 2) := dk_25 7 (dk_at dksX0_lend_0 0 rfl rfl)
theorem dX0_lend_2 : decode cX0_lend 2 = .ok (.iconst 0, 1) := dk_3 (dk_at dksX0_lend_0 2 rfl rfl)
theorem dX0_lend_3 : decode cX0_lend 3 = .ok (.aload_n 0, 1) := dk_42 (dk_at dksX0_lend_0 3 rfl rfl)
theorem dX0_lend_4 : decode cX0_lend 4 = .ok (.iload_n 1, 1) := dk_27 (dk_at dksX0_lend_0 4 rfl rfl)
theorem dX0_lend_5 : decode cX0_lend 5 = .ok (.iload_n 2, 1) := dk_28 (dk_at dksX0_lend_0 5 rfl rfl)
theorem dX0_lend_6 : decode cX0_lend 6 = .ok (.iload_n 3, 1) := dk_29 (dk_at dksX0_lend_0 6 rfl rfl)
theorem dX0_lend_7 : decode cX0_lend 7 = .ok (.iload 4, 2) := dk_21 4 (dk_at dksX0_lend_0 7 rfl rfl)
theorem dX0_lend_9 : decode cX0_lend 9 = .ok (.iload 5, 2) := dk_21 5 (dk_at dksX0_lend_0 9 rfl rfl)
theorem dX0_lend_11 : decode cX0_lend 11 = .ok (.iload 6, 2) := dk_21 6 (dk_at dksX0_lend_0 11 rfl rfl)
theorem dX0_lend_13 : decode cX0_lend 13 = .ok (.invokevirtual 21, 3) := dk_182 0 21 (dk_at dksX0_lend_0 13 rfl rfl)
theorem dX0_lend_16 : decode cX0_lend 16 = .ok (.i2l, 1) := dk_133 (dk_at dksX0_lend_0 16 rfl rfl)
theorem dX0_lend_17 : decode cX0_lend 17 = .ok (.lastore, 1) := dk_80 (dk_at dksX0_lend_0 17 rfl rfl)
theorem dX0_lend_18 : decode cX0_lend 18 = .ok (.goto 15, 3) := dk_167 0 15 (dk_at dksX0_lend_0 18 rfl rfl)
theorem dX0_lend_21 : decode cX0_lend 21 = .ok (.astore 8, 2) := dk_58 8 (dk_at dksX0_lend_0 21 rfl rfl)
theorem dX0_lend_23 : decode cX0_lend 23 = .ok (.iconst 1, 1) := dk_4 (dk_at dksX0_lend_0 23 rfl rfl)
theorem dX0_lend_24 : decode cX0_lend 24 = .ok (.ireturn, 1) := dk_172 (dk_at dksX0_lend_1 0 rfl rfl)
theorem dX0_lend_25 : decode cX0_lend 25 = .ok (.astore 8, 2) := dk_58 8 (dk_at dksX0_lend_1 1 rfl rfl)
theorem dX0_lend_27 : decode cX0_lend 27 = .ok (.iconst 2, 1) := dk_5 (dk_at dksX0_lend_1 3 rfl rfl)
theorem dX0_lend_28 : decode cX0_lend 28 = .ok (.ireturn, 1) := dk_172 (dk_at dksX0_lend_1 4 rfl rfl)
theorem dX0_lend_29 : decode cX0_lend 29 = .ok (.astore 8, 2) := dk_58 8 (dk_at dksX0_lend_1 5 rfl rfl)
theorem dX0_lend_31 : decode cX0_lend 31 = .ok (.iconst 3, 1) := dk_6 (dk_at dksX0_lend_1 7 rfl rfl)
theorem dX0_lend_32 : decode cX0_lend 32 = .ok (.ireturn, 1) := dk_172 (dk_at dksX0_lend_1 8 rfl rfl)
theorem dX0_lend_33 : decode cX0_lend 33 = .ok (.iconst 0, 1) := dk_3 (dk_at dksX0_lend_1 9 rfl rfl)
theorem dX0_lend_34 : decode cX0_lend 34 = .ok (.ireturn, 1) := dk_172 (dk_at dksX0_lend_1 10 rfl rfl)
abbrev cX0_repay : ByteArray := method_6_code
def yX0_repay : MethodName := ⟨RX0, "repay", "(LFundBook;I[J)I"⟩
def dkwX0_repay_0 : List UInt8 := [44, 3, 42, 27, 182, 0, 27, 133, 80, 167, 0, 9, 78, 4, 172, 78, 5, 172, 3, 172]
abbrev dktX0_repay_0 : List UInt8 := dkwX0_repay_0 ++ []
theorem dksX0_repay_0 : cX0_repay.data.toList.drop 0 = dktX0_repay_0 := by decide +kernel
theorem dX0_repay_0 : decode cX0_repay 0 = .ok (.aload_n 2, 1) := dk_44 (dk_at dksX0_repay_0 0 rfl rfl)
theorem dX0_repay_1 : decode cX0_repay 1 = .ok (.iconst 0, 1) := dk_3 (dk_at dksX0_repay_0 1 rfl rfl)
theorem dX0_repay_2 : decode cX0_repay 2 = .ok (.aload_n 0, 1) := dk_42 (dk_at dksX0_repay_0 2 rfl rfl)
theorem dX0_repay_3 : decode cX0_repay 3 = .ok (.iload_n 1, 1) := dk_27 (dk_at dksX0_repay_0 3 rfl rfl)
theorem dX0_repay_4 : decode cX0_repay 4 = .ok (.invokevirtual 27, 3) := dk_182 0 27 (dk_at dksX0_repay_0 4 rfl rfl)
theorem dX0_repay_7 : decode cX0_repay 7 = .ok (.i2l, 1) := dk_133 (dk_at dksX0_repay_0 7 rfl rfl)
theorem dX0_repay_8 : decode cX0_repay 8 = .ok (.lastore, 1) := dk_80 (dk_at dksX0_repay_0 8 rfl rfl)
theorem dX0_repay_9 : decode cX0_repay 9 = .ok (.goto 9, 3) := dk_167 0 9 (dk_at dksX0_repay_0 9 rfl rfl)
theorem dX0_repay_12 : decode cX0_repay 12 = .ok (.astore_n 3, 1) := dk_78 (dk_at dksX0_repay_0 12 rfl rfl)
theorem dX0_repay_13 : decode cX0_repay 13 = .ok (.iconst 1, 1) := dk_4 (dk_at dksX0_repay_0 13 rfl rfl)
theorem dX0_repay_14 : decode cX0_repay 14 = .ok (.ireturn, 1) := dk_172 (dk_at dksX0_repay_0 14 rfl rfl)
theorem dX0_repay_15 : decode cX0_repay 15 = .ok (.astore_n 3, 1) := dk_78 (dk_at dksX0_repay_0 15 rfl rfl)
theorem dX0_repay_16 : decode cX0_repay 16 = .ok (.iconst 2, 1) := dk_5 (dk_at dksX0_repay_0 16 rfl rfl)
theorem dX0_repay_17 : decode cX0_repay 17 = .ok (.ireturn, 1) := dk_172 (dk_at dksX0_repay_0 17 rfl rfl)
theorem dX0_repay_18 : decode cX0_repay 18 = .ok (.iconst 0, 1) := dk_3 (dk_at dksX0_repay_0 18 rfl rfl)
theorem dX0_repay_19 : decode cX0_repay 19 = .ok (.ireturn, 1) := dk_172 (dk_at dksX0_repay_0 19 rfl rfl)
abbrev cX0_deposit : ByteArray := method_7_code
def yX0_deposit : MethodName := ⟨RX0, "deposit", "(LFundBook;II[J)I"⟩
def dkwX0_deposit_1 : List UInt8 := [172, 3, 172]
abbrev dktX0_deposit_1 : List UInt8 := dkwX0_deposit_1 ++ []
def dkwX0_deposit_0 : List UInt8 := [45, 3, 42, 27, 28, 182, 0, 31, 133, 80, 167, 0, 15, 58, 4, 4, 172, 58, 4, 5, 172, 58, 4, 6]
abbrev dktX0_deposit_0 : List UInt8 := dkwX0_deposit_0 ++ dktX0_deposit_1
theorem dksX0_deposit_0 : cX0_deposit.data.toList.drop 0 = dktX0_deposit_0 := by decide +kernel
theorem dksX0_deposit_1 : cX0_deposit.data.toList.drop 24 = dktX0_deposit_1 := dk_seg dksX0_deposit_0 24 rfl rfl
theorem dX0_deposit_0 : decode cX0_deposit 0 = .ok (.aload_n 3, 1) := dk_45 (dk_at dksX0_deposit_0 0 rfl rfl)
theorem dX0_deposit_1 : decode cX0_deposit 1 = .ok (.iconst 0, 1) := dk_3 (dk_at dksX0_deposit_0 1 rfl rfl)
theorem dX0_deposit_2 : decode cX0_deposit 2 = .ok (.aload_n 0, 1) := dk_42 (dk_at dksX0_deposit_0 2 rfl rfl)
theorem dX0_deposit_3 : decode cX0_deposit 3 = .ok (.iload_n 1, 1) := dk_27 (dk_at dksX0_deposit_0 3 rfl rfl)
theorem dX0_deposit_4 : decode cX0_deposit 4 = .ok (.iload_n 2, 1) := dk_28 (dk_at dksX0_deposit_0 4 rfl rfl)
theorem dX0_deposit_5 : decode cX0_deposit 5 = .ok (.invokevirtual 31, 3) := dk_182 0 31 (dk_at dksX0_deposit_0 5 rfl rfl)
theorem dX0_deposit_8 : decode cX0_deposit 8 = .ok (.i2l, 1) := dk_133 (dk_at dksX0_deposit_0 8 rfl rfl)
theorem dX0_deposit_9 : decode cX0_deposit 9 = .ok (.lastore, 1) := dk_80 (dk_at dksX0_deposit_0 9 rfl rfl)
theorem dX0_deposit_10 : decode cX0_deposit 10 = .ok (.goto 15, 3) := dk_167 0 15 (dk_at dksX0_deposit_0 10 rfl rfl)
theorem dX0_deposit_13 : decode cX0_deposit 13 = .ok (.astore 4, 2) := dk_58 4 (dk_at dksX0_deposit_0 13 rfl rfl)
theorem dX0_deposit_15 : decode cX0_deposit 15 = .ok (.iconst 1, 1) := dk_4 (dk_at dksX0_deposit_0 15 rfl rfl)
theorem dX0_deposit_16 : decode cX0_deposit 16 = .ok (.ireturn, 1) := dk_172 (dk_at dksX0_deposit_0 16 rfl rfl)
theorem dX0_deposit_17 : decode cX0_deposit 17 = .ok (.astore 4, 2) := dk_58 4 (dk_at dksX0_deposit_0 17 rfl rfl)
theorem dX0_deposit_19 : decode cX0_deposit 19 = .ok (.iconst 2, 1) := dk_5 (dk_at dksX0_deposit_0 19 rfl rfl)
theorem dX0_deposit_20 : decode cX0_deposit 20 = .ok (.ireturn, 1) := dk_172 (dk_at dksX0_deposit_0 20 rfl rfl)
theorem dX0_deposit_21 : decode cX0_deposit 21 = .ok (.astore 4, 2) := dk_58 4 (dk_at dksX0_deposit_0 21 rfl rfl)
theorem dX0_deposit_23 : decode cX0_deposit 23 = .ok (.iconst 3, 1) := dk_6 (dk_at dksX0_deposit_0 23 rfl rfl)
theorem dX0_deposit_24 : decode cX0_deposit 24 = .ok (.ireturn, 1) := dk_172 (dk_at dksX0_deposit_1 0 rfl rfl)
theorem dX0_deposit_25 : decode cX0_deposit 25 = .ok (.iconst 0, 1) := dk_3 (dk_at dksX0_deposit_1 1 rfl rfl)
theorem dX0_deposit_26 : decode cX0_deposit 26 = .ok (.ireturn, 1) := dk_172 (dk_at dksX0_deposit_1 2 rfl rfl)
abbrev cX0_closeMonth : ByteArray := method_8_code
def yX0_closeMonth : MethodName := ⟨RX0, "closeMonth", "(LFundBook;[J)I"⟩
def dkwX0_closeMonth_0 : List UInt8 := [43, 3, 42, 182, 0, 34, 133, 80, 167, 0, 6, 77, 4, 172, 3, 172]
abbrev dktX0_closeMonth_0 : List UInt8 := dkwX0_closeMonth_0 ++ []
theorem dksX0_closeMonth_0 : cX0_closeMonth.data.toList.drop 0 = dktX0_closeMonth_0 := by decide +kernel
theorem dX0_closeMonth_0 : decode cX0_closeMonth 0 = .ok (.aload_n 1, 1) := dk_43 (dk_at dksX0_closeMonth_0 0 rfl rfl)
theorem dX0_closeMonth_1 : decode cX0_closeMonth 1 = .ok (.iconst 0, 1) := dk_3 (dk_at dksX0_closeMonth_0 1 rfl rfl)
theorem dX0_closeMonth_2 : decode cX0_closeMonth 2 = .ok (.aload_n 0, 1) := dk_42 (dk_at dksX0_closeMonth_0 2 rfl rfl)
theorem dX0_closeMonth_3 : decode cX0_closeMonth 3 = .ok (.invokevirtual 34, 3) := dk_182 0 34 (dk_at dksX0_closeMonth_0 3 rfl rfl)
theorem dX0_closeMonth_6 : decode cX0_closeMonth 6 = .ok (.i2l, 1) := dk_133 (dk_at dksX0_closeMonth_0 6 rfl rfl)
theorem dX0_closeMonth_7 : decode cX0_closeMonth 7 = .ok (.lastore, 1) := dk_80 (dk_at dksX0_closeMonth_0 7 rfl rfl)
theorem dX0_closeMonth_8 : decode cX0_closeMonth 8 = .ok (.goto 6, 3) := dk_167 0 6 (dk_at dksX0_closeMonth_0 8 rfl rfl)
theorem dX0_closeMonth_11 : decode cX0_closeMonth 11 = .ok (.astore_n 2, 1) := dk_77 (dk_at dksX0_closeMonth_0 11 rfl rfl)
theorem dX0_closeMonth_12 : decode cX0_closeMonth 12 = .ok (.iconst 1, 1) := dk_4 (dk_at dksX0_closeMonth_0 12 rfl rfl)
theorem dX0_closeMonth_13 : decode cX0_closeMonth 13 = .ok (.ireturn, 1) := dk_172 (dk_at dksX0_closeMonth_0 13 rfl rfl)
theorem dX0_closeMonth_14 : decode cX0_closeMonth 14 = .ok (.iconst 0, 1) := dk_3 (dk_at dksX0_closeMonth_0 14 rfl rfl)
theorem dX0_closeMonth_15 : decode cX0_closeMonth 15 = .ok (.ireturn, 1) := dk_172 (dk_at dksX0_closeMonth_0 15 rfl rfl)
abbrev cX0_left : ByteArray := method_9_code
def yX0_left : MethodName := ⟨RX0, "left", "(LFundBook;I[J)I"⟩
def dkwX0_left_0 : List UInt8 := [44, 3, 42, 27, 182, 0, 38, 133, 80, 167, 0, 6, 78, 4, 172, 3, 172]
abbrev dktX0_left_0 : List UInt8 := dkwX0_left_0 ++ []
theorem dksX0_left_0 : cX0_left.data.toList.drop 0 = dktX0_left_0 := by decide +kernel
theorem dX0_left_0 : decode cX0_left 0 = .ok (.aload_n 2, 1) := dk_44 (dk_at dksX0_left_0 0 rfl rfl)
theorem dX0_left_1 : decode cX0_left 1 = .ok (.iconst 0, 1) := dk_3 (dk_at dksX0_left_0 1 rfl rfl)
theorem dX0_left_2 : decode cX0_left 2 = .ok (.aload_n 0, 1) := dk_42 (dk_at dksX0_left_0 2 rfl rfl)
theorem dX0_left_3 : decode cX0_left 3 = .ok (.iload_n 1, 1) := dk_27 (dk_at dksX0_left_0 3 rfl rfl)
theorem dX0_left_4 : decode cX0_left 4 = .ok (.invokevirtual 38, 3) := dk_182 0 38 (dk_at dksX0_left_0 4 rfl rfl)
theorem dX0_left_7 : decode cX0_left 7 = .ok (.i2l, 1) := dk_133 (dk_at dksX0_left_0 7 rfl rfl)
theorem dX0_left_8 : decode cX0_left 8 = .ok (.lastore, 1) := dk_80 (dk_at dksX0_left_0 8 rfl rfl)
theorem dX0_left_9 : decode cX0_left 9 = .ok (.goto 6, 3) := dk_167 0 6 (dk_at dksX0_left_0 9 rfl rfl)
theorem dX0_left_12 : decode cX0_left 12 = .ok (.astore_n 3, 1) := dk_78 (dk_at dksX0_left_0 12 rfl rfl)
theorem dX0_left_13 : decode cX0_left 13 = .ok (.iconst 1, 1) := dk_4 (dk_at dksX0_left_0 13 rfl rfl)
theorem dX0_left_14 : decode cX0_left 14 = .ok (.ireturn, 1) := dk_172 (dk_at dksX0_left_0 14 rfl rfl)
theorem dX0_left_15 : decode cX0_left 15 = .ok (.iconst 0, 1) := dk_3 (dk_at dksX0_left_0 15 rfl rfl)
theorem dX0_left_16 : decode cX0_left 16 = .ok (.ireturn, 1) := dk_172 (dk_at dksX0_left_0 16 rfl rfl)
abbrev cX0_bears : ByteArray := method_10_code
def yX0_bears : MethodName := ⟨RX0, "bears", "(LFundBook;II[J)I"⟩
def dkwX0_bears_0 : List UInt8 := [45, 3, 42, 27, 28, 182, 0, 41, 133, 80, 167, 0, 11, 58, 4, 4, 172, 58, 4, 5, 172, 3, 172]
abbrev dktX0_bears_0 : List UInt8 := dkwX0_bears_0 ++ []
theorem dksX0_bears_0 : cX0_bears.data.toList.drop 0 = dktX0_bears_0 := by decide +kernel
theorem dX0_bears_0 : decode cX0_bears 0 = .ok (.aload_n 3, 1) := dk_45 (dk_at dksX0_bears_0 0 rfl rfl)
theorem dX0_bears_1 : decode cX0_bears 1 = .ok (.iconst 0, 1) := dk_3 (dk_at dksX0_bears_0 1 rfl rfl)
theorem dX0_bears_2 : decode cX0_bears 2 = .ok (.aload_n 0, 1) := dk_42 (dk_at dksX0_bears_0 2 rfl rfl)
theorem dX0_bears_3 : decode cX0_bears 3 = .ok (.iload_n 1, 1) := dk_27 (dk_at dksX0_bears_0 3 rfl rfl)
theorem dX0_bears_4 : decode cX0_bears 4 = .ok (.iload_n 2, 1) := dk_28 (dk_at dksX0_bears_0 4 rfl rfl)
theorem dX0_bears_5 : decode cX0_bears 5 = .ok (.invokevirtual 41, 3) := dk_182 0 41 (dk_at dksX0_bears_0 5 rfl rfl)
theorem dX0_bears_8 : decode cX0_bears 8 = .ok (.i2l, 1) := dk_133 (dk_at dksX0_bears_0 8 rfl rfl)
theorem dX0_bears_9 : decode cX0_bears 9 = .ok (.lastore, 1) := dk_80 (dk_at dksX0_bears_0 9 rfl rfl)
theorem dX0_bears_10 : decode cX0_bears 10 = .ok (.goto 11, 3) := dk_167 0 11 (dk_at dksX0_bears_0 10 rfl rfl)
theorem dX0_bears_13 : decode cX0_bears 13 = .ok (.astore 4, 2) := dk_58 4 (dk_at dksX0_bears_0 13 rfl rfl)
theorem dX0_bears_15 : decode cX0_bears 15 = .ok (.iconst 1, 1) := dk_4 (dk_at dksX0_bears_0 15 rfl rfl)
theorem dX0_bears_16 : decode cX0_bears 16 = .ok (.ireturn, 1) := dk_172 (dk_at dksX0_bears_0 16 rfl rfl)
theorem dX0_bears_17 : decode cX0_bears 17 = .ok (.astore 4, 2) := dk_58 4 (dk_at dksX0_bears_0 17 rfl rfl)
theorem dX0_bears_19 : decode cX0_bears 19 = .ok (.iconst 2, 1) := dk_5 (dk_at dksX0_bears_0 19 rfl rfl)
theorem dX0_bears_20 : decode cX0_bears 20 = .ok (.ireturn, 1) := dk_172 (dk_at dksX0_bears_0 20 rfl rfl)
theorem dX0_bears_21 : decode cX0_bears 21 = .ok (.iconst 0, 1) := dk_3 (dk_at dksX0_bears_0 21 rfl rfl)
theorem dX0_bears_22 : decode cX0_bears 22 = .ok (.ireturn, 1) := dk_172 (dk_at dksX0_bears_0 22 rfl rfl)
abbrev cX0_due : ByteArray := method_11_code
def yX0_due : MethodName := ⟨RX0, "due", "(LFundBook;I[J)I"⟩
def dkwX0_due_0 : List UInt8 := [44, 3, 42, 27, 182, 0, 44, 133, 80, 167, 0, 6, 78, 4, 172, 3, 172]
abbrev dktX0_due_0 : List UInt8 := dkwX0_due_0 ++ []
theorem dksX0_due_0 : cX0_due.data.toList.drop 0 = dktX0_due_0 := by decide +kernel
theorem dX0_due_0 : decode cX0_due 0 = .ok (.aload_n 2, 1) := dk_44 (dk_at dksX0_due_0 0 rfl rfl)
theorem dX0_due_1 : decode cX0_due 1 = .ok (.iconst 0, 1) := dk_3 (dk_at dksX0_due_0 1 rfl rfl)
theorem dX0_due_2 : decode cX0_due 2 = .ok (.aload_n 0, 1) := dk_42 (dk_at dksX0_due_0 2 rfl rfl)
theorem dX0_due_3 : decode cX0_due 3 = .ok (.iload_n 1, 1) := dk_27 (dk_at dksX0_due_0 3 rfl rfl)
theorem dX0_due_4 : decode cX0_due 4 = .ok (.invokevirtual 44, 3) := dk_182 0 44 (dk_at dksX0_due_0 4 rfl rfl)
theorem dX0_due_7 : decode cX0_due 7 = .ok (.i2l, 1) := dk_133 (dk_at dksX0_due_0 7 rfl rfl)
theorem dX0_due_8 : decode cX0_due 8 = .ok (.lastore, 1) := dk_80 (dk_at dksX0_due_0 8 rfl rfl)
theorem dX0_due_9 : decode cX0_due 9 = .ok (.goto 6, 3) := dk_167 0 6 (dk_at dksX0_due_0 9 rfl rfl)
theorem dX0_due_12 : decode cX0_due 12 = .ok (.astore_n 3, 1) := dk_78 (dk_at dksX0_due_0 12 rfl rfl)
theorem dX0_due_13 : decode cX0_due 13 = .ok (.iconst 1, 1) := dk_4 (dk_at dksX0_due_0 13 rfl rfl)
theorem dX0_due_14 : decode cX0_due 14 = .ok (.ireturn, 1) := dk_172 (dk_at dksX0_due_0 14 rfl rfl)
theorem dX0_due_15 : decode cX0_due 15 = .ok (.iconst 0, 1) := dk_3 (dk_at dksX0_due_0 15 rfl rfl)
theorem dX0_due_16 : decode cX0_due 16 = .ok (.ireturn, 1) := dk_172 (dk_at dksX0_due_0 16 rfl rfl)
abbrev cX0_balance : ByteArray := method_12_code
def yX0_balance : MethodName := ⟨RX0, "balance", "(LFundBook;I[J)I"⟩
def dkwX0_balance_0 : List UInt8 := [44, 3, 42, 27, 182, 0, 47, 133, 80, 167, 0, 6, 78, 4, 172, 3, 172]
abbrev dktX0_balance_0 : List UInt8 := dkwX0_balance_0 ++ []
theorem dksX0_balance_0 : cX0_balance.data.toList.drop 0 = dktX0_balance_0 := by decide +kernel
theorem dX0_balance_0 : decode cX0_balance 0 = .ok (.aload_n 2, 1) := dk_44 (dk_at dksX0_balance_0 0 rfl rfl)
theorem dX0_balance_1 : decode cX0_balance 1 = .ok (.iconst 0, 1) := dk_3 (dk_at dksX0_balance_0 1 rfl rfl)
theorem dX0_balance_2 : decode cX0_balance 2 = .ok (.aload_n 0, 1) := dk_42 (dk_at dksX0_balance_0 2 rfl rfl)
theorem dX0_balance_3 : decode cX0_balance 3 = .ok (.iload_n 1, 1) := dk_27 (dk_at dksX0_balance_0 3 rfl rfl)
theorem dX0_balance_4 : decode cX0_balance 4 = .ok (.invokevirtual 47, 3) := dk_182 0 47 (dk_at dksX0_balance_0 4 rfl rfl)
theorem dX0_balance_7 : decode cX0_balance 7 = .ok (.i2l, 1) := dk_133 (dk_at dksX0_balance_0 7 rfl rfl)
theorem dX0_balance_8 : decode cX0_balance 8 = .ok (.lastore, 1) := dk_80 (dk_at dksX0_balance_0 8 rfl rfl)
theorem dX0_balance_9 : decode cX0_balance 9 = .ok (.goto 6, 3) := dk_167 0 6 (dk_at dksX0_balance_0 9 rfl rfl)
theorem dX0_balance_12 : decode cX0_balance 12 = .ok (.astore_n 3, 1) := dk_78 (dk_at dksX0_balance_0 12 rfl rfl)
theorem dX0_balance_13 : decode cX0_balance 13 = .ok (.iconst 1, 1) := dk_4 (dk_at dksX0_balance_0 13 rfl rfl)
theorem dX0_balance_14 : decode cX0_balance 14 = .ok (.ireturn, 1) := dk_172 (dk_at dksX0_balance_0 14 rfl rfl)
theorem dX0_balance_15 : decode cX0_balance 15 = .ok (.iconst 0, 1) := dk_3 (dk_at dksX0_balance_0 15 rfl rfl)
theorem dX0_balance_16 : decode cX0_balance 16 = .ok (.ireturn, 1) := dk_172 (dk_at dksX0_balance_0 16 rfl rfl)
abbrev cX0_tranche : ByteArray := method_13_code
def yX0_tranche : MethodName := ⟨RX0, "tranche", "(LFundBook;I[J)I"⟩
def dkwX0_tranche_0 : List UInt8 := [44, 3, 42, 27, 182, 0, 50, 133, 80, 167, 0, 6, 78, 4, 172, 3, 172]
abbrev dktX0_tranche_0 : List UInt8 := dkwX0_tranche_0 ++ []
theorem dksX0_tranche_0 : cX0_tranche.data.toList.drop 0 = dktX0_tranche_0 := by decide +kernel
theorem dX0_tranche_0 : decode cX0_tranche 0 = .ok (.aload_n 2, 1) := dk_44 (dk_at dksX0_tranche_0 0 rfl rfl)
theorem dX0_tranche_1 : decode cX0_tranche 1 = .ok (.iconst 0, 1) := dk_3 (dk_at dksX0_tranche_0 1 rfl rfl)
theorem dX0_tranche_2 : decode cX0_tranche 2 = .ok (.aload_n 0, 1) := dk_42 (dk_at dksX0_tranche_0 2 rfl rfl)
theorem dX0_tranche_3 : decode cX0_tranche 3 = .ok (.iload_n 1, 1) := dk_27 (dk_at dksX0_tranche_0 3 rfl rfl)
theorem dX0_tranche_4 : decode cX0_tranche 4 = .ok (.invokevirtual 50, 3) := dk_182 0 50 (dk_at dksX0_tranche_0 4 rfl rfl)
theorem dX0_tranche_7 : decode cX0_tranche 7 = .ok (.i2l, 1) := dk_133 (dk_at dksX0_tranche_0 7 rfl rfl)
theorem dX0_tranche_8 : decode cX0_tranche 8 = .ok (.lastore, 1) := dk_80 (dk_at dksX0_tranche_0 8 rfl rfl)
theorem dX0_tranche_9 : decode cX0_tranche 9 = .ok (.goto 6, 3) := dk_167 0 6 (dk_at dksX0_tranche_0 9 rfl rfl)
theorem dX0_tranche_12 : decode cX0_tranche 12 = .ok (.astore_n 3, 1) := dk_78 (dk_at dksX0_tranche_0 12 rfl rfl)
theorem dX0_tranche_13 : decode cX0_tranche 13 = .ok (.iconst 1, 1) := dk_4 (dk_at dksX0_tranche_0 13 rfl rfl)
theorem dX0_tranche_14 : decode cX0_tranche 14 = .ok (.ireturn, 1) := dk_172 (dk_at dksX0_tranche_0 14 rfl rfl)
theorem dX0_tranche_15 : decode cX0_tranche 15 = .ok (.iconst 0, 1) := dk_3 (dk_at dksX0_tranche_0 15 rfl rfl)
theorem dX0_tranche_16 : decode cX0_tranche 16 = .ok (.ireturn, 1) := dk_172 (dk_at dksX0_tranche_0 16 rfl rfl)
abbrev cX0_margin : ByteArray := method_14_code
def yX0_margin : MethodName := ⟨RX0, "margin", "(LFundBook;II[J)I"⟩
def dkwX0_margin_0 : List UInt8 := [45, 3, 42, 27, 28, 182, 0, 53, 133, 80, 167, 0, 7, 58, 4, 4, 172, 3, 172]
abbrev dktX0_margin_0 : List UInt8 := dkwX0_margin_0 ++ []
theorem dksX0_margin_0 : cX0_margin.data.toList.drop 0 = dktX0_margin_0 := by decide +kernel
theorem dX0_margin_0 : decode cX0_margin 0 = .ok (.aload_n 3, 1) := dk_45 (dk_at dksX0_margin_0 0 rfl rfl)
theorem dX0_margin_1 : decode cX0_margin 1 = .ok (.iconst 0, 1) := dk_3 (dk_at dksX0_margin_0 1 rfl rfl)
theorem dX0_margin_2 : decode cX0_margin 2 = .ok (.aload_n 0, 1) := dk_42 (dk_at dksX0_margin_0 2 rfl rfl)
theorem dX0_margin_3 : decode cX0_margin 3 = .ok (.iload_n 1, 1) := dk_27 (dk_at dksX0_margin_0 3 rfl rfl)
theorem dX0_margin_4 : decode cX0_margin 4 = .ok (.iload_n 2, 1) := dk_28 (dk_at dksX0_margin_0 4 rfl rfl)
theorem dX0_margin_5 : decode cX0_margin 5 = .ok (.invokevirtual 53, 3) := dk_182 0 53 (dk_at dksX0_margin_0 5 rfl rfl)
theorem dX0_margin_8 : decode cX0_margin 8 = .ok (.i2l, 1) := dk_133 (dk_at dksX0_margin_0 8 rfl rfl)
theorem dX0_margin_9 : decode cX0_margin 9 = .ok (.lastore, 1) := dk_80 (dk_at dksX0_margin_0 9 rfl rfl)
theorem dX0_margin_10 : decode cX0_margin 10 = .ok (.goto 7, 3) := dk_167 0 7 (dk_at dksX0_margin_0 10 rfl rfl)
theorem dX0_margin_13 : decode cX0_margin 13 = .ok (.astore 4, 2) := dk_58 4 (dk_at dksX0_margin_0 13 rfl rfl)
theorem dX0_margin_15 : decode cX0_margin 15 = .ok (.iconst 1, 1) := dk_4 (dk_at dksX0_margin_0 15 rfl rfl)
theorem dX0_margin_16 : decode cX0_margin 16 = .ok (.ireturn, 1) := dk_172 (dk_at dksX0_margin_0 16 rfl rfl)
theorem dX0_margin_17 : decode cX0_margin 17 = .ok (.iconst 0, 1) := dk_3 (dk_at dksX0_margin_0 17 rfl rfl)
theorem dX0_margin_18 : decode cX0_margin 18 = .ok (.ireturn, 1) := dk_172 (dk_at dksX0_margin_0 18 rfl rfl)
abbrev cX0_byProduct : ByteArray := method_15_code
def yX0_byProduct : MethodName := ⟨RX0, "byProduct", "(LFundBook;II[J)I"⟩
def dkwX0_byProduct_0 : List UInt8 := [45, 3, 42, 27, 28, 182, 0, 56, 133, 80, 167, 0, 7, 58, 4, 4, 172, 3, 172]
abbrev dktX0_byProduct_0 : List UInt8 := dkwX0_byProduct_0 ++ []
theorem dksX0_byProduct_0 : cX0_byProduct.data.toList.drop 0 = dktX0_byProduct_0 := by decide +kernel
theorem dX0_byProduct_0 : decode cX0_byProduct 0 = .ok (.aload_n 3, 1) := dk_45 (dk_at dksX0_byProduct_0 0 rfl rfl)
theorem dX0_byProduct_1 : decode cX0_byProduct 1 = .ok (.iconst 0, 1) := dk_3 (dk_at dksX0_byProduct_0 1 rfl rfl)
theorem dX0_byProduct_2 : decode cX0_byProduct 2 = .ok (.aload_n 0, 1) := dk_42 (dk_at dksX0_byProduct_0 2 rfl rfl)
theorem dX0_byProduct_3 : decode cX0_byProduct 3 = .ok (.iload_n 1, 1) := dk_27 (dk_at dksX0_byProduct_0 3 rfl rfl)
theorem dX0_byProduct_4 : decode cX0_byProduct 4 = .ok (.iload_n 2, 1) := dk_28 (dk_at dksX0_byProduct_0 4 rfl rfl)
theorem dX0_byProduct_5 : decode cX0_byProduct 5 = .ok (.invokevirtual 56, 3) := dk_182 0 56 (dk_at dksX0_byProduct_0 5 rfl rfl)
theorem dX0_byProduct_8 : decode cX0_byProduct 8 = .ok (.i2l, 1) := dk_133 (dk_at dksX0_byProduct_0 8 rfl rfl)
theorem dX0_byProduct_9 : decode cX0_byProduct 9 = .ok (.lastore, 1) := dk_80 (dk_at dksX0_byProduct_0 9 rfl rfl)
theorem dX0_byProduct_10 : decode cX0_byProduct 10 = .ok (.goto 7, 3) := dk_167 0 7 (dk_at dksX0_byProduct_0 10 rfl rfl)
theorem dX0_byProduct_13 : decode cX0_byProduct 13 = .ok (.astore 4, 2) := dk_58 4 (dk_at dksX0_byProduct_0 13 rfl rfl)
theorem dX0_byProduct_15 : decode cX0_byProduct 15 = .ok (.iconst 1, 1) := dk_4 (dk_at dksX0_byProduct_0 15 rfl rfl)
theorem dX0_byProduct_16 : decode cX0_byProduct 16 = .ok (.ireturn, 1) := dk_172 (dk_at dksX0_byProduct_0 16 rfl rfl)
theorem dX0_byProduct_17 : decode cX0_byProduct 17 = .ok (.iconst 0, 1) := dk_3 (dk_at dksX0_byProduct_0 17 rfl rfl)
theorem dX0_byProduct_18 : decode cX0_byProduct 18 = .ok (.ireturn, 1) := dk_172 (dk_at dksX0_byProduct_0 18 rfl rfl)
abbrev cX0_treasury : ByteArray := method_16_code
def yX0_treasury : MethodName := ⟨RX0, "treasury", "(LFundBook;I[J)I"⟩
def dkwX0_treasury_0 : List UInt8 := [44, 3, 42, 27, 182, 0, 59, 133, 80, 167, 0, 6, 78, 4, 172, 3, 172]
abbrev dktX0_treasury_0 : List UInt8 := dkwX0_treasury_0 ++ []
theorem dksX0_treasury_0 : cX0_treasury.data.toList.drop 0 = dktX0_treasury_0 := by decide +kernel
theorem dX0_treasury_0 : decode cX0_treasury 0 = .ok (.aload_n 2, 1) := dk_44 (dk_at dksX0_treasury_0 0 rfl rfl)
theorem dX0_treasury_1 : decode cX0_treasury 1 = .ok (.iconst 0, 1) := dk_3 (dk_at dksX0_treasury_0 1 rfl rfl)
theorem dX0_treasury_2 : decode cX0_treasury 2 = .ok (.aload_n 0, 1) := dk_42 (dk_at dksX0_treasury_0 2 rfl rfl)
theorem dX0_treasury_3 : decode cX0_treasury 3 = .ok (.iload_n 1, 1) := dk_27 (dk_at dksX0_treasury_0 3 rfl rfl)
theorem dX0_treasury_4 : decode cX0_treasury 4 = .ok (.invokevirtual 59, 3) := dk_182 0 59 (dk_at dksX0_treasury_0 4 rfl rfl)
theorem dX0_treasury_7 : decode cX0_treasury 7 = .ok (.i2l, 1) := dk_133 (dk_at dksX0_treasury_0 7 rfl rfl)
theorem dX0_treasury_8 : decode cX0_treasury 8 = .ok (.lastore, 1) := dk_80 (dk_at dksX0_treasury_0 8 rfl rfl)
theorem dX0_treasury_9 : decode cX0_treasury 9 = .ok (.goto 6, 3) := dk_167 0 6 (dk_at dksX0_treasury_0 9 rfl rfl)
theorem dX0_treasury_12 : decode cX0_treasury 12 = .ok (.astore_n 3, 1) := dk_78 (dk_at dksX0_treasury_0 12 rfl rfl)
theorem dX0_treasury_13 : decode cX0_treasury 13 = .ok (.iconst 1, 1) := dk_4 (dk_at dksX0_treasury_0 13 rfl rfl)
theorem dX0_treasury_14 : decode cX0_treasury 14 = .ok (.ireturn, 1) := dk_172 (dk_at dksX0_treasury_0 14 rfl rfl)
theorem dX0_treasury_15 : decode cX0_treasury 15 = .ok (.iconst 0, 1) := dk_3 (dk_at dksX0_treasury_0 15 rfl rfl)
theorem dX0_treasury_16 : decode cX0_treasury 16 = .ok (.ireturn, 1) := dk_172 (dk_at dksX0_treasury_0 16 rfl rfl)
abbrev cX0_interest : ByteArray := method_17_code
def yX0_interest : MethodName := ⟨RX0, "interest", "(LFundBook;I[J)I"⟩
def dkwX0_interest_0 : List UInt8 := [44, 3, 42, 27, 182, 0, 62, 133, 80, 167, 0, 6, 78, 4, 172, 3, 172]
abbrev dktX0_interest_0 : List UInt8 := dkwX0_interest_0 ++ []
theorem dksX0_interest_0 : cX0_interest.data.toList.drop 0 = dktX0_interest_0 := by decide +kernel
theorem dX0_interest_0 : decode cX0_interest 0 = .ok (.aload_n 2, 1) := dk_44 (dk_at dksX0_interest_0 0 rfl rfl)
theorem dX0_interest_1 : decode cX0_interest 1 = .ok (.iconst 0, 1) := dk_3 (dk_at dksX0_interest_0 1 rfl rfl)
theorem dX0_interest_2 : decode cX0_interest 2 = .ok (.aload_n 0, 1) := dk_42 (dk_at dksX0_interest_0 2 rfl rfl)
theorem dX0_interest_3 : decode cX0_interest 3 = .ok (.iload_n 1, 1) := dk_27 (dk_at dksX0_interest_0 3 rfl rfl)
theorem dX0_interest_4 : decode cX0_interest 4 = .ok (.invokevirtual 62, 3) := dk_182 0 62 (dk_at dksX0_interest_0 4 rfl rfl)
theorem dX0_interest_7 : decode cX0_interest 7 = .ok (.i2l, 1) := dk_133 (dk_at dksX0_interest_0 7 rfl rfl)
theorem dX0_interest_8 : decode cX0_interest 8 = .ok (.lastore, 1) := dk_80 (dk_at dksX0_interest_0 8 rfl rfl)
theorem dX0_interest_9 : decode cX0_interest 9 = .ok (.goto 6, 3) := dk_167 0 6 (dk_at dksX0_interest_0 9 rfl rfl)
theorem dX0_interest_12 : decode cX0_interest 12 = .ok (.astore_n 3, 1) := dk_78 (dk_at dksX0_interest_0 12 rfl rfl)
theorem dX0_interest_13 : decode cX0_interest 13 = .ok (.iconst 1, 1) := dk_4 (dk_at dksX0_interest_0 13 rfl rfl)
theorem dX0_interest_14 : decode cX0_interest 14 = .ok (.ireturn, 1) := dk_172 (dk_at dksX0_interest_0 14 rfl rfl)
theorem dX0_interest_15 : decode cX0_interest 15 = .ok (.iconst 0, 1) := dk_3 (dk_at dksX0_interest_0 15 rfl rfl)
theorem dX0_interest_16 : decode cX0_interest 16 = .ok (.ireturn, 1) := dk_172 (dk_at dksX0_interest_0 16 rfl rfl)
theorem q22 : (Jvm.Cond.initialized "FundBookLaw") ∈ lw_all := lw_g (lw_at lw_m1 0 rfl) rfl
theorem q49 : (Jvm.Cond.classLink "FundBookLaw" (8 : Nat) "FundBook") ∈ lw_all := lw_g (lw_at lw_m1 27 rfl) rfl
theorem q51 : (Jvm.Cond.methodLink "FundBookLaw" (65 : Nat) ({ cls := "FundBook", name := "<init>", desc := "()V" } : Jvm.MethodName)) ∈ lw_all := lw_g (lw_at lw_m1 29 rfl) rfl
theorem q159 : (Jvm.Cond.methodLink "FundBookLaw" (97 : Nat) ({ cls := "FundBook", name := "month", desc := "()I" } : Jvm.MethodName)) ∈ lw_all := lw_g (lw_at lw_m1 137 rfl) rfl
theorem q163 : (Jvm.Cond.methodLink "FundBookLaw" (101 : Nat) ({ cls := "FundBook", name := "loans", desc := "()I" } : Jvm.MethodName)) ∈ lw_all := lw_g (lw_at lw_m1 141 rfl) rfl
theorem q177 : (Jvm.Cond.methodLink "FundBookLaw" (120 : Nat) ({ cls := "FundBook", name := "replicaRate", desc := "()I" } : Jvm.MethodName)) ∈ lw_all := lw_g (lw_at lw_m1 155 rfl) rfl
theorem q185 : (Jvm.Cond.methodLink "FundBookLaw" (69 : Nat) ({ cls := "FundBookLaw", name := "setCurve", desc := "(LFundBook;II[J)I" } : Jvm.MethodName)) ∈ lw_all := lw_g (lw_at lw_m1 163 rfl) rfl
theorem q186 : (Jvm.Cond.static ({ cls := "FundBookLaw", name := "setCurve", desc := "(LFundBook;II[J)I" } : Jvm.MethodName)) ∈ lw_all := lw_g (lw_at lw_m1 164 rfl) rfl
theorem q187 : (Jvm.Cond.codeWith ({ cls := "FundBookLaw", name := "setCurve", desc := "(LFundBook;II[J)I" } : Jvm.MethodName) method_3_code (5 : Nat) (Option.some Jvm.ClassFile.FieldType.int) [((0 : Nat), (10 : Nat), (13 : Nat), (13 : Nat)), ((0 : Nat), (10 : Nat), (17 : Nat), (15 : Nat))]) ∈ lw_all := lw_g (lw_at lw_m1 165 rfl) rfl
theorem q188 : (Jvm.Cond.classLink "FundBookLaw" (13 : Nat) "java/lang/IndexOutOfBoundsException") ∈ lw_all := lw_g (lw_at lw_m1 166 rfl) rfl
theorem q265 : (Jvm.Cond.classLink "FundBookLaw" (15 : Nat) "java/lang/IllegalArgumentException") ∈ lw_all := lw_g (lw_at lw_m2 3 rfl) rfl
theorem q266 : (Jvm.Cond.methodLink "FundBookLaw" (7 : Nat) ({ cls := "FundBook", name := "setCurve", desc := "(II)I" } : Jvm.MethodName)) ∈ lw_all := lw_g (lw_at lw_m2 4 rfl) rfl
theorem q315 : (Jvm.Cond.methodLink "FundBookLaw" (78 : Nat) ({ cls := "FundBookLaw", name := "setRates", desc := "(LFundBook;III)I" } : Jvm.MethodName)) ∈ lw_all := lw_g (lw_at lw_m2 53 rfl) rfl
theorem q316 : (Jvm.Cond.static ({ cls := "FundBookLaw", name := "setRates", desc := "(LFundBook;III)I" } : Jvm.MethodName)) ∈ lw_all := lw_g (lw_at lw_m2 54 rfl) rfl
theorem q317 : (Jvm.Cond.codeWith ({ cls := "FundBookLaw", name := "setRates", desc := "(LFundBook;III)I" } : Jvm.MethodName) method_4_code (5 : Nat) (Option.some Jvm.ClassFile.FieldType.int) [((0 : Nat), (7 : Nat), (10 : Nat), (15 : Nat))]) ∈ lw_all := lw_g (lw_at lw_m2 55 rfl) rfl
theorem q318 : (Jvm.Cond.methodLink "FundBookLaw" (17 : Nat) ({ cls := "FundBook", name := "setRates", desc := "(III)V" } : Jvm.MethodName)) ∈ lw_all := lw_g (lw_at lw_m2 56 rfl) rfl
theorem q322 : (Jvm.Cond.methodLink "FundBookLaw" (82 : Nat) ({ cls := "FundBookLaw", name := "lend", desc := "(LFundBook;IIIIIZ[J)I" } : Jvm.MethodName)) ∈ lw_all := lw_g (lw_at lw_m2 60 rfl) rfl
theorem q323 : (Jvm.Cond.static ({ cls := "FundBookLaw", name := "lend", desc := "(LFundBook;IIIIIZ[J)I" } : Jvm.MethodName)) ∈ lw_all := lw_g (lw_at lw_m2 61 rfl) rfl
theorem q324 : (Jvm.Cond.codeWith ({ cls := "FundBookLaw", name := "lend", desc := "(LFundBook;IIIIIZ[J)I" } : Jvm.MethodName) method_5_code (9 : Nat) (Option.some Jvm.ClassFile.FieldType.int) [((0 : Nat), (18 : Nat), (21 : Nat), (13 : Nat)), ((0 : Nat), (18 : Nat), (25 : Nat), (15 : Nat)), ((0 : Nat), (18 : Nat), (29 : Nat), (25 : Nat))]) ∈ lw_all := lw_g (lw_at lw_m2 62 rfl) rfl
theorem q325 : (Jvm.Cond.classLink "FundBookLaw" (25 : Nat) "java/lang/IllegalStateException") ∈ lw_all := lw_g (lw_at lw_m2 63 rfl) rfl
theorem q326 : (Jvm.Cond.methodLink "FundBookLaw" (21 : Nat) ({ cls := "FundBook", name := "lend", desc := "(IIIIIZ)I" } : Jvm.MethodName)) ∈ lw_all := lw_g (lw_at lw_m2 64 rfl) rfl
theorem q460 : (Jvm.Cond.methodLink "FundBookLaw" (86 : Nat) ({ cls := "FundBookLaw", name := "repay", desc := "(LFundBook;I[J)I" } : Jvm.MethodName)) ∈ lw_all := lw_g (lw_at lw_m2 198 rfl) rfl
theorem q461 : (Jvm.Cond.static ({ cls := "FundBookLaw", name := "repay", desc := "(LFundBook;I[J)I" } : Jvm.MethodName)) ∈ lw_all := lw_g (lw_at lw_m2 199 rfl) rfl
theorem q462 : (Jvm.Cond.codeWith ({ cls := "FundBookLaw", name := "repay", desc := "(LFundBook;I[J)I" } : Jvm.MethodName) method_6_code (4 : Nat) (Option.some Jvm.ClassFile.FieldType.int) [((0 : Nat), (9 : Nat), (12 : Nat), (13 : Nat)), ((0 : Nat), (9 : Nat), (15 : Nat), (25 : Nat))]) ∈ lw_all := lw_g (lw_at lw_m2 200 rfl) rfl
theorem q463 : (Jvm.Cond.methodLink "FundBookLaw" (27 : Nat) ({ cls := "FundBook", name := "repay", desc := "(I)I" } : Jvm.MethodName)) ∈ lw_all := lw_g (lw_at lw_m2 201 rfl) rfl
theorem q507 : (Jvm.Cond.methodLink "FundBookLaw" (90 : Nat) ({ cls := "FundBookLaw", name := "deposit", desc := "(LFundBook;II[J)I" } : Jvm.MethodName)) ∈ lw_all := lw_g (lw_at lw_m3 5 rfl) rfl
theorem q508 : (Jvm.Cond.static ({ cls := "FundBookLaw", name := "deposit", desc := "(LFundBook;II[J)I" } : Jvm.MethodName)) ∈ lw_all := lw_g (lw_at lw_m3 6 rfl) rfl
theorem q509 : (Jvm.Cond.codeWith ({ cls := "FundBookLaw", name := "deposit", desc := "(LFundBook;II[J)I" } : Jvm.MethodName) method_7_code (5 : Nat) (Option.some Jvm.ClassFile.FieldType.int) [((0 : Nat), (10 : Nat), (13 : Nat), (13 : Nat)), ((0 : Nat), (10 : Nat), (17 : Nat), (15 : Nat)), ((0 : Nat), (10 : Nat), (21 : Nat), (25 : Nat))]) ∈ lw_all := lw_g (lw_at lw_m3 7 rfl) rfl
theorem q510 : (Jvm.Cond.methodLink "FundBookLaw" (31 : Nat) ({ cls := "FundBook", name := "deposit", desc := "(II)I" } : Jvm.MethodName)) ∈ lw_all := lw_g (lw_at lw_m3 8 rfl) rfl
theorem q528 : (Jvm.Cond.methodLink "FundBookLaw" (93 : Nat) ({ cls := "FundBookLaw", name := "closeMonth", desc := "(LFundBook;[J)I" } : Jvm.MethodName)) ∈ lw_all := lw_g (lw_at lw_m3 26 rfl) rfl
theorem q529 : (Jvm.Cond.static ({ cls := "FundBookLaw", name := "closeMonth", desc := "(LFundBook;[J)I" } : Jvm.MethodName)) ∈ lw_all := lw_g (lw_at lw_m3 27 rfl) rfl
theorem q530 : (Jvm.Cond.codeWith ({ cls := "FundBookLaw", name := "closeMonth", desc := "(LFundBook;[J)I" } : Jvm.MethodName) method_8_code (3 : Nat) (Option.some Jvm.ClassFile.FieldType.int) [((0 : Nat), (8 : Nat), (11 : Nat), (25 : Nat))]) ∈ lw_all := lw_g (lw_at lw_m3 28 rfl) rfl
theorem q531 : (Jvm.Cond.methodLink "FundBookLaw" (34 : Nat) ({ cls := "FundBook", name := "closeMonth", desc := "()I" } : Jvm.MethodName)) ∈ lw_all := lw_g (lw_at lw_m3 29 rfl) rfl
theorem q611 : (Jvm.Cond.methodLink "FundBookLaw" (105 : Nat) ({ cls := "FundBookLaw", name := "left", desc := "(LFundBook;I[J)I" } : Jvm.MethodName)) ∈ lw_all := lw_g (lw_at lw_m3 109 rfl) rfl
theorem q612 : (Jvm.Cond.static ({ cls := "FundBookLaw", name := "left", desc := "(LFundBook;I[J)I" } : Jvm.MethodName)) ∈ lw_all := lw_g (lw_at lw_m3 110 rfl) rfl
theorem q613 : (Jvm.Cond.codeWith ({ cls := "FundBookLaw", name := "left", desc := "(LFundBook;I[J)I" } : Jvm.MethodName) method_9_code (4 : Nat) (Option.some Jvm.ClassFile.FieldType.int) [((0 : Nat), (9 : Nat), (12 : Nat), (13 : Nat))]) ∈ lw_all := lw_g (lw_at lw_m3 111 rfl) rfl
theorem q614 : (Jvm.Cond.methodLink "FundBookLaw" (38 : Nat) ({ cls := "FundBook", name := "left", desc := "(I)I" } : Jvm.MethodName)) ∈ lw_all := lw_g (lw_at lw_m3 112 rfl) rfl
theorem q618 : (Jvm.Cond.methodLink "FundBookLaw" (108 : Nat) ({ cls := "FundBookLaw", name := "bears", desc := "(LFundBook;II[J)I" } : Jvm.MethodName)) ∈ lw_all := lw_g (lw_at lw_m3 116 rfl) rfl
theorem q619 : (Jvm.Cond.static ({ cls := "FundBookLaw", name := "bears", desc := "(LFundBook;II[J)I" } : Jvm.MethodName)) ∈ lw_all := lw_g (lw_at lw_m3 117 rfl) rfl
theorem q620 : (Jvm.Cond.codeWith ({ cls := "FundBookLaw", name := "bears", desc := "(LFundBook;II[J)I" } : Jvm.MethodName) method_10_code (5 : Nat) (Option.some Jvm.ClassFile.FieldType.int) [((0 : Nat), (10 : Nat), (13 : Nat), (13 : Nat)), ((0 : Nat), (10 : Nat), (17 : Nat), (15 : Nat))]) ∈ lw_all := lw_g (lw_at lw_m3 118 rfl) rfl
theorem q621 : (Jvm.Cond.methodLink "FundBookLaw" (41 : Nat) ({ cls := "FundBook", name := "bears", desc := "(II)I" } : Jvm.MethodName)) ∈ lw_all := lw_g (lw_at lw_m3 119 rfl) rfl
theorem q625 : (Jvm.Cond.methodLink "FundBookLaw" (111 : Nat) ({ cls := "FundBookLaw", name := "due", desc := "(LFundBook;I[J)I" } : Jvm.MethodName)) ∈ lw_all := lw_g (lw_at lw_m3 123 rfl) rfl
theorem q626 : (Jvm.Cond.static ({ cls := "FundBookLaw", name := "due", desc := "(LFundBook;I[J)I" } : Jvm.MethodName)) ∈ lw_all := lw_g (lw_at lw_m3 124 rfl) rfl
theorem q627 : (Jvm.Cond.codeWith ({ cls := "FundBookLaw", name := "due", desc := "(LFundBook;I[J)I" } : Jvm.MethodName) method_11_code (4 : Nat) (Option.some Jvm.ClassFile.FieldType.int) [((0 : Nat), (9 : Nat), (12 : Nat), (15 : Nat))]) ∈ lw_all := lw_g (lw_at lw_m3 125 rfl) rfl
theorem q628 : (Jvm.Cond.methodLink "FundBookLaw" (44 : Nat) ({ cls := "FundBook", name := "due", desc := "(I)I" } : Jvm.MethodName)) ∈ lw_all := lw_g (lw_at lw_m3 126 rfl) rfl
theorem q632 : (Jvm.Cond.methodLink "FundBookLaw" (114 : Nat) ({ cls := "FundBookLaw", name := "balance", desc := "(LFundBook;I[J)I" } : Jvm.MethodName)) ∈ lw_all := lw_g (lw_at lw_m3 130 rfl) rfl
theorem q633 : (Jvm.Cond.static ({ cls := "FundBookLaw", name := "balance", desc := "(LFundBook;I[J)I" } : Jvm.MethodName)) ∈ lw_all := lw_g (lw_at lw_m3 131 rfl) rfl
theorem q634 : (Jvm.Cond.codeWith ({ cls := "FundBookLaw", name := "balance", desc := "(LFundBook;I[J)I" } : Jvm.MethodName) method_12_code (4 : Nat) (Option.some Jvm.ClassFile.FieldType.int) [((0 : Nat), (9 : Nat), (12 : Nat), (13 : Nat))]) ∈ lw_all := lw_g (lw_at lw_m3 132 rfl) rfl
theorem q635 : (Jvm.Cond.methodLink "FundBookLaw" (47 : Nat) ({ cls := "FundBook", name := "balance", desc := "(I)I" } : Jvm.MethodName)) ∈ lw_all := lw_g (lw_at lw_m3 133 rfl) rfl
theorem q639 : (Jvm.Cond.methodLink "FundBookLaw" (117 : Nat) ({ cls := "FundBookLaw", name := "tranche", desc := "(LFundBook;I[J)I" } : Jvm.MethodName)) ∈ lw_all := lw_g (lw_at lw_m3 137 rfl) rfl
theorem q640 : (Jvm.Cond.static ({ cls := "FundBookLaw", name := "tranche", desc := "(LFundBook;I[J)I" } : Jvm.MethodName)) ∈ lw_all := lw_g (lw_at lw_m3 138 rfl) rfl
theorem q641 : (Jvm.Cond.codeWith ({ cls := "FundBookLaw", name := "tranche", desc := "(LFundBook;I[J)I" } : Jvm.MethodName) method_13_code (4 : Nat) (Option.some Jvm.ClassFile.FieldType.int) [((0 : Nat), (9 : Nat), (12 : Nat), (13 : Nat))]) ∈ lw_all := lw_g (lw_at lw_m3 139 rfl) rfl
theorem q642 : (Jvm.Cond.methodLink "FundBookLaw" (50 : Nat) ({ cls := "FundBook", name := "tranche", desc := "(I)I" } : Jvm.MethodName)) ∈ lw_all := lw_g (lw_at lw_m3 140 rfl) rfl
theorem q646 : (Jvm.Cond.methodLink "FundBookLaw" (124 : Nat) ({ cls := "FundBookLaw", name := "margin", desc := "(LFundBook;II[J)I" } : Jvm.MethodName)) ∈ lw_all := lw_g (lw_at lw_m3 144 rfl) rfl
theorem q647 : (Jvm.Cond.static ({ cls := "FundBookLaw", name := "margin", desc := "(LFundBook;II[J)I" } : Jvm.MethodName)) ∈ lw_all := lw_g (lw_at lw_m3 145 rfl) rfl
theorem q648 : (Jvm.Cond.codeWith ({ cls := "FundBookLaw", name := "margin", desc := "(LFundBook;II[J)I" } : Jvm.MethodName) method_14_code (5 : Nat) (Option.some Jvm.ClassFile.FieldType.int) [((0 : Nat), (10 : Nat), (13 : Nat), (13 : Nat))]) ∈ lw_all := lw_g (lw_at lw_m3 146 rfl) rfl
theorem q649 : (Jvm.Cond.methodLink "FundBookLaw" (53 : Nat) ({ cls := "FundBook", name := "margin", desc := "(II)I" } : Jvm.MethodName)) ∈ lw_all := lw_g (lw_at lw_m3 147 rfl) rfl
theorem q653 : (Jvm.Cond.methodLink "FundBookLaw" (127 : Nat) ({ cls := "FundBookLaw", name := "byProduct", desc := "(LFundBook;II[J)I" } : Jvm.MethodName)) ∈ lw_all := lw_g (lw_at lw_m3 151 rfl) rfl
theorem q654 : (Jvm.Cond.static ({ cls := "FundBookLaw", name := "byProduct", desc := "(LFundBook;II[J)I" } : Jvm.MethodName)) ∈ lw_all := lw_g (lw_at lw_m3 152 rfl) rfl
theorem q655 : (Jvm.Cond.codeWith ({ cls := "FundBookLaw", name := "byProduct", desc := "(LFundBook;II[J)I" } : Jvm.MethodName) method_15_code (5 : Nat) (Option.some Jvm.ClassFile.FieldType.int) [((0 : Nat), (10 : Nat), (13 : Nat), (13 : Nat))]) ∈ lw_all := lw_g (lw_at lw_m3 153 rfl) rfl
theorem q656 : (Jvm.Cond.methodLink "FundBookLaw" (56 : Nat) ({ cls := "FundBook", name := "byProduct", desc := "(II)I" } : Jvm.MethodName)) ∈ lw_all := lw_g (lw_at lw_m3 154 rfl) rfl
theorem q660 : (Jvm.Cond.methodLink "FundBookLaw" (130 : Nat) ({ cls := "FundBookLaw", name := "treasury", desc := "(LFundBook;I[J)I" } : Jvm.MethodName)) ∈ lw_all := lw_g (lw_at lw_m3 158 rfl) rfl
theorem q661 : (Jvm.Cond.static ({ cls := "FundBookLaw", name := "treasury", desc := "(LFundBook;I[J)I" } : Jvm.MethodName)) ∈ lw_all := lw_g (lw_at lw_m3 159 rfl) rfl
theorem q662 : (Jvm.Cond.codeWith ({ cls := "FundBookLaw", name := "treasury", desc := "(LFundBook;I[J)I" } : Jvm.MethodName) method_16_code (4 : Nat) (Option.some Jvm.ClassFile.FieldType.int) [((0 : Nat), (9 : Nat), (12 : Nat), (13 : Nat))]) ∈ lw_all := lw_g (lw_at lw_m3 160 rfl) rfl
theorem q663 : (Jvm.Cond.methodLink "FundBookLaw" (59 : Nat) ({ cls := "FundBook", name := "treasury", desc := "(I)I" } : Jvm.MethodName)) ∈ lw_all := lw_g (lw_at lw_m3 161 rfl) rfl
theorem q667 : (Jvm.Cond.methodLink "FundBookLaw" (133 : Nat) ({ cls := "FundBookLaw", name := "interest", desc := "(LFundBook;I[J)I" } : Jvm.MethodName)) ∈ lw_all := lw_g (lw_at lw_m3 165 rfl) rfl
theorem q668 : (Jvm.Cond.static ({ cls := "FundBookLaw", name := "interest", desc := "(LFundBook;I[J)I" } : Jvm.MethodName)) ∈ lw_all := lw_g (lw_at lw_m3 166 rfl) rfl
theorem q669 : (Jvm.Cond.codeWith ({ cls := "FundBookLaw", name := "interest", desc := "(LFundBook;I[J)I" } : Jvm.MethodName) method_17_code (4 : Nat) (Option.some Jvm.ClassFile.FieldType.int) [((0 : Nat), (9 : Nat), (12 : Nat), (13 : Nat))]) ∈ lw_all := lw_g (lw_at lw_m3 167 rfl) rfl
theorem q670 : (Jvm.Cond.methodLink "FundBookLaw" (62 : Nat) ({ cls := "FundBook", name := "interest", desc := "(I)I" } : Jvm.MethodName)) ∈ lw_all := lw_g (lw_at lw_m3 168 rfl) rfl
theorem q674 : (Jvm.Cond.classLink "FundBookLaw" (66 : Nat) "FundBookModel") ∈ lw_all := lw_g (lw_at lw_m3 172 rfl) rfl
theorem q676 : (Jvm.Cond.methodLink "FundBookLaw" (68 : Nat) ({ cls := "FundBookModel", name := "<init>", desc := "()V" } : Jvm.MethodName)) ∈ lw_all := lw_g (lw_at lw_m3 174 rfl) rfl
theorem q748 : (Jvm.Cond.methodLink "FundBookLaw" (75 : Nat) ({ cls := "FundBookModel", name := "thrown", desc := "()I" } : Jvm.MethodName)) ∈ lw_all := lw_g (lw_at lw_m4 6 rfl) rfl
theorem q752 : (Jvm.Cond.methodLink "FundBookLaw" (74 : Nat) ({ cls := "FundBookModel", name := "setCurve", desc := "(II)I" } : Jvm.MethodName)) ∈ lw_all := lw_g (lw_at lw_m4 10 rfl) rfl
theorem q763 : (Jvm.Cond.methodLink "FundBookLaw" (81 : Nat) ({ cls := "FundBookModel", name := "setRates", desc := "(III)V" } : Jvm.MethodName)) ∈ lw_all := lw_g (lw_at lw_m4 21 rfl) rfl
theorem q767 : (Jvm.Cond.methodLink "FundBookLaw" (85 : Nat) ({ cls := "FundBookModel", name := "lend", desc := "(IIIIIZ)I" } : Jvm.MethodName)) ∈ lw_all := lw_g (lw_at lw_m4 25 rfl) rfl
theorem q775 : (Jvm.Cond.methodLink "FundBookLaw" (89 : Nat) ({ cls := "FundBookModel", name := "repay", desc := "(I)I" } : Jvm.MethodName)) ∈ lw_all := lw_g (lw_at lw_m4 33 rfl) rfl
theorem q787 : (Jvm.Cond.methodLink "FundBookLaw" (92 : Nat) ({ cls := "FundBookModel", name := "deposit", desc := "(II)I" } : Jvm.MethodName)) ∈ lw_all := lw_g (lw_at lw_m4 45 rfl) rfl
theorem q801 : (Jvm.Cond.methodLink "FundBookLaw" (96 : Nat) ({ cls := "FundBookModel", name := "closeMonth", desc := "()I" } : Jvm.MethodName)) ∈ lw_all := lw_g (lw_at lw_m4 59 rfl) rfl
theorem q822 : (Jvm.Cond.methodLink "FundBookLaw" (100 : Nat) ({ cls := "FundBookModel", name := "month", desc := "()I" } : Jvm.MethodName)) ∈ lw_all := lw_g (lw_at lw_m4 80 rfl) rfl
theorem q826 : (Jvm.Cond.methodLink "FundBookLaw" (104 : Nat) ({ cls := "FundBookModel", name := "loans", desc := "()I" } : Jvm.MethodName)) ∈ lw_all := lw_g (lw_at lw_m4 84 rfl) rfl
theorem q830 : (Jvm.Cond.methodLink "FundBookLaw" (107 : Nat) ({ cls := "FundBookModel", name := "left", desc := "(I)I" } : Jvm.MethodName)) ∈ lw_all := lw_g (lw_at lw_m4 88 rfl) rfl
theorem q834 : (Jvm.Cond.methodLink "FundBookLaw" (110 : Nat) ({ cls := "FundBookModel", name := "bears", desc := "(II)I" } : Jvm.MethodName)) ∈ lw_all := lw_g (lw_at lw_m4 92 rfl) rfl
theorem q838 : (Jvm.Cond.methodLink "FundBookLaw" (113 : Nat) ({ cls := "FundBookModel", name := "due", desc := "(I)I" } : Jvm.MethodName)) ∈ lw_all := lw_g (lw_at lw_m4 96 rfl) rfl
theorem q842 : (Jvm.Cond.methodLink "FundBookLaw" (116 : Nat) ({ cls := "FundBookModel", name := "balance", desc := "(I)I" } : Jvm.MethodName)) ∈ lw_all := lw_g (lw_at lw_m4 100 rfl) rfl
theorem q846 : (Jvm.Cond.methodLink "FundBookLaw" (119 : Nat) ({ cls := "FundBookModel", name := "tranche", desc := "(I)I" } : Jvm.MethodName)) ∈ lw_all := lw_g (lw_at lw_m4 104 rfl) rfl
theorem q850 : (Jvm.Cond.methodLink "FundBookLaw" (123 : Nat) ({ cls := "FundBookModel", name := "replicaRate", desc := "()I" } : Jvm.MethodName)) ∈ lw_all := lw_g (lw_at lw_m4 108 rfl) rfl
theorem q854 : (Jvm.Cond.methodLink "FundBookLaw" (126 : Nat) ({ cls := "FundBookModel", name := "margin", desc := "(II)I" } : Jvm.MethodName)) ∈ lw_all := lw_g (lw_at lw_m4 112 rfl) rfl
theorem q862 : (Jvm.Cond.methodLink "FundBookLaw" (129 : Nat) ({ cls := "FundBookModel", name := "byProduct", desc := "(II)I" } : Jvm.MethodName)) ∈ lw_all := lw_g (lw_at lw_m4 120 rfl) rfl
theorem q866 : (Jvm.Cond.methodLink "FundBookLaw" (132 : Nat) ({ cls := "FundBookModel", name := "treasury", desc := "(I)I" } : Jvm.MethodName)) ∈ lw_all := lw_g (lw_at lw_m4 124 rfl) rfl
theorem q870 : (Jvm.Cond.methodLink "FundBookLaw" (135 : Nat) ({ cls := "FundBookModel", name := "interest", desc := "(I)I" } : Jvm.MethodName)) ∈ lw_all := lw_g (lw_at lw_m4 128 rfl) rfl
/-! the law's own entry -/
set_option maxRecDepth 100000
abbrev cL_law : ByteArray := code
def dkwL_law_46 : List UInt8 := [167, 0, 3, 132, 4, 7, 167, 251, 163, 4, 172]
abbrev dktL_law_46 : List UInt8 := dkwL_law_46 ++ []
def dkwL_law_45 : List UInt8 := [21, 5, 159, 0, 5, 3, 172, 21, 5, 154, 0, 15, 45, 3, 47, 21, 6, 133, 148, 153, 0, 5, 3, 172]
abbrev dktL_law_45 : List UInt8 := dkwL_law_45 ++ dktL_law_46
def dkwL_law_44 : List UInt8 := [46, 45, 184, 0, 133, 54, 5, 44, 42, 21, 4, 4, 96, 46, 182, 0, 135, 54, 6, 44, 182, 0, 75]
abbrev dktL_law_44 : List UInt8 := dkwL_law_44 ++ dktL_law_45
def dkwL_law_43 : List UInt8 := [154, 0, 15, 45, 3, 47, 21, 6, 133, 148, 153, 0, 5, 3, 172, 167, 0, 59, 43, 42, 21, 4, 4, 96]
abbrev dktL_law_43 : List UInt8 := dkwL_law_43 ++ dktL_law_44
def dkwL_law_42 : List UInt8 := [21, 4, 4, 96, 46, 182, 0, 132, 54, 6, 44, 182, 0, 75, 21, 5, 159, 0, 5, 3, 172, 21, 5]
abbrev dktL_law_42 : List UInt8 := dkwL_law_42 ++ dktL_law_43
def dkwL_law_41 : List UInt8 := [153, 0, 5, 3, 172, 167, 0, 115, 43, 42, 21, 4, 4, 96, 46, 45, 184, 0, 130, 54, 5, 44, 42]
abbrev dktL_law_41 : List UInt8 := dkwL_law_41 ++ dktL_law_42
def dkwL_law_40 : List UInt8 := [182, 0, 75, 21, 5, 159, 0, 5, 3, 172, 21, 5, 154, 0, 15, 45, 3, 47, 21, 6, 133, 148]
abbrev dktL_law_40 : List UInt8 := dkwL_law_40 ++ dktL_law_41
def dkwL_law_39 : List UInt8 := [184, 0, 127, 54, 5, 44, 42, 21, 4, 4, 96, 46, 42, 21, 4, 5, 96, 46, 182, 0, 129, 54, 6, 44]
abbrev dktL_law_39 : List UInt8 := dkwL_law_39 ++ dktL_law_40
def dkwL_law_38 : List UInt8 := [148, 153, 0, 5, 3, 172, 167, 0, 183, 43, 42, 21, 4, 4, 96, 46, 42, 21, 4, 5, 96, 46, 45]
abbrev dktL_law_38 : List UInt8 := dkwL_law_38 ++ dktL_law_39
def dkwL_law_37 : List UInt8 := [54, 6, 44, 182, 0, 75, 21, 5, 159, 0, 5, 3, 172, 21, 5, 154, 0, 15, 45, 3, 47, 21, 6, 133]
abbrev dktL_law_37 : List UInt8 := dkwL_law_37 ++ dktL_law_38
def dkwL_law_36 : List UInt8 := [46, 45, 184, 0, 124, 54, 5, 44, 42, 21, 4, 4, 96, 46, 42, 21, 4, 5, 96, 46, 182, 0, 126]
abbrev dktL_law_36 : List UInt8 := dkwL_law_36 ++ dktL_law_37
def dkwL_law_35 : List UInt8 := [182, 0, 120, 44, 182, 0, 123, 159, 0, 253, 3, 172, 43, 42, 21, 4, 4, 96, 46, 42, 21, 4, 5, 96]
abbrev dktL_law_35 : List UInt8 := dkwL_law_35 ++ dktL_law_36
def dkwL_law_34 : List UInt8 := [172, 21, 5, 154, 0, 15, 45, 3, 47, 21, 6, 133, 148, 153, 0, 5, 3, 172, 167, 1, 8, 43]
abbrev dktL_law_34 : List UInt8 := dkwL_law_34 ++ dktL_law_35
def dkwL_law_33 : List UInt8 := [54, 5, 44, 42, 21, 4, 4, 96, 46, 182, 0, 119, 54, 6, 44, 182, 0, 75, 21, 5, 159, 0, 5, 3]
abbrev dktL_law_33 : List UInt8 := dkwL_law_33 ++ dktL_law_34
def dkwL_law_32 : List UInt8 := [21, 6, 133, 148, 153, 0, 5, 3, 172, 167, 1, 64, 43, 42, 21, 4, 4, 96, 46, 45, 184, 0, 117]
abbrev dktL_law_32 : List UInt8 := dkwL_law_32 ++ dktL_law_33
def dkwL_law_31 : List UInt8 := [182, 0, 116, 54, 6, 44, 182, 0, 75, 21, 5, 159, 0, 5, 3, 172, 21, 5, 154, 0, 15, 45, 3, 47]
abbrev dktL_law_31 : List UInt8 := dkwL_law_31 ++ dktL_law_32
def dkwL_law_30 : List UInt8 := [167, 1, 120, 43, 42, 21, 4, 4, 96, 46, 45, 184, 0, 114, 54, 5, 44, 42, 21, 4, 4, 96, 46]
abbrev dktL_law_30 : List UInt8 := dkwL_law_30 ++ dktL_law_31
def dkwL_law_29 : List UInt8 := [21, 5, 159, 0, 5, 3, 172, 21, 5, 154, 0, 15, 45, 3, 47, 21, 6, 133, 148, 153, 0, 5, 3, 172]
abbrev dktL_law_29 : List UInt8 := dkwL_law_29 ++ dktL_law_30
def dkwL_law_28 : List UInt8 := [46, 45, 184, 0, 111, 54, 5, 44, 42, 21, 4, 4, 96, 46, 182, 0, 113, 54, 6, 44, 182, 0, 75]
abbrev dktL_law_28 : List UInt8 := dkwL_law_28 ++ dktL_law_29
def dkwL_law_27 : List UInt8 := [154, 0, 15, 45, 3, 47, 21, 6, 133, 148, 153, 0, 5, 3, 172, 167, 1, 176, 43, 42, 21, 4, 4, 96]
abbrev dktL_law_27 : List UInt8 := dkwL_law_27 ++ dktL_law_28
def dkwL_law_26 : List UInt8 := [42, 21, 4, 5, 96, 46, 182, 0, 110, 54, 6, 44, 182, 0, 75, 21, 5, 159, 0, 5, 3, 172, 21, 5]
abbrev dktL_law_26 : List UInt8 := dkwL_law_26 ++ dktL_law_27
def dkwL_law_25 : List UInt8 := [21, 4, 4, 96, 46, 42, 21, 4, 5, 96, 46, 45, 184, 0, 108, 54, 5, 44, 42, 21, 4, 4, 96, 46]
abbrev dktL_law_25 : List UInt8 := dkwL_law_25 ++ dktL_law_26
def dkwL_law_24 : List UInt8 := [172, 21, 5, 154, 0, 15, 45, 3, 47, 21, 6, 133, 148, 153, 0, 5, 3, 172, 167, 1, 244, 43, 42]
abbrev dktL_law_24 : List UInt8 := dkwL_law_24 ++ dktL_law_25
def dkwL_law_23 : List UInt8 := [54, 5, 44, 42, 21, 4, 4, 96, 46, 182, 0, 107, 54, 6, 44, 182, 0, 75, 21, 5, 159, 0, 5, 3]
abbrev dktL_law_23 : List UInt8 := dkwL_law_23 ++ dktL_law_24
def dkwL_law_22 : List UInt8 := [182, 0, 101, 44, 182, 0, 104, 159, 2, 46, 3, 172, 43, 42, 21, 4, 4, 96, 46, 45, 184, 0, 105]
abbrev dktL_law_22 : List UInt8 := dkwL_law_22 ++ dktL_law_23
def dkwL_law_21 : List UInt8 := [153, 0, 5, 3, 172, 167, 2, 70, 43, 182, 0, 97, 44, 182, 0, 100, 159, 2, 59, 3, 172, 43]
abbrev dktL_law_21 : List UInt8 := dkwL_law_21 ++ dktL_law_22
def dkwL_law_20 : List UInt8 := [182, 0, 75, 21, 5, 159, 0, 5, 3, 172, 21, 5, 154, 0, 15, 45, 3, 47, 21, 6, 133, 148]
abbrev dktL_law_20 : List UInt8 := dkwL_law_20 ++ dktL_law_21
def dkwL_law_19 : List UInt8 := [148, 153, 0, 5, 3, 172, 167, 2, 114, 43, 45, 184, 0, 93, 54, 5, 44, 182, 0, 96, 54, 6, 44]
abbrev dktL_law_19 : List UInt8 := dkwL_law_19 ++ dktL_law_20
def dkwL_law_18 : List UInt8 := [54, 6, 44, 182, 0, 75, 21, 5, 159, 0, 5, 3, 172, 21, 5, 154, 0, 15, 45, 3, 47, 21, 6, 133]
abbrev dktL_law_18 : List UInt8 := dkwL_law_18 ++ dktL_law_19
def dkwL_law_17 : List UInt8 := [46, 45, 184, 0, 90, 54, 5, 44, 42, 21, 4, 4, 96, 46, 42, 21, 4, 5, 96, 46, 182, 0, 92]
abbrev dktL_law_17 : List UInt8 := dkwL_law_17 ++ dktL_law_18
def dkwL_law_16 : List UInt8 := [21, 6, 133, 148, 153, 0, 5, 3, 172, 167, 2, 182, 43, 42, 21, 4, 4, 96, 46, 42, 21, 4, 5, 96]
abbrev dktL_law_16 : List UInt8 := dkwL_law_16 ++ dktL_law_17
def dkwL_law_15 : List UInt8 := [182, 0, 89, 54, 6, 44, 182, 0, 75, 21, 5, 159, 0, 5, 3, 172, 21, 5, 154, 0, 15, 45, 3, 47]
abbrev dktL_law_15 : List UInt8 := dkwL_law_15 ++ dktL_law_16
def dkwL_law_14 : List UInt8 := [167, 2, 238, 43, 42, 21, 4, 4, 96, 46, 45, 184, 0, 86, 54, 5, 44, 42, 21, 4, 4, 96, 46]
abbrev dktL_law_14 : List UInt8 := dkwL_law_14 ++ dktL_law_15
def dkwL_law_13 : List UInt8 := [159, 0, 5, 3, 172, 21, 5, 154, 0, 15, 45, 3, 47, 21, 6, 133, 148, 153, 0, 5, 3, 172]
abbrev dktL_law_13 : List UInt8 := dkwL_law_13 ++ dktL_law_14
def dkwL_law_12 : List UInt8 := [16, 6, 96, 46, 153, 0, 7, 4, 167, 0, 4, 3, 182, 0, 85, 54, 6, 44, 182, 0, 75, 21, 5]
abbrev dktL_law_12 : List UInt8 := dkwL_law_12 ++ dktL_law_13
def dkwL_law_11 : List UInt8 := [5, 96, 46, 42, 21, 4, 6, 96, 46, 42, 21, 4, 7, 96, 46, 42, 21, 4, 8, 96, 46, 42, 21, 4]
abbrev dktL_law_11 : List UInt8 := dkwL_law_11 ++ dktL_law_12
def dkwL_law_10 : List UInt8 := [153, 0, 7, 4, 167, 0, 4, 3, 45, 184, 0, 82, 54, 5, 44, 42, 21, 4, 4, 96, 46, 42, 21, 4]
abbrev dktL_law_10 : List UInt8 := dkwL_law_10 ++ dktL_law_11
def dkwL_law_9 : List UInt8 := [6, 96, 46, 42, 21, 4, 7, 96, 46, 42, 21, 4, 8, 96, 46, 42, 21, 4, 16, 6, 96, 46]
abbrev dktL_law_9 : List UInt8 := dkwL_law_9 ++ dktL_law_10
def dkwL_law_8 : List UInt8 := [159, 0, 5, 3, 172, 167, 3, 116, 43, 42, 21, 4, 4, 96, 46, 42, 21, 4, 5, 96, 46, 42, 21, 4]
abbrev dktL_law_8 : List UInt8 := dkwL_law_8 ++ dktL_law_9
def dkwL_law_7 : List UInt8 := [4, 96, 46, 42, 21, 4, 5, 96, 46, 42, 21, 4, 6, 96, 46, 182, 0, 81, 44, 182, 0, 75, 21, 5]
abbrev dktL_law_7 : List UInt8 := dkwL_law_7 ++ dktL_law_8
def dkwL_law_6 : List UInt8 := [4, 96, 46, 42, 21, 4, 5, 96, 46, 42, 21, 4, 6, 96, 46, 184, 0, 78, 54, 5, 44, 42, 21, 4]
abbrev dktL_law_6 : List UInt8 := dkwL_law_6 ++ dktL_law_7
def dkwL_law_5 : List UInt8 := [21, 5, 154, 0, 15, 45, 3, 47, 21, 6, 133, 148, 153, 0, 5, 3, 172, 167, 3, 176, 43, 42, 21, 4]
abbrev dktL_law_5 : List UInt8 := dkwL_law_5 ++ dktL_law_6
def dkwL_law_4 : List UInt8 := [96, 46, 42, 21, 4, 5, 96, 46, 182, 0, 74, 54, 6, 44, 182, 0, 75, 21, 5, 159, 0, 5, 3, 172]
abbrev dktL_law_4 : List UInt8 := dkwL_law_4 ++ dktL_law_5
def dkwL_law_3 : List UInt8 := [43, 42, 21, 4, 4, 96, 46, 42, 21, 4, 5, 96, 46, 45, 184, 0, 69, 54, 5, 44, 42, 21, 4, 4]
abbrev dktL_law_3 : List UInt8 := dkwL_law_3 ++ dktL_law_4
def dkwL_law_2 : List UInt8 := [170, 0, 0, 0, 0, 0, 4, 73, 0, 0, 0, 0, 0, 0, 0, 17, 0, 0, 0, 88, 0, 0, 0, 156, 0, 0, 0, 216, 0, 0, 1, 94, 0, 0, 1, 150, 0, 0, 1, 218, 0, 0, 2, 6, 0, 0, 2, 19, 0, 0, 2, 32, 0, 0, 2, 88, 0, 0, 2, 156, 0, 0, 2, 212, 0, 0, 3, 12, 0, 0, 3, 68, 0, 0, 3, 81, 0, 0, 3, 149, 0, 0, 3, 217, 0, 0, 4, 17]
abbrev dktL_law_2 : List UInt8 := dkwL_law_2 ++ dktL_law_3
def dkwL_law_1 : List UInt8 := [21, 4, 42, 190, 16, 7, 100, 163, 4, 89, 42, 21, 4, 46, 16, 31, 126]
abbrev dktL_law_1 : List UInt8 := dkwL_law_1 ++ dktL_law_2
def dkwL_law_0 : List UInt8 := [187, 0, 8, 89, 183, 0, 65, 76, 187, 0, 66, 89, 183, 0, 68, 77, 4, 188, 11, 78, 3, 54, 4]
abbrev dktL_law_0 : List UInt8 := dkwL_law_0 ++ dktL_law_1
theorem dksL_law_0 : cL_law.data.toList.drop 0 = dktL_law_0 := by decide +kernel
theorem dksL_law_1 : cL_law.data.toList.drop 23 = dktL_law_1 := dk_seg dksL_law_0 23 rfl rfl
theorem dksL_law_2 : cL_law.data.toList.drop 40 = dktL_law_2 := dk_seg dksL_law_1 17 rfl rfl
theorem dksL_law_3 : cL_law.data.toList.drop 128 = dktL_law_3 := dk_seg dksL_law_2 88 rfl rfl
theorem dksL_law_4 : cL_law.data.toList.drop 152 = dktL_law_4 := dk_seg dksL_law_3 24 rfl rfl
theorem dksL_law_5 : cL_law.data.toList.drop 176 = dktL_law_5 := dk_seg dksL_law_4 24 rfl rfl
theorem dksL_law_6 : cL_law.data.toList.drop 200 = dktL_law_6 := dk_seg dksL_law_5 24 rfl rfl
theorem dksL_law_7 : cL_law.data.toList.drop 224 = dktL_law_7 := dk_seg dksL_law_6 24 rfl rfl
theorem dksL_law_8 : cL_law.data.toList.drop 248 = dktL_law_8 := dk_seg dksL_law_7 24 rfl rfl
theorem dksL_law_9 : cL_law.data.toList.drop 272 = dktL_law_9 := dk_seg dksL_law_8 24 rfl rfl
theorem dksL_law_10 : cL_law.data.toList.drop 294 = dktL_law_10 := dk_seg dksL_law_9 22 rfl rfl
theorem dksL_law_11 : cL_law.data.toList.drop 318 = dktL_law_11 := dk_seg dksL_law_10 24 rfl rfl
theorem dksL_law_12 : cL_law.data.toList.drop 342 = dktL_law_12 := dk_seg dksL_law_11 24 rfl rfl
theorem dksL_law_13 : cL_law.data.toList.drop 365 = dktL_law_13 := dk_seg dksL_law_12 23 rfl rfl
theorem dksL_law_14 : cL_law.data.toList.drop 387 = dktL_law_14 := dk_seg dksL_law_13 22 rfl rfl
theorem dksL_law_15 : cL_law.data.toList.drop 410 = dktL_law_15 := dk_seg dksL_law_14 23 rfl rfl
theorem dksL_law_16 : cL_law.data.toList.drop 434 = dktL_law_16 := dk_seg dksL_law_15 24 rfl rfl
theorem dksL_law_17 : cL_law.data.toList.drop 458 = dktL_law_17 := dk_seg dksL_law_16 24 rfl rfl
theorem dksL_law_18 : cL_law.data.toList.drop 481 = dktL_law_18 := dk_seg dksL_law_17 23 rfl rfl
theorem dksL_law_19 : cL_law.data.toList.drop 505 = dktL_law_19 := dk_seg dksL_law_18 24 rfl rfl
theorem dksL_law_20 : cL_law.data.toList.drop 528 = dktL_law_20 := dk_seg dksL_law_19 23 rfl rfl
theorem dksL_law_21 : cL_law.data.toList.drop 550 = dktL_law_21 := dk_seg dksL_law_20 22 rfl rfl
theorem dksL_law_22 : cL_law.data.toList.drop 572 = dktL_law_22 := dk_seg dksL_law_21 22 rfl rfl
theorem dksL_law_23 : cL_law.data.toList.drop 595 = dktL_law_23 := dk_seg dksL_law_22 23 rfl rfl
theorem dksL_law_24 : cL_law.data.toList.drop 619 = dktL_law_24 := dk_seg dksL_law_23 24 rfl rfl
theorem dksL_law_25 : cL_law.data.toList.drop 642 = dktL_law_25 := dk_seg dksL_law_24 23 rfl rfl
theorem dksL_law_26 : cL_law.data.toList.drop 666 = dktL_law_26 := dk_seg dksL_law_25 24 rfl rfl
theorem dksL_law_27 : cL_law.data.toList.drop 690 = dktL_law_27 := dk_seg dksL_law_26 24 rfl rfl
theorem dksL_law_28 : cL_law.data.toList.drop 714 = dktL_law_28 := dk_seg dksL_law_27 24 rfl rfl
theorem dksL_law_29 : cL_law.data.toList.drop 737 = dktL_law_29 := dk_seg dksL_law_28 23 rfl rfl
theorem dksL_law_30 : cL_law.data.toList.drop 761 = dktL_law_30 := dk_seg dksL_law_29 24 rfl rfl
theorem dksL_law_31 : cL_law.data.toList.drop 784 = dktL_law_31 := dk_seg dksL_law_30 23 rfl rfl
theorem dksL_law_32 : cL_law.data.toList.drop 808 = dktL_law_32 := dk_seg dksL_law_31 24 rfl rfl
theorem dksL_law_33 : cL_law.data.toList.drop 831 = dktL_law_33 := dk_seg dksL_law_32 23 rfl rfl
theorem dksL_law_34 : cL_law.data.toList.drop 855 = dktL_law_34 := dk_seg dksL_law_33 24 rfl rfl
theorem dksL_law_35 : cL_law.data.toList.drop 877 = dktL_law_35 := dk_seg dksL_law_34 22 rfl rfl
theorem dksL_law_36 : cL_law.data.toList.drop 901 = dktL_law_36 := dk_seg dksL_law_35 24 rfl rfl
theorem dksL_law_37 : cL_law.data.toList.drop 924 = dktL_law_37 := dk_seg dksL_law_36 23 rfl rfl
theorem dksL_law_38 : cL_law.data.toList.drop 948 = dktL_law_38 := dk_seg dksL_law_37 24 rfl rfl
theorem dksL_law_39 : cL_law.data.toList.drop 971 = dktL_law_39 := dk_seg dksL_law_38 23 rfl rfl
theorem dksL_law_40 : cL_law.data.toList.drop 995 = dktL_law_40 := dk_seg dksL_law_39 24 rfl rfl
theorem dksL_law_41 : cL_law.data.toList.drop 1017 = dktL_law_41 := dk_seg dksL_law_40 22 rfl rfl
theorem dksL_law_42 : cL_law.data.toList.drop 1040 = dktL_law_42 := dk_seg dksL_law_41 23 rfl rfl
theorem dksL_law_43 : cL_law.data.toList.drop 1063 = dktL_law_43 := dk_seg dksL_law_42 23 rfl rfl
theorem dksL_law_44 : cL_law.data.toList.drop 1087 = dktL_law_44 := dk_seg dksL_law_43 24 rfl rfl
theorem dksL_law_45 : cL_law.data.toList.drop 1110 = dktL_law_45 := dk_seg dksL_law_44 23 rfl rfl
theorem dksL_law_46 : cL_law.data.toList.drop 1134 = dktL_law_46 := dk_seg dksL_law_45 24 rfl rfl
theorem dL_law_0 : decode cL_law 0 = .ok (.new 8, 3) := dk_187 0 8 (dk_at dksL_law_0 0 rfl rfl)
theorem dL_law_3 : decode cL_law 3 = .ok (.dup, 1) := dk_89 (dk_at dksL_law_0 3 rfl rfl)
theorem dL_law_4 : decode cL_law 4 = .ok (.invokespecial 65, 3) := dk_183 0 65 (dk_at dksL_law_0 4 rfl rfl)
theorem dL_law_7 : decode cL_law 7 = .ok (.astore_n 1, 1) := dk_76 (dk_at dksL_law_0 7 rfl rfl)
theorem dL_law_8 : decode cL_law 8 = .ok (.new 66, 3) := dk_187 0 66 (dk_at dksL_law_0 8 rfl rfl)
theorem dL_law_11 : decode cL_law 11 = .ok (.dup, 1) := dk_89 (dk_at dksL_law_0 11 rfl rfl)
theorem dL_law_12 : decode cL_law 12 = .ok (.invokespecial 68, 3) := dk_183 0 68 (dk_at dksL_law_0 12 rfl rfl)
theorem dL_law_15 : decode cL_law 15 = .ok (.astore_n 2, 1) := dk_77 (dk_at dksL_law_0 15 rfl rfl)
theorem dL_law_16 : decode cL_law 16 = .ok (.iconst 1, 1) := dk_4 (dk_at dksL_law_0 16 rfl rfl)
theorem dL_law_17 : decode cL_law 17 = .ok (.newarray .long, 2) := dk_188_11 (dk_at dksL_law_0 17 rfl rfl)
theorem dL_law_19 : decode cL_law 19 = .ok (.astore_n 3, 1) := dk_78 (dk_at dksL_law_0 19 rfl rfl)
theorem dL_law_20 : decode cL_law 20 = .ok (.iconst 0, 1) := dk_3 (dk_at dksL_law_0 20 rfl rfl)
theorem dL_law_21 : decode cL_law 21 = .ok (.istore 4, 2) := dk_54 4 (dk_at dksL_law_0 21 rfl rfl)
theorem dL_law_23 : decode cL_law 23 = .ok (.iload 4, 2) := dk_21 4 (dk_at dksL_law_1 0 rfl rfl)
theorem dL_law_25 : decode cL_law 25 = .ok (.aload_n 0, 1) := dk_42 (dk_at dksL_law_1 2 rfl rfl)
theorem dL_law_26 : decode cL_law 26 = .ok (.arraylength, 1) := dk_190 (dk_at dksL_law_1 3 rfl rfl)
theorem dL_law_27 : decode cL_law 27 = .ok (.bipush 7, 2) := dk_16 7 (dk_at dksL_law_1 4 rfl rfl)
theorem dL_law_29 : decode cL_law 29 = .ok (.isub, 1) := dk_100 (dk_at dksL_law_1 6 rfl rfl)
theorem dL_law_30 : decode cL_law 30 = .ok (.if_icmp .gt 1113, 3) := dk_163 4 89 (dk_at dksL_law_1 7 rfl rfl)
theorem dL_law_33 : decode cL_law 33 = .ok (.aload_n 0, 1) := dk_42 (dk_at dksL_law_1 10 rfl rfl)
theorem dL_law_34 : decode cL_law 34 = .ok (.iload 4, 2) := dk_21 4 (dk_at dksL_law_1 11 rfl rfl)
theorem dL_law_36 : decode cL_law 36 = .ok (.iaload, 1) := dk_46 (dk_at dksL_law_1 13 rfl rfl)
theorem dL_law_37 : decode cL_law 37 = .ok (.bipush 31, 2) := dk_16 31 (dk_at dksL_law_1 14 rfl rfl)
theorem dL_law_39 : decode cL_law 39 = .ok (.iand, 1) := dk_126 (dk_at dksL_law_1 16 rfl rfl)
theorem dL_law_40 : decode cL_law 40 = .ok (.tableswitch 1097 0 17 #[88, 156, 216, 350, 406, 474, 518, 531, 544, 600, 668, 724, 780, 836, 849, 917, 985, 1041], 88) := by decide +kernel
theorem dL_law_128 : decode cL_law 128 = .ok (.aload_n 1, 1) := dk_43 (dk_at dksL_law_3 0 rfl rfl)
theorem dL_law_129 : decode cL_law 129 = .ok (.aload_n 0, 1) := dk_42 (dk_at dksL_law_3 1 rfl rfl)
theorem dL_law_130 : decode cL_law 130 = .ok (.iload 4, 2) := dk_21 4 (dk_at dksL_law_3 2 rfl rfl)
theorem dL_law_132 : decode cL_law 132 = .ok (.iconst 1, 1) := dk_4 (dk_at dksL_law_3 4 rfl rfl)
theorem dL_law_133 : decode cL_law 133 = .ok (.iadd, 1) := dk_96 (dk_at dksL_law_3 5 rfl rfl)
theorem dL_law_134 : decode cL_law 134 = .ok (.iaload, 1) := dk_46 (dk_at dksL_law_3 6 rfl rfl)
theorem dL_law_135 : decode cL_law 135 = .ok (.aload_n 0, 1) := dk_42 (dk_at dksL_law_3 7 rfl rfl)
theorem dL_law_136 : decode cL_law 136 = .ok (.iload 4, 2) := dk_21 4 (dk_at dksL_law_3 8 rfl rfl)
theorem dL_law_138 : decode cL_law 138 = .ok (.iconst 2, 1) := dk_5 (dk_at dksL_law_3 10 rfl rfl)
theorem dL_law_139 : decode cL_law 139 = .ok (.iadd, 1) := dk_96 (dk_at dksL_law_3 11 rfl rfl)
theorem dL_law_140 : decode cL_law 140 = .ok (.iaload, 1) := dk_46 (dk_at dksL_law_3 12 rfl rfl)
theorem dL_law_141 : decode cL_law 141 = .ok (.aload_n 3, 1) := dk_45 (dk_at dksL_law_3 13 rfl rfl)
theorem dL_law_142 : decode cL_law 142 = .ok (.invokestatic 69, 3) := dk_184 0 69 (dk_at dksL_law_3 14 rfl rfl)
theorem dL_law_145 : decode cL_law 145 = .ok (.istore 5, 2) := dk_54 5 (dk_at dksL_law_3 17 rfl rfl)
theorem dL_law_147 : decode cL_law 147 = .ok (.aload_n 2, 1) := dk_44 (dk_at dksL_law_3 19 rfl rfl)
theorem dL_law_148 : decode cL_law 148 = .ok (.aload_n 0, 1) := dk_42 (dk_at dksL_law_3 20 rfl rfl)
theorem dL_law_149 : decode cL_law 149 = .ok (.iload 4, 2) := dk_21 4 (dk_at dksL_law_3 21 rfl rfl)
theorem dL_law_151 : decode cL_law 151 = .ok (.iconst 1, 1) := dk_4 (dk_at dksL_law_3 23 rfl rfl)
theorem dL_law_152 : decode cL_law 152 = .ok (.iadd, 1) := dk_96 (dk_at dksL_law_4 0 rfl rfl)
theorem dL_law_153 : decode cL_law 153 = .ok (.iaload, 1) := dk_46 (dk_at dksL_law_4 1 rfl rfl)
theorem dL_law_154 : decode cL_law 154 = .ok (.aload_n 0, 1) := dk_42 (dk_at dksL_law_4 2 rfl rfl)
theorem dL_law_155 : decode cL_law 155 = .ok (.iload 4, 2) := dk_21 4 (dk_at dksL_law_4 3 rfl rfl)
theorem dL_law_157 : decode cL_law 157 = .ok (.iconst 2, 1) := dk_5 (dk_at dksL_law_4 5 rfl rfl)
theorem dL_law_158 : decode cL_law 158 = .ok (.iadd, 1) := dk_96 (dk_at dksL_law_4 6 rfl rfl)
theorem dL_law_159 : decode cL_law 159 = .ok (.iaload, 1) := dk_46 (dk_at dksL_law_4 7 rfl rfl)
theorem dL_law_160 : decode cL_law 160 = .ok (.invokevirtual 74, 3) := dk_182 0 74 (dk_at dksL_law_4 8 rfl rfl)
theorem dL_law_163 : decode cL_law 163 = .ok (.istore 6, 2) := dk_54 6 (dk_at dksL_law_4 11 rfl rfl)
theorem dL_law_165 : decode cL_law 165 = .ok (.aload_n 2, 1) := dk_44 (dk_at dksL_law_4 13 rfl rfl)
theorem dL_law_166 : decode cL_law 166 = .ok (.invokevirtual 75, 3) := dk_182 0 75 (dk_at dksL_law_4 14 rfl rfl)
theorem dL_law_169 : decode cL_law 169 = .ok (.iload 5, 2) := dk_21 5 (dk_at dksL_law_4 17 rfl rfl)
theorem dL_law_171 : decode cL_law 171 = .ok (.if_icmp .eq 5, 3) := dk_159 0 5 (dk_at dksL_law_4 19 rfl rfl)
theorem dL_law_174 : decode cL_law 174 = .ok (.iconst 0, 1) := dk_3 (dk_at dksL_law_4 22 rfl rfl)
theorem dL_law_175 : decode cL_law 175 = .ok (.ireturn, 1) := dk_172 (dk_at dksL_law_4 23 rfl rfl)
theorem dL_law_176 : decode cL_law 176 = .ok (.iload 5, 2) := dk_21 5 (dk_at dksL_law_5 0 rfl rfl)
theorem dL_law_178 : decode cL_law 178 = .ok (.ifCond .ne 15, 3) := dk_154 0 15 (dk_at dksL_law_5 2 rfl rfl)
theorem dL_law_181 : decode cL_law 181 = .ok (.aload_n 3, 1) := dk_45 (dk_at dksL_law_5 5 rfl rfl)
theorem dL_law_182 : decode cL_law 182 = .ok (.iconst 0, 1) := dk_3 (dk_at dksL_law_5 6 rfl rfl)
theorem dL_law_183 : decode cL_law 183 = .ok (.laload, 1) := dk_47 (dk_at dksL_law_5 7 rfl rfl)
theorem dL_law_184 : decode cL_law 184 = .ok (.iload 6, 2) := dk_21 6 (dk_at dksL_law_5 8 rfl rfl)
theorem dL_law_186 : decode cL_law 186 = .ok (.i2l, 1) := dk_133 (dk_at dksL_law_5 10 rfl rfl)
theorem dL_law_187 : decode cL_law 187 = .ok (.lcmp, 1) := dk_148 (dk_at dksL_law_5 11 rfl rfl)
theorem dL_law_188 : decode cL_law 188 = .ok (.ifCond .eq 5, 3) := dk_153 0 5 (dk_at dksL_law_5 12 rfl rfl)
theorem dL_law_191 : decode cL_law 191 = .ok (.iconst 0, 1) := dk_3 (dk_at dksL_law_5 15 rfl rfl)
theorem dL_law_192 : decode cL_law 192 = .ok (.ireturn, 1) := dk_172 (dk_at dksL_law_5 16 rfl rfl)
theorem dL_law_193 : decode cL_law 193 = .ok (.goto 944, 3) := dk_167 3 176 (dk_at dksL_law_5 17 rfl rfl)
theorem dL_law_196 : decode cL_law 196 = .ok (.aload_n 1, 1) := dk_43 (dk_at dksL_law_5 20 rfl rfl)
theorem dL_law_197 : decode cL_law 197 = .ok (.aload_n 0, 1) := dk_42 (dk_at dksL_law_5 21 rfl rfl)
theorem dL_law_198 : decode cL_law 198 = .ok (.iload 4, 2) := dk_21 4 (dk_at dksL_law_5 22 rfl rfl)
theorem dL_law_200 : decode cL_law 200 = .ok (.iconst 1, 1) := dk_4 (dk_at dksL_law_6 0 rfl rfl)
theorem dL_law_201 : decode cL_law 201 = .ok (.iadd, 1) := dk_96 (dk_at dksL_law_6 1 rfl rfl)
theorem dL_law_202 : decode cL_law 202 = .ok (.iaload, 1) := dk_46 (dk_at dksL_law_6 2 rfl rfl)
theorem dL_law_203 : decode cL_law 203 = .ok (.aload_n 0, 1) := dk_42 (dk_at dksL_law_6 3 rfl rfl)
theorem dL_law_204 : decode cL_law 204 = .ok (.iload 4, 2) := dk_21 4 (dk_at dksL_law_6 4 rfl rfl)
theorem dL_law_206 : decode cL_law 206 = .ok (.iconst 2, 1) := dk_5 (dk_at dksL_law_6 6 rfl rfl)
theorem dL_law_207 : decode cL_law 207 = .ok (.iadd, 1) := dk_96 (dk_at dksL_law_6 7 rfl rfl)
theorem dL_law_208 : decode cL_law 208 = .ok (.iaload, 1) := dk_46 (dk_at dksL_law_6 8 rfl rfl)
theorem dL_law_209 : decode cL_law 209 = .ok (.aload_n 0, 1) := dk_42 (dk_at dksL_law_6 9 rfl rfl)
theorem dL_law_210 : decode cL_law 210 = .ok (.iload 4, 2) := dk_21 4 (dk_at dksL_law_6 10 rfl rfl)
theorem dL_law_212 : decode cL_law 212 = .ok (.iconst 3, 1) := dk_6 (dk_at dksL_law_6 12 rfl rfl)
theorem dL_law_213 : decode cL_law 213 = .ok (.iadd, 1) := dk_96 (dk_at dksL_law_6 13 rfl rfl)
theorem dL_law_214 : decode cL_law 214 = .ok (.iaload, 1) := dk_46 (dk_at dksL_law_6 14 rfl rfl)
theorem dL_law_215 : decode cL_law 215 = .ok (.invokestatic 78, 3) := dk_184 0 78 (dk_at dksL_law_6 15 rfl rfl)
theorem dL_law_218 : decode cL_law 218 = .ok (.istore 5, 2) := dk_54 5 (dk_at dksL_law_6 18 rfl rfl)
theorem dL_law_220 : decode cL_law 220 = .ok (.aload_n 2, 1) := dk_44 (dk_at dksL_law_6 20 rfl rfl)
theorem dL_law_221 : decode cL_law 221 = .ok (.aload_n 0, 1) := dk_42 (dk_at dksL_law_6 21 rfl rfl)
theorem dL_law_222 : decode cL_law 222 = .ok (.iload 4, 2) := dk_21 4 (dk_at dksL_law_6 22 rfl rfl)
theorem dL_law_224 : decode cL_law 224 = .ok (.iconst 1, 1) := dk_4 (dk_at dksL_law_7 0 rfl rfl)
theorem dL_law_225 : decode cL_law 225 = .ok (.iadd, 1) := dk_96 (dk_at dksL_law_7 1 rfl rfl)
theorem dL_law_226 : decode cL_law 226 = .ok (.iaload, 1) := dk_46 (dk_at dksL_law_7 2 rfl rfl)
theorem dL_law_227 : decode cL_law 227 = .ok (.aload_n 0, 1) := dk_42 (dk_at dksL_law_7 3 rfl rfl)
theorem dL_law_228 : decode cL_law 228 = .ok (.iload 4, 2) := dk_21 4 (dk_at dksL_law_7 4 rfl rfl)
theorem dL_law_230 : decode cL_law 230 = .ok (.iconst 2, 1) := dk_5 (dk_at dksL_law_7 6 rfl rfl)
theorem dL_law_231 : decode cL_law 231 = .ok (.iadd, 1) := dk_96 (dk_at dksL_law_7 7 rfl rfl)
theorem dL_law_232 : decode cL_law 232 = .ok (.iaload, 1) := dk_46 (dk_at dksL_law_7 8 rfl rfl)
theorem dL_law_233 : decode cL_law 233 = .ok (.aload_n 0, 1) := dk_42 (dk_at dksL_law_7 9 rfl rfl)
theorem dL_law_234 : decode cL_law 234 = .ok (.iload 4, 2) := dk_21 4 (dk_at dksL_law_7 10 rfl rfl)
theorem dL_law_236 : decode cL_law 236 = .ok (.iconst 3, 1) := dk_6 (dk_at dksL_law_7 12 rfl rfl)
theorem dL_law_237 : decode cL_law 237 = .ok (.iadd, 1) := dk_96 (dk_at dksL_law_7 13 rfl rfl)
theorem dL_law_238 : decode cL_law 238 = .ok (.iaload, 1) := dk_46 (dk_at dksL_law_7 14 rfl rfl)
theorem dL_law_239 : decode cL_law 239 = .ok (.invokevirtual 81, 3) := dk_182 0 81 (dk_at dksL_law_7 15 rfl rfl)
theorem dL_law_242 : decode cL_law 242 = .ok (.aload_n 2, 1) := dk_44 (dk_at dksL_law_7 18 rfl rfl)
theorem dL_law_243 : decode cL_law 243 = .ok (.invokevirtual 75, 3) := dk_182 0 75 (dk_at dksL_law_7 19 rfl rfl)
theorem dL_law_246 : decode cL_law 246 = .ok (.iload 5, 2) := dk_21 5 (dk_at dksL_law_7 22 rfl rfl)
theorem dL_law_248 : decode cL_law 248 = .ok (.if_icmp .eq 5, 3) := dk_159 0 5 (dk_at dksL_law_8 0 rfl rfl)
theorem dL_law_251 : decode cL_law 251 = .ok (.iconst 0, 1) := dk_3 (dk_at dksL_law_8 3 rfl rfl)
theorem dL_law_252 : decode cL_law 252 = .ok (.ireturn, 1) := dk_172 (dk_at dksL_law_8 4 rfl rfl)
theorem dL_law_253 : decode cL_law 253 = .ok (.goto 884, 3) := dk_167 3 116 (dk_at dksL_law_8 5 rfl rfl)
theorem dL_law_256 : decode cL_law 256 = .ok (.aload_n 1, 1) := dk_43 (dk_at dksL_law_8 8 rfl rfl)
theorem dL_law_257 : decode cL_law 257 = .ok (.aload_n 0, 1) := dk_42 (dk_at dksL_law_8 9 rfl rfl)
theorem dL_law_258 : decode cL_law 258 = .ok (.iload 4, 2) := dk_21 4 (dk_at dksL_law_8 10 rfl rfl)
theorem dL_law_260 : decode cL_law 260 = .ok (.iconst 1, 1) := dk_4 (dk_at dksL_law_8 12 rfl rfl)
theorem dL_law_261 : decode cL_law 261 = .ok (.iadd, 1) := dk_96 (dk_at dksL_law_8 13 rfl rfl)
theorem dL_law_262 : decode cL_law 262 = .ok (.iaload, 1) := dk_46 (dk_at dksL_law_8 14 rfl rfl)
theorem dL_law_263 : decode cL_law 263 = .ok (.aload_n 0, 1) := dk_42 (dk_at dksL_law_8 15 rfl rfl)
theorem dL_law_264 : decode cL_law 264 = .ok (.iload 4, 2) := dk_21 4 (dk_at dksL_law_8 16 rfl rfl)
theorem dL_law_266 : decode cL_law 266 = .ok (.iconst 2, 1) := dk_5 (dk_at dksL_law_8 18 rfl rfl)
theorem dL_law_267 : decode cL_law 267 = .ok (.iadd, 1) := dk_96 (dk_at dksL_law_8 19 rfl rfl)
theorem dL_law_268 : decode cL_law 268 = .ok (.iaload, 1) := dk_46 (dk_at dksL_law_8 20 rfl rfl)
theorem dL_law_269 : decode cL_law 269 = .ok (.aload_n 0, 1) := dk_42 (dk_at dksL_law_8 21 rfl rfl)
theorem dL_law_270 : decode cL_law 270 = .ok (.iload 4, 2) := dk_21 4 (dk_at dksL_law_8 22 rfl rfl)
theorem dL_law_272 : decode cL_law 272 = .ok (.iconst 3, 1) := dk_6 (dk_at dksL_law_9 0 rfl rfl)
theorem dL_law_273 : decode cL_law 273 = .ok (.iadd, 1) := dk_96 (dk_at dksL_law_9 1 rfl rfl)
theorem dL_law_274 : decode cL_law 274 = .ok (.iaload, 1) := dk_46 (dk_at dksL_law_9 2 rfl rfl)
theorem dL_law_275 : decode cL_law 275 = .ok (.aload_n 0, 1) := dk_42 (dk_at dksL_law_9 3 rfl rfl)
theorem dL_law_276 : decode cL_law 276 = .ok (.iload 4, 2) := dk_21 4 (dk_at dksL_law_9 4 rfl rfl)
theorem dL_law_278 : decode cL_law 278 = .ok (.iconst 4, 1) := dk_7 (dk_at dksL_law_9 6 rfl rfl)
theorem dL_law_279 : decode cL_law 279 = .ok (.iadd, 1) := dk_96 (dk_at dksL_law_9 7 rfl rfl)
theorem dL_law_280 : decode cL_law 280 = .ok (.iaload, 1) := dk_46 (dk_at dksL_law_9 8 rfl rfl)
theorem dL_law_281 : decode cL_law 281 = .ok (.aload_n 0, 1) := dk_42 (dk_at dksL_law_9 9 rfl rfl)
theorem dL_law_282 : decode cL_law 282 = .ok (.iload 4, 2) := dk_21 4 (dk_at dksL_law_9 10 rfl rfl)
theorem dL_law_284 : decode cL_law 284 = .ok (.iconst 5, 1) := dk_8 (dk_at dksL_law_9 12 rfl rfl)
theorem dL_law_285 : decode cL_law 285 = .ok (.iadd, 1) := dk_96 (dk_at dksL_law_9 13 rfl rfl)
theorem dL_law_286 : decode cL_law 286 = .ok (.iaload, 1) := dk_46 (dk_at dksL_law_9 14 rfl rfl)
theorem dL_law_287 : decode cL_law 287 = .ok (.aload_n 0, 1) := dk_42 (dk_at dksL_law_9 15 rfl rfl)
theorem dL_law_288 : decode cL_law 288 = .ok (.iload 4, 2) := dk_21 4 (dk_at dksL_law_9 16 rfl rfl)
theorem dL_law_290 : decode cL_law 290 = .ok (.bipush 6, 2) := dk_16 6 (dk_at dksL_law_9 18 rfl rfl)
theorem dL_law_292 : decode cL_law 292 = .ok (.iadd, 1) := dk_96 (dk_at dksL_law_9 20 rfl rfl)
theorem dL_law_293 : decode cL_law 293 = .ok (.iaload, 1) := dk_46 (dk_at dksL_law_9 21 rfl rfl)
theorem dL_law_294 : decode cL_law 294 = .ok (.ifCond .eq 7, 3) := dk_153 0 7 (dk_at dksL_law_10 0 rfl rfl)
theorem dL_law_297 : decode cL_law 297 = .ok (.iconst 1, 1) := dk_4 (dk_at dksL_law_10 3 rfl rfl)
theorem dL_law_298 : decode cL_law 298 = .ok (.goto 4, 3) := dk_167 0 4 (dk_at dksL_law_10 4 rfl rfl)
theorem dL_law_301 : decode cL_law 301 = .ok (.iconst 0, 1) := dk_3 (dk_at dksL_law_10 7 rfl rfl)
theorem dL_law_302 : decode cL_law 302 = .ok (.aload_n 3, 1) := dk_45 (dk_at dksL_law_10 8 rfl rfl)
theorem dL_law_303 : decode cL_law 303 = .ok (.invokestatic 82, 3) := dk_184 0 82 (dk_at dksL_law_10 9 rfl rfl)
theorem dL_law_306 : decode cL_law 306 = .ok (.istore 5, 2) := dk_54 5 (dk_at dksL_law_10 12 rfl rfl)
theorem dL_law_308 : decode cL_law 308 = .ok (.aload_n 2, 1) := dk_44 (dk_at dksL_law_10 14 rfl rfl)
theorem dL_law_309 : decode cL_law 309 = .ok (.aload_n 0, 1) := dk_42 (dk_at dksL_law_10 15 rfl rfl)
theorem dL_law_310 : decode cL_law 310 = .ok (.iload 4, 2) := dk_21 4 (dk_at dksL_law_10 16 rfl rfl)
theorem dL_law_312 : decode cL_law 312 = .ok (.iconst 1, 1) := dk_4 (dk_at dksL_law_10 18 rfl rfl)
theorem dL_law_313 : decode cL_law 313 = .ok (.iadd, 1) := dk_96 (dk_at dksL_law_10 19 rfl rfl)
theorem dL_law_314 : decode cL_law 314 = .ok (.iaload, 1) := dk_46 (dk_at dksL_law_10 20 rfl rfl)
theorem dL_law_315 : decode cL_law 315 = .ok (.aload_n 0, 1) := dk_42 (dk_at dksL_law_10 21 rfl rfl)
theorem dL_law_316 : decode cL_law 316 = .ok (.iload 4, 2) := dk_21 4 (dk_at dksL_law_10 22 rfl rfl)
theorem dL_law_318 : decode cL_law 318 = .ok (.iconst 2, 1) := dk_5 (dk_at dksL_law_11 0 rfl rfl)
theorem dL_law_319 : decode cL_law 319 = .ok (.iadd, 1) := dk_96 (dk_at dksL_law_11 1 rfl rfl)
theorem dL_law_320 : decode cL_law 320 = .ok (.iaload, 1) := dk_46 (dk_at dksL_law_11 2 rfl rfl)
theorem dL_law_321 : decode cL_law 321 = .ok (.aload_n 0, 1) := dk_42 (dk_at dksL_law_11 3 rfl rfl)
theorem dL_law_322 : decode cL_law 322 = .ok (.iload 4, 2) := dk_21 4 (dk_at dksL_law_11 4 rfl rfl)
theorem dL_law_324 : decode cL_law 324 = .ok (.iconst 3, 1) := dk_6 (dk_at dksL_law_11 6 rfl rfl)
theorem dL_law_325 : decode cL_law 325 = .ok (.iadd, 1) := dk_96 (dk_at dksL_law_11 7 rfl rfl)
theorem dL_law_326 : decode cL_law 326 = .ok (.iaload, 1) := dk_46 (dk_at dksL_law_11 8 rfl rfl)
theorem dL_law_327 : decode cL_law 327 = .ok (.aload_n 0, 1) := dk_42 (dk_at dksL_law_11 9 rfl rfl)
theorem dL_law_328 : decode cL_law 328 = .ok (.iload 4, 2) := dk_21 4 (dk_at dksL_law_11 10 rfl rfl)
theorem dL_law_330 : decode cL_law 330 = .ok (.iconst 4, 1) := dk_7 (dk_at dksL_law_11 12 rfl rfl)
theorem dL_law_331 : decode cL_law 331 = .ok (.iadd, 1) := dk_96 (dk_at dksL_law_11 13 rfl rfl)
theorem dL_law_332 : decode cL_law 332 = .ok (.iaload, 1) := dk_46 (dk_at dksL_law_11 14 rfl rfl)
theorem dL_law_333 : decode cL_law 333 = .ok (.aload_n 0, 1) := dk_42 (dk_at dksL_law_11 15 rfl rfl)
theorem dL_law_334 : decode cL_law 334 = .ok (.iload 4, 2) := dk_21 4 (dk_at dksL_law_11 16 rfl rfl)
theorem dL_law_336 : decode cL_law 336 = .ok (.iconst 5, 1) := dk_8 (dk_at dksL_law_11 18 rfl rfl)
theorem dL_law_337 : decode cL_law 337 = .ok (.iadd, 1) := dk_96 (dk_at dksL_law_11 19 rfl rfl)
theorem dL_law_338 : decode cL_law 338 = .ok (.iaload, 1) := dk_46 (dk_at dksL_law_11 20 rfl rfl)
theorem dL_law_339 : decode cL_law 339 = .ok (.aload_n 0, 1) := dk_42 (dk_at dksL_law_11 21 rfl rfl)
theorem dL_law_340 : decode cL_law 340 = .ok (.iload 4, 2) := dk_21 4 (dk_at dksL_law_11 22 rfl rfl)
theorem dL_law_342 : decode cL_law 342 = .ok (.bipush 6, 2) := dk_16 6 (dk_at dksL_law_12 0 rfl rfl)
theorem dL_law_344 : decode cL_law 344 = .ok (.iadd, 1) := dk_96 (dk_at dksL_law_12 2 rfl rfl)
theorem dL_law_345 : decode cL_law 345 = .ok (.iaload, 1) := dk_46 (dk_at dksL_law_12 3 rfl rfl)
theorem dL_law_346 : decode cL_law 346 = .ok (.ifCond .eq 7, 3) := dk_153 0 7 (dk_at dksL_law_12 4 rfl rfl)
theorem dL_law_349 : decode cL_law 349 = .ok (.iconst 1, 1) := dk_4 (dk_at dksL_law_12 7 rfl rfl)
theorem dL_law_350 : decode cL_law 350 = .ok (.goto 4, 3) := dk_167 0 4 (dk_at dksL_law_12 8 rfl rfl)
theorem dL_law_353 : decode cL_law 353 = .ok (.iconst 0, 1) := dk_3 (dk_at dksL_law_12 11 rfl rfl)
theorem dL_law_354 : decode cL_law 354 = .ok (.invokevirtual 85, 3) := dk_182 0 85 (dk_at dksL_law_12 12 rfl rfl)
theorem dL_law_357 : decode cL_law 357 = .ok (.istore 6, 2) := dk_54 6 (dk_at dksL_law_12 15 rfl rfl)
theorem dL_law_359 : decode cL_law 359 = .ok (.aload_n 2, 1) := dk_44 (dk_at dksL_law_12 17 rfl rfl)
theorem dL_law_360 : decode cL_law 360 = .ok (.invokevirtual 75, 3) := dk_182 0 75 (dk_at dksL_law_12 18 rfl rfl)
theorem dL_law_363 : decode cL_law 363 = .ok (.iload 5, 2) := dk_21 5 (dk_at dksL_law_12 21 rfl rfl)
theorem dL_law_365 : decode cL_law 365 = .ok (.if_icmp .eq 5, 3) := dk_159 0 5 (dk_at dksL_law_13 0 rfl rfl)
theorem dL_law_368 : decode cL_law 368 = .ok (.iconst 0, 1) := dk_3 (dk_at dksL_law_13 3 rfl rfl)
theorem dL_law_369 : decode cL_law 369 = .ok (.ireturn, 1) := dk_172 (dk_at dksL_law_13 4 rfl rfl)
theorem dL_law_370 : decode cL_law 370 = .ok (.iload 5, 2) := dk_21 5 (dk_at dksL_law_13 5 rfl rfl)
theorem dL_law_372 : decode cL_law 372 = .ok (.ifCond .ne 15, 3) := dk_154 0 15 (dk_at dksL_law_13 7 rfl rfl)
theorem dL_law_375 : decode cL_law 375 = .ok (.aload_n 3, 1) := dk_45 (dk_at dksL_law_13 10 rfl rfl)
theorem dL_law_376 : decode cL_law 376 = .ok (.iconst 0, 1) := dk_3 (dk_at dksL_law_13 11 rfl rfl)
theorem dL_law_377 : decode cL_law 377 = .ok (.laload, 1) := dk_47 (dk_at dksL_law_13 12 rfl rfl)
theorem dL_law_378 : decode cL_law 378 = .ok (.iload 6, 2) := dk_21 6 (dk_at dksL_law_13 13 rfl rfl)
theorem dL_law_380 : decode cL_law 380 = .ok (.i2l, 1) := dk_133 (dk_at dksL_law_13 15 rfl rfl)
theorem dL_law_381 : decode cL_law 381 = .ok (.lcmp, 1) := dk_148 (dk_at dksL_law_13 16 rfl rfl)
theorem dL_law_382 : decode cL_law 382 = .ok (.ifCond .eq 5, 3) := dk_153 0 5 (dk_at dksL_law_13 17 rfl rfl)
theorem dL_law_385 : decode cL_law 385 = .ok (.iconst 0, 1) := dk_3 (dk_at dksL_law_13 20 rfl rfl)
theorem dL_law_386 : decode cL_law 386 = .ok (.ireturn, 1) := dk_172 (dk_at dksL_law_13 21 rfl rfl)
theorem dL_law_387 : decode cL_law 387 = .ok (.goto 750, 3) := dk_167 2 238 (dk_at dksL_law_14 0 rfl rfl)
theorem dL_law_390 : decode cL_law 390 = .ok (.aload_n 1, 1) := dk_43 (dk_at dksL_law_14 3 rfl rfl)
theorem dL_law_391 : decode cL_law 391 = .ok (.aload_n 0, 1) := dk_42 (dk_at dksL_law_14 4 rfl rfl)
theorem dL_law_392 : decode cL_law 392 = .ok (.iload 4, 2) := dk_21 4 (dk_at dksL_law_14 5 rfl rfl)
theorem dL_law_394 : decode cL_law 394 = .ok (.iconst 1, 1) := dk_4 (dk_at dksL_law_14 7 rfl rfl)
theorem dL_law_395 : decode cL_law 395 = .ok (.iadd, 1) := dk_96 (dk_at dksL_law_14 8 rfl rfl)
theorem dL_law_396 : decode cL_law 396 = .ok (.iaload, 1) := dk_46 (dk_at dksL_law_14 9 rfl rfl)
theorem dL_law_397 : decode cL_law 397 = .ok (.aload_n 3, 1) := dk_45 (dk_at dksL_law_14 10 rfl rfl)
theorem dL_law_398 : decode cL_law 398 = .ok (.invokestatic 86, 3) := dk_184 0 86 (dk_at dksL_law_14 11 rfl rfl)
theorem dL_law_401 : decode cL_law 401 = .ok (.istore 5, 2) := dk_54 5 (dk_at dksL_law_14 14 rfl rfl)
theorem dL_law_403 : decode cL_law 403 = .ok (.aload_n 2, 1) := dk_44 (dk_at dksL_law_14 16 rfl rfl)
theorem dL_law_404 : decode cL_law 404 = .ok (.aload_n 0, 1) := dk_42 (dk_at dksL_law_14 17 rfl rfl)
theorem dL_law_405 : decode cL_law 405 = .ok (.iload 4, 2) := dk_21 4 (dk_at dksL_law_14 18 rfl rfl)
theorem dL_law_407 : decode cL_law 407 = .ok (.iconst 1, 1) := dk_4 (dk_at dksL_law_14 20 rfl rfl)
theorem dL_law_408 : decode cL_law 408 = .ok (.iadd, 1) := dk_96 (dk_at dksL_law_14 21 rfl rfl)
theorem dL_law_409 : decode cL_law 409 = .ok (.iaload, 1) := dk_46 (dk_at dksL_law_14 22 rfl rfl)
theorem dL_law_410 : decode cL_law 410 = .ok (.invokevirtual 89, 3) := dk_182 0 89 (dk_at dksL_law_15 0 rfl rfl)
theorem dL_law_413 : decode cL_law 413 = .ok (.istore 6, 2) := dk_54 6 (dk_at dksL_law_15 3 rfl rfl)
theorem dL_law_415 : decode cL_law 415 = .ok (.aload_n 2, 1) := dk_44 (dk_at dksL_law_15 5 rfl rfl)
theorem dL_law_416 : decode cL_law 416 = .ok (.invokevirtual 75, 3) := dk_182 0 75 (dk_at dksL_law_15 6 rfl rfl)
theorem dL_law_419 : decode cL_law 419 = .ok (.iload 5, 2) := dk_21 5 (dk_at dksL_law_15 9 rfl rfl)
theorem dL_law_421 : decode cL_law 421 = .ok (.if_icmp .eq 5, 3) := dk_159 0 5 (dk_at dksL_law_15 11 rfl rfl)
theorem dL_law_424 : decode cL_law 424 = .ok (.iconst 0, 1) := dk_3 (dk_at dksL_law_15 14 rfl rfl)
theorem dL_law_425 : decode cL_law 425 = .ok (.ireturn, 1) := dk_172 (dk_at dksL_law_15 15 rfl rfl)
theorem dL_law_426 : decode cL_law 426 = .ok (.iload 5, 2) := dk_21 5 (dk_at dksL_law_15 16 rfl rfl)
theorem dL_law_428 : decode cL_law 428 = .ok (.ifCond .ne 15, 3) := dk_154 0 15 (dk_at dksL_law_15 18 rfl rfl)
theorem dL_law_431 : decode cL_law 431 = .ok (.aload_n 3, 1) := dk_45 (dk_at dksL_law_15 21 rfl rfl)
theorem dL_law_432 : decode cL_law 432 = .ok (.iconst 0, 1) := dk_3 (dk_at dksL_law_15 22 rfl rfl)
theorem dL_law_433 : decode cL_law 433 = .ok (.laload, 1) := dk_47 (dk_at dksL_law_15 23 rfl rfl)
theorem dL_law_434 : decode cL_law 434 = .ok (.iload 6, 2) := dk_21 6 (dk_at dksL_law_16 0 rfl rfl)
theorem dL_law_436 : decode cL_law 436 = .ok (.i2l, 1) := dk_133 (dk_at dksL_law_16 2 rfl rfl)
theorem dL_law_437 : decode cL_law 437 = .ok (.lcmp, 1) := dk_148 (dk_at dksL_law_16 3 rfl rfl)
theorem dL_law_438 : decode cL_law 438 = .ok (.ifCond .eq 5, 3) := dk_153 0 5 (dk_at dksL_law_16 4 rfl rfl)
theorem dL_law_441 : decode cL_law 441 = .ok (.iconst 0, 1) := dk_3 (dk_at dksL_law_16 7 rfl rfl)
theorem dL_law_442 : decode cL_law 442 = .ok (.ireturn, 1) := dk_172 (dk_at dksL_law_16 8 rfl rfl)
theorem dL_law_443 : decode cL_law 443 = .ok (.goto 694, 3) := dk_167 2 182 (dk_at dksL_law_16 9 rfl rfl)
theorem dL_law_446 : decode cL_law 446 = .ok (.aload_n 1, 1) := dk_43 (dk_at dksL_law_16 12 rfl rfl)
theorem dL_law_447 : decode cL_law 447 = .ok (.aload_n 0, 1) := dk_42 (dk_at dksL_law_16 13 rfl rfl)
theorem dL_law_448 : decode cL_law 448 = .ok (.iload 4, 2) := dk_21 4 (dk_at dksL_law_16 14 rfl rfl)
theorem dL_law_450 : decode cL_law 450 = .ok (.iconst 1, 1) := dk_4 (dk_at dksL_law_16 16 rfl rfl)
theorem dL_law_451 : decode cL_law 451 = .ok (.iadd, 1) := dk_96 (dk_at dksL_law_16 17 rfl rfl)
theorem dL_law_452 : decode cL_law 452 = .ok (.iaload, 1) := dk_46 (dk_at dksL_law_16 18 rfl rfl)
theorem dL_law_453 : decode cL_law 453 = .ok (.aload_n 0, 1) := dk_42 (dk_at dksL_law_16 19 rfl rfl)
theorem dL_law_454 : decode cL_law 454 = .ok (.iload 4, 2) := dk_21 4 (dk_at dksL_law_16 20 rfl rfl)
theorem dL_law_456 : decode cL_law 456 = .ok (.iconst 2, 1) := dk_5 (dk_at dksL_law_16 22 rfl rfl)
theorem dL_law_457 : decode cL_law 457 = .ok (.iadd, 1) := dk_96 (dk_at dksL_law_16 23 rfl rfl)
theorem dL_law_458 : decode cL_law 458 = .ok (.iaload, 1) := dk_46 (dk_at dksL_law_17 0 rfl rfl)
theorem dL_law_459 : decode cL_law 459 = .ok (.aload_n 3, 1) := dk_45 (dk_at dksL_law_17 1 rfl rfl)
theorem dL_law_460 : decode cL_law 460 = .ok (.invokestatic 90, 3) := dk_184 0 90 (dk_at dksL_law_17 2 rfl rfl)
theorem dL_law_463 : decode cL_law 463 = .ok (.istore 5, 2) := dk_54 5 (dk_at dksL_law_17 5 rfl rfl)
theorem dL_law_465 : decode cL_law 465 = .ok (.aload_n 2, 1) := dk_44 (dk_at dksL_law_17 7 rfl rfl)
theorem dL_law_466 : decode cL_law 466 = .ok (.aload_n 0, 1) := dk_42 (dk_at dksL_law_17 8 rfl rfl)
theorem dL_law_467 : decode cL_law 467 = .ok (.iload 4, 2) := dk_21 4 (dk_at dksL_law_17 9 rfl rfl)
theorem dL_law_469 : decode cL_law 469 = .ok (.iconst 1, 1) := dk_4 (dk_at dksL_law_17 11 rfl rfl)
theorem dL_law_470 : decode cL_law 470 = .ok (.iadd, 1) := dk_96 (dk_at dksL_law_17 12 rfl rfl)
theorem dL_law_471 : decode cL_law 471 = .ok (.iaload, 1) := dk_46 (dk_at dksL_law_17 13 rfl rfl)
theorem dL_law_472 : decode cL_law 472 = .ok (.aload_n 0, 1) := dk_42 (dk_at dksL_law_17 14 rfl rfl)
theorem dL_law_473 : decode cL_law 473 = .ok (.iload 4, 2) := dk_21 4 (dk_at dksL_law_17 15 rfl rfl)
theorem dL_law_475 : decode cL_law 475 = .ok (.iconst 2, 1) := dk_5 (dk_at dksL_law_17 17 rfl rfl)
theorem dL_law_476 : decode cL_law 476 = .ok (.iadd, 1) := dk_96 (dk_at dksL_law_17 18 rfl rfl)
theorem dL_law_477 : decode cL_law 477 = .ok (.iaload, 1) := dk_46 (dk_at dksL_law_17 19 rfl rfl)
theorem dL_law_478 : decode cL_law 478 = .ok (.invokevirtual 92, 3) := dk_182 0 92 (dk_at dksL_law_17 20 rfl rfl)
theorem dL_law_481 : decode cL_law 481 = .ok (.istore 6, 2) := dk_54 6 (dk_at dksL_law_18 0 rfl rfl)
theorem dL_law_483 : decode cL_law 483 = .ok (.aload_n 2, 1) := dk_44 (dk_at dksL_law_18 2 rfl rfl)
theorem dL_law_484 : decode cL_law 484 = .ok (.invokevirtual 75, 3) := dk_182 0 75 (dk_at dksL_law_18 3 rfl rfl)
theorem dL_law_487 : decode cL_law 487 = .ok (.iload 5, 2) := dk_21 5 (dk_at dksL_law_18 6 rfl rfl)
theorem dL_law_489 : decode cL_law 489 = .ok (.if_icmp .eq 5, 3) := dk_159 0 5 (dk_at dksL_law_18 8 rfl rfl)
theorem dL_law_492 : decode cL_law 492 = .ok (.iconst 0, 1) := dk_3 (dk_at dksL_law_18 11 rfl rfl)
theorem dL_law_493 : decode cL_law 493 = .ok (.ireturn, 1) := dk_172 (dk_at dksL_law_18 12 rfl rfl)
theorem dL_law_494 : decode cL_law 494 = .ok (.iload 5, 2) := dk_21 5 (dk_at dksL_law_18 13 rfl rfl)
theorem dL_law_496 : decode cL_law 496 = .ok (.ifCond .ne 15, 3) := dk_154 0 15 (dk_at dksL_law_18 15 rfl rfl)
theorem dL_law_499 : decode cL_law 499 = .ok (.aload_n 3, 1) := dk_45 (dk_at dksL_law_18 18 rfl rfl)
theorem dL_law_500 : decode cL_law 500 = .ok (.iconst 0, 1) := dk_3 (dk_at dksL_law_18 19 rfl rfl)
theorem dL_law_501 : decode cL_law 501 = .ok (.laload, 1) := dk_47 (dk_at dksL_law_18 20 rfl rfl)
theorem dL_law_502 : decode cL_law 502 = .ok (.iload 6, 2) := dk_21 6 (dk_at dksL_law_18 21 rfl rfl)
theorem dL_law_504 : decode cL_law 504 = .ok (.i2l, 1) := dk_133 (dk_at dksL_law_18 23 rfl rfl)
theorem dL_law_505 : decode cL_law 505 = .ok (.lcmp, 1) := dk_148 (dk_at dksL_law_19 0 rfl rfl)
theorem dL_law_506 : decode cL_law 506 = .ok (.ifCond .eq 5, 3) := dk_153 0 5 (dk_at dksL_law_19 1 rfl rfl)
theorem dL_law_509 : decode cL_law 509 = .ok (.iconst 0, 1) := dk_3 (dk_at dksL_law_19 4 rfl rfl)
theorem dL_law_510 : decode cL_law 510 = .ok (.ireturn, 1) := dk_172 (dk_at dksL_law_19 5 rfl rfl)
theorem dL_law_511 : decode cL_law 511 = .ok (.goto 626, 3) := dk_167 2 114 (dk_at dksL_law_19 6 rfl rfl)
theorem dL_law_514 : decode cL_law 514 = .ok (.aload_n 1, 1) := dk_43 (dk_at dksL_law_19 9 rfl rfl)
theorem dL_law_515 : decode cL_law 515 = .ok (.aload_n 3, 1) := dk_45 (dk_at dksL_law_19 10 rfl rfl)
theorem dL_law_516 : decode cL_law 516 = .ok (.invokestatic 93, 3) := dk_184 0 93 (dk_at dksL_law_19 11 rfl rfl)
theorem dL_law_519 : decode cL_law 519 = .ok (.istore 5, 2) := dk_54 5 (dk_at dksL_law_19 14 rfl rfl)
theorem dL_law_521 : decode cL_law 521 = .ok (.aload_n 2, 1) := dk_44 (dk_at dksL_law_19 16 rfl rfl)
theorem dL_law_522 : decode cL_law 522 = .ok (.invokevirtual 96, 3) := dk_182 0 96 (dk_at dksL_law_19 17 rfl rfl)
theorem dL_law_525 : decode cL_law 525 = .ok (.istore 6, 2) := dk_54 6 (dk_at dksL_law_19 20 rfl rfl)
theorem dL_law_527 : decode cL_law 527 = .ok (.aload_n 2, 1) := dk_44 (dk_at dksL_law_19 22 rfl rfl)
theorem dL_law_528 : decode cL_law 528 = .ok (.invokevirtual 75, 3) := dk_182 0 75 (dk_at dksL_law_20 0 rfl rfl)
theorem dL_law_531 : decode cL_law 531 = .ok (.iload 5, 2) := dk_21 5 (dk_at dksL_law_20 3 rfl rfl)
theorem dL_law_533 : decode cL_law 533 = .ok (.if_icmp .eq 5, 3) := dk_159 0 5 (dk_at dksL_law_20 5 rfl rfl)
theorem dL_law_536 : decode cL_law 536 = .ok (.iconst 0, 1) := dk_3 (dk_at dksL_law_20 8 rfl rfl)
theorem dL_law_537 : decode cL_law 537 = .ok (.ireturn, 1) := dk_172 (dk_at dksL_law_20 9 rfl rfl)
theorem dL_law_538 : decode cL_law 538 = .ok (.iload 5, 2) := dk_21 5 (dk_at dksL_law_20 10 rfl rfl)
theorem dL_law_540 : decode cL_law 540 = .ok (.ifCond .ne 15, 3) := dk_154 0 15 (dk_at dksL_law_20 12 rfl rfl)
theorem dL_law_543 : decode cL_law 543 = .ok (.aload_n 3, 1) := dk_45 (dk_at dksL_law_20 15 rfl rfl)
theorem dL_law_544 : decode cL_law 544 = .ok (.iconst 0, 1) := dk_3 (dk_at dksL_law_20 16 rfl rfl)
theorem dL_law_545 : decode cL_law 545 = .ok (.laload, 1) := dk_47 (dk_at dksL_law_20 17 rfl rfl)
theorem dL_law_546 : decode cL_law 546 = .ok (.iload 6, 2) := dk_21 6 (dk_at dksL_law_20 18 rfl rfl)
theorem dL_law_548 : decode cL_law 548 = .ok (.i2l, 1) := dk_133 (dk_at dksL_law_20 20 rfl rfl)
theorem dL_law_549 : decode cL_law 549 = .ok (.lcmp, 1) := dk_148 (dk_at dksL_law_20 21 rfl rfl)
theorem dL_law_550 : decode cL_law 550 = .ok (.ifCond .eq 5, 3) := dk_153 0 5 (dk_at dksL_law_21 0 rfl rfl)
theorem dL_law_553 : decode cL_law 553 = .ok (.iconst 0, 1) := dk_3 (dk_at dksL_law_21 3 rfl rfl)
theorem dL_law_554 : decode cL_law 554 = .ok (.ireturn, 1) := dk_172 (dk_at dksL_law_21 4 rfl rfl)
theorem dL_law_555 : decode cL_law 555 = .ok (.goto 582, 3) := dk_167 2 70 (dk_at dksL_law_21 5 rfl rfl)
theorem dL_law_558 : decode cL_law 558 = .ok (.aload_n 1, 1) := dk_43 (dk_at dksL_law_21 8 rfl rfl)
theorem dL_law_559 : decode cL_law 559 = .ok (.invokevirtual 97, 3) := dk_182 0 97 (dk_at dksL_law_21 9 rfl rfl)
theorem dL_law_562 : decode cL_law 562 = .ok (.aload_n 2, 1) := dk_44 (dk_at dksL_law_21 12 rfl rfl)
theorem dL_law_563 : decode cL_law 563 = .ok (.invokevirtual 100, 3) := dk_182 0 100 (dk_at dksL_law_21 13 rfl rfl)
theorem dL_law_566 : decode cL_law 566 = .ok (.if_icmp .eq 571, 3) := dk_159 2 59 (dk_at dksL_law_21 16 rfl rfl)
theorem dL_law_569 : decode cL_law 569 = .ok (.iconst 0, 1) := dk_3 (dk_at dksL_law_21 19 rfl rfl)
theorem dL_law_570 : decode cL_law 570 = .ok (.ireturn, 1) := dk_172 (dk_at dksL_law_21 20 rfl rfl)
theorem dL_law_571 : decode cL_law 571 = .ok (.aload_n 1, 1) := dk_43 (dk_at dksL_law_21 21 rfl rfl)
theorem dL_law_572 : decode cL_law 572 = .ok (.invokevirtual 101, 3) := dk_182 0 101 (dk_at dksL_law_22 0 rfl rfl)
theorem dL_law_575 : decode cL_law 575 = .ok (.aload_n 2, 1) := dk_44 (dk_at dksL_law_22 3 rfl rfl)
theorem dL_law_576 : decode cL_law 576 = .ok (.invokevirtual 104, 3) := dk_182 0 104 (dk_at dksL_law_22 4 rfl rfl)
theorem dL_law_579 : decode cL_law 579 = .ok (.if_icmp .eq 558, 3) := dk_159 2 46 (dk_at dksL_law_22 7 rfl rfl)
theorem dL_law_582 : decode cL_law 582 = .ok (.iconst 0, 1) := dk_3 (dk_at dksL_law_22 10 rfl rfl)
theorem dL_law_583 : decode cL_law 583 = .ok (.ireturn, 1) := dk_172 (dk_at dksL_law_22 11 rfl rfl)
theorem dL_law_584 : decode cL_law 584 = .ok (.aload_n 1, 1) := dk_43 (dk_at dksL_law_22 12 rfl rfl)
theorem dL_law_585 : decode cL_law 585 = .ok (.aload_n 0, 1) := dk_42 (dk_at dksL_law_22 13 rfl rfl)
theorem dL_law_586 : decode cL_law 586 = .ok (.iload 4, 2) := dk_21 4 (dk_at dksL_law_22 14 rfl rfl)
theorem dL_law_588 : decode cL_law 588 = .ok (.iconst 1, 1) := dk_4 (dk_at dksL_law_22 16 rfl rfl)
theorem dL_law_589 : decode cL_law 589 = .ok (.iadd, 1) := dk_96 (dk_at dksL_law_22 17 rfl rfl)
theorem dL_law_590 : decode cL_law 590 = .ok (.iaload, 1) := dk_46 (dk_at dksL_law_22 18 rfl rfl)
theorem dL_law_591 : decode cL_law 591 = .ok (.aload_n 3, 1) := dk_45 (dk_at dksL_law_22 19 rfl rfl)
theorem dL_law_592 : decode cL_law 592 = .ok (.invokestatic 105, 3) := dk_184 0 105 (dk_at dksL_law_22 20 rfl rfl)
theorem dL_law_595 : decode cL_law 595 = .ok (.istore 5, 2) := dk_54 5 (dk_at dksL_law_23 0 rfl rfl)
theorem dL_law_597 : decode cL_law 597 = .ok (.aload_n 2, 1) := dk_44 (dk_at dksL_law_23 2 rfl rfl)
theorem dL_law_598 : decode cL_law 598 = .ok (.aload_n 0, 1) := dk_42 (dk_at dksL_law_23 3 rfl rfl)
theorem dL_law_599 : decode cL_law 599 = .ok (.iload 4, 2) := dk_21 4 (dk_at dksL_law_23 4 rfl rfl)
theorem dL_law_601 : decode cL_law 601 = .ok (.iconst 1, 1) := dk_4 (dk_at dksL_law_23 6 rfl rfl)
theorem dL_law_602 : decode cL_law 602 = .ok (.iadd, 1) := dk_96 (dk_at dksL_law_23 7 rfl rfl)
theorem dL_law_603 : decode cL_law 603 = .ok (.iaload, 1) := dk_46 (dk_at dksL_law_23 8 rfl rfl)
theorem dL_law_604 : decode cL_law 604 = .ok (.invokevirtual 107, 3) := dk_182 0 107 (dk_at dksL_law_23 9 rfl rfl)
theorem dL_law_607 : decode cL_law 607 = .ok (.istore 6, 2) := dk_54 6 (dk_at dksL_law_23 12 rfl rfl)
theorem dL_law_609 : decode cL_law 609 = .ok (.aload_n 2, 1) := dk_44 (dk_at dksL_law_23 14 rfl rfl)
theorem dL_law_610 : decode cL_law 610 = .ok (.invokevirtual 75, 3) := dk_182 0 75 (dk_at dksL_law_23 15 rfl rfl)
theorem dL_law_613 : decode cL_law 613 = .ok (.iload 5, 2) := dk_21 5 (dk_at dksL_law_23 18 rfl rfl)
theorem dL_law_615 : decode cL_law 615 = .ok (.if_icmp .eq 5, 3) := dk_159 0 5 (dk_at dksL_law_23 20 rfl rfl)
theorem dL_law_618 : decode cL_law 618 = .ok (.iconst 0, 1) := dk_3 (dk_at dksL_law_23 23 rfl rfl)
theorem dL_law_619 : decode cL_law 619 = .ok (.ireturn, 1) := dk_172 (dk_at dksL_law_24 0 rfl rfl)
theorem dL_law_620 : decode cL_law 620 = .ok (.iload 5, 2) := dk_21 5 (dk_at dksL_law_24 1 rfl rfl)
theorem dL_law_622 : decode cL_law 622 = .ok (.ifCond .ne 15, 3) := dk_154 0 15 (dk_at dksL_law_24 3 rfl rfl)
theorem dL_law_625 : decode cL_law 625 = .ok (.aload_n 3, 1) := dk_45 (dk_at dksL_law_24 6 rfl rfl)
theorem dL_law_626 : decode cL_law 626 = .ok (.iconst 0, 1) := dk_3 (dk_at dksL_law_24 7 rfl rfl)
theorem dL_law_627 : decode cL_law 627 = .ok (.laload, 1) := dk_47 (dk_at dksL_law_24 8 rfl rfl)
theorem dL_law_628 : decode cL_law 628 = .ok (.iload 6, 2) := dk_21 6 (dk_at dksL_law_24 9 rfl rfl)
theorem dL_law_630 : decode cL_law 630 = .ok (.i2l, 1) := dk_133 (dk_at dksL_law_24 11 rfl rfl)
theorem dL_law_631 : decode cL_law 631 = .ok (.lcmp, 1) := dk_148 (dk_at dksL_law_24 12 rfl rfl)
theorem dL_law_632 : decode cL_law 632 = .ok (.ifCond .eq 5, 3) := dk_153 0 5 (dk_at dksL_law_24 13 rfl rfl)
theorem dL_law_635 : decode cL_law 635 = .ok (.iconst 0, 1) := dk_3 (dk_at dksL_law_24 16 rfl rfl)
theorem dL_law_636 : decode cL_law 636 = .ok (.ireturn, 1) := dk_172 (dk_at dksL_law_24 17 rfl rfl)
theorem dL_law_637 : decode cL_law 637 = .ok (.goto 500, 3) := dk_167 1 244 (dk_at dksL_law_24 18 rfl rfl)
theorem dL_law_640 : decode cL_law 640 = .ok (.aload_n 1, 1) := dk_43 (dk_at dksL_law_24 21 rfl rfl)
theorem dL_law_641 : decode cL_law 641 = .ok (.aload_n 0, 1) := dk_42 (dk_at dksL_law_24 22 rfl rfl)
theorem dL_law_642 : decode cL_law 642 = .ok (.iload 4, 2) := dk_21 4 (dk_at dksL_law_25 0 rfl rfl)
theorem dL_law_644 : decode cL_law 644 = .ok (.iconst 1, 1) := dk_4 (dk_at dksL_law_25 2 rfl rfl)
theorem dL_law_645 : decode cL_law 645 = .ok (.iadd, 1) := dk_96 (dk_at dksL_law_25 3 rfl rfl)
theorem dL_law_646 : decode cL_law 646 = .ok (.iaload, 1) := dk_46 (dk_at dksL_law_25 4 rfl rfl)
theorem dL_law_647 : decode cL_law 647 = .ok (.aload_n 0, 1) := dk_42 (dk_at dksL_law_25 5 rfl rfl)
theorem dL_law_648 : decode cL_law 648 = .ok (.iload 4, 2) := dk_21 4 (dk_at dksL_law_25 6 rfl rfl)
theorem dL_law_650 : decode cL_law 650 = .ok (.iconst 2, 1) := dk_5 (dk_at dksL_law_25 8 rfl rfl)
theorem dL_law_651 : decode cL_law 651 = .ok (.iadd, 1) := dk_96 (dk_at dksL_law_25 9 rfl rfl)
theorem dL_law_652 : decode cL_law 652 = .ok (.iaload, 1) := dk_46 (dk_at dksL_law_25 10 rfl rfl)
theorem dL_law_653 : decode cL_law 653 = .ok (.aload_n 3, 1) := dk_45 (dk_at dksL_law_25 11 rfl rfl)
theorem dL_law_654 : decode cL_law 654 = .ok (.invokestatic 108, 3) := dk_184 0 108 (dk_at dksL_law_25 12 rfl rfl)
theorem dL_law_657 : decode cL_law 657 = .ok (.istore 5, 2) := dk_54 5 (dk_at dksL_law_25 15 rfl rfl)
theorem dL_law_659 : decode cL_law 659 = .ok (.aload_n 2, 1) := dk_44 (dk_at dksL_law_25 17 rfl rfl)
theorem dL_law_660 : decode cL_law 660 = .ok (.aload_n 0, 1) := dk_42 (dk_at dksL_law_25 18 rfl rfl)
theorem dL_law_661 : decode cL_law 661 = .ok (.iload 4, 2) := dk_21 4 (dk_at dksL_law_25 19 rfl rfl)
theorem dL_law_663 : decode cL_law 663 = .ok (.iconst 1, 1) := dk_4 (dk_at dksL_law_25 21 rfl rfl)
theorem dL_law_664 : decode cL_law 664 = .ok (.iadd, 1) := dk_96 (dk_at dksL_law_25 22 rfl rfl)
theorem dL_law_665 : decode cL_law 665 = .ok (.iaload, 1) := dk_46 (dk_at dksL_law_25 23 rfl rfl)
theorem dL_law_666 : decode cL_law 666 = .ok (.aload_n 0, 1) := dk_42 (dk_at dksL_law_26 0 rfl rfl)
theorem dL_law_667 : decode cL_law 667 = .ok (.iload 4, 2) := dk_21 4 (dk_at dksL_law_26 1 rfl rfl)
theorem dL_law_669 : decode cL_law 669 = .ok (.iconst 2, 1) := dk_5 (dk_at dksL_law_26 3 rfl rfl)
theorem dL_law_670 : decode cL_law 670 = .ok (.iadd, 1) := dk_96 (dk_at dksL_law_26 4 rfl rfl)
theorem dL_law_671 : decode cL_law 671 = .ok (.iaload, 1) := dk_46 (dk_at dksL_law_26 5 rfl rfl)
theorem dL_law_672 : decode cL_law 672 = .ok (.invokevirtual 110, 3) := dk_182 0 110 (dk_at dksL_law_26 6 rfl rfl)
theorem dL_law_675 : decode cL_law 675 = .ok (.istore 6, 2) := dk_54 6 (dk_at dksL_law_26 9 rfl rfl)
theorem dL_law_677 : decode cL_law 677 = .ok (.aload_n 2, 1) := dk_44 (dk_at dksL_law_26 11 rfl rfl)
theorem dL_law_678 : decode cL_law 678 = .ok (.invokevirtual 75, 3) := dk_182 0 75 (dk_at dksL_law_26 12 rfl rfl)
theorem dL_law_681 : decode cL_law 681 = .ok (.iload 5, 2) := dk_21 5 (dk_at dksL_law_26 15 rfl rfl)
theorem dL_law_683 : decode cL_law 683 = .ok (.if_icmp .eq 5, 3) := dk_159 0 5 (dk_at dksL_law_26 17 rfl rfl)
theorem dL_law_686 : decode cL_law 686 = .ok (.iconst 0, 1) := dk_3 (dk_at dksL_law_26 20 rfl rfl)
theorem dL_law_687 : decode cL_law 687 = .ok (.ireturn, 1) := dk_172 (dk_at dksL_law_26 21 rfl rfl)
theorem dL_law_688 : decode cL_law 688 = .ok (.iload 5, 2) := dk_21 5 (dk_at dksL_law_26 22 rfl rfl)
theorem dL_law_690 : decode cL_law 690 = .ok (.ifCond .ne 15, 3) := dk_154 0 15 (dk_at dksL_law_27 0 rfl rfl)
theorem dL_law_693 : decode cL_law 693 = .ok (.aload_n 3, 1) := dk_45 (dk_at dksL_law_27 3 rfl rfl)
theorem dL_law_694 : decode cL_law 694 = .ok (.iconst 0, 1) := dk_3 (dk_at dksL_law_27 4 rfl rfl)
theorem dL_law_695 : decode cL_law 695 = .ok (.laload, 1) := dk_47 (dk_at dksL_law_27 5 rfl rfl)
theorem dL_law_696 : decode cL_law 696 = .ok (.iload 6, 2) := dk_21 6 (dk_at dksL_law_27 6 rfl rfl)
theorem dL_law_698 : decode cL_law 698 = .ok (.i2l, 1) := dk_133 (dk_at dksL_law_27 8 rfl rfl)
theorem dL_law_699 : decode cL_law 699 = .ok (.lcmp, 1) := dk_148 (dk_at dksL_law_27 9 rfl rfl)
theorem dL_law_700 : decode cL_law 700 = .ok (.ifCond .eq 5, 3) := dk_153 0 5 (dk_at dksL_law_27 10 rfl rfl)
theorem dL_law_703 : decode cL_law 703 = .ok (.iconst 0, 1) := dk_3 (dk_at dksL_law_27 13 rfl rfl)
theorem dL_law_704 : decode cL_law 704 = .ok (.ireturn, 1) := dk_172 (dk_at dksL_law_27 14 rfl rfl)
theorem dL_law_705 : decode cL_law 705 = .ok (.goto 432, 3) := dk_167 1 176 (dk_at dksL_law_27 15 rfl rfl)
theorem dL_law_708 : decode cL_law 708 = .ok (.aload_n 1, 1) := dk_43 (dk_at dksL_law_27 18 rfl rfl)
theorem dL_law_709 : decode cL_law 709 = .ok (.aload_n 0, 1) := dk_42 (dk_at dksL_law_27 19 rfl rfl)
theorem dL_law_710 : decode cL_law 710 = .ok (.iload 4, 2) := dk_21 4 (dk_at dksL_law_27 20 rfl rfl)
theorem dL_law_712 : decode cL_law 712 = .ok (.iconst 1, 1) := dk_4 (dk_at dksL_law_27 22 rfl rfl)
theorem dL_law_713 : decode cL_law 713 = .ok (.iadd, 1) := dk_96 (dk_at dksL_law_27 23 rfl rfl)
theorem dL_law_714 : decode cL_law 714 = .ok (.iaload, 1) := dk_46 (dk_at dksL_law_28 0 rfl rfl)
theorem dL_law_715 : decode cL_law 715 = .ok (.aload_n 3, 1) := dk_45 (dk_at dksL_law_28 1 rfl rfl)
theorem dL_law_716 : decode cL_law 716 = .ok (.invokestatic 111, 3) := dk_184 0 111 (dk_at dksL_law_28 2 rfl rfl)
theorem dL_law_719 : decode cL_law 719 = .ok (.istore 5, 2) := dk_54 5 (dk_at dksL_law_28 5 rfl rfl)
theorem dL_law_721 : decode cL_law 721 = .ok (.aload_n 2, 1) := dk_44 (dk_at dksL_law_28 7 rfl rfl)
theorem dL_law_722 : decode cL_law 722 = .ok (.aload_n 0, 1) := dk_42 (dk_at dksL_law_28 8 rfl rfl)
theorem dL_law_723 : decode cL_law 723 = .ok (.iload 4, 2) := dk_21 4 (dk_at dksL_law_28 9 rfl rfl)
theorem dL_law_725 : decode cL_law 725 = .ok (.iconst 1, 1) := dk_4 (dk_at dksL_law_28 11 rfl rfl)
theorem dL_law_726 : decode cL_law 726 = .ok (.iadd, 1) := dk_96 (dk_at dksL_law_28 12 rfl rfl)
theorem dL_law_727 : decode cL_law 727 = .ok (.iaload, 1) := dk_46 (dk_at dksL_law_28 13 rfl rfl)
theorem dL_law_728 : decode cL_law 728 = .ok (.invokevirtual 113, 3) := dk_182 0 113 (dk_at dksL_law_28 14 rfl rfl)
theorem dL_law_731 : decode cL_law 731 = .ok (.istore 6, 2) := dk_54 6 (dk_at dksL_law_28 17 rfl rfl)
theorem dL_law_733 : decode cL_law 733 = .ok (.aload_n 2, 1) := dk_44 (dk_at dksL_law_28 19 rfl rfl)
theorem dL_law_734 : decode cL_law 734 = .ok (.invokevirtual 75, 3) := dk_182 0 75 (dk_at dksL_law_28 20 rfl rfl)
theorem dL_law_737 : decode cL_law 737 = .ok (.iload 5, 2) := dk_21 5 (dk_at dksL_law_29 0 rfl rfl)
theorem dL_law_739 : decode cL_law 739 = .ok (.if_icmp .eq 5, 3) := dk_159 0 5 (dk_at dksL_law_29 2 rfl rfl)
theorem dL_law_742 : decode cL_law 742 = .ok (.iconst 0, 1) := dk_3 (dk_at dksL_law_29 5 rfl rfl)
theorem dL_law_743 : decode cL_law 743 = .ok (.ireturn, 1) := dk_172 (dk_at dksL_law_29 6 rfl rfl)
theorem dL_law_744 : decode cL_law 744 = .ok (.iload 5, 2) := dk_21 5 (dk_at dksL_law_29 7 rfl rfl)
theorem dL_law_746 : decode cL_law 746 = .ok (.ifCond .ne 15, 3) := dk_154 0 15 (dk_at dksL_law_29 9 rfl rfl)
theorem dL_law_749 : decode cL_law 749 = .ok (.aload_n 3, 1) := dk_45 (dk_at dksL_law_29 12 rfl rfl)
theorem dL_law_750 : decode cL_law 750 = .ok (.iconst 0, 1) := dk_3 (dk_at dksL_law_29 13 rfl rfl)
theorem dL_law_751 : decode cL_law 751 = .ok (.laload, 1) := dk_47 (dk_at dksL_law_29 14 rfl rfl)
theorem dL_law_752 : decode cL_law 752 = .ok (.iload 6, 2) := dk_21 6 (dk_at dksL_law_29 15 rfl rfl)
theorem dL_law_754 : decode cL_law 754 = .ok (.i2l, 1) := dk_133 (dk_at dksL_law_29 17 rfl rfl)
theorem dL_law_755 : decode cL_law 755 = .ok (.lcmp, 1) := dk_148 (dk_at dksL_law_29 18 rfl rfl)
theorem dL_law_756 : decode cL_law 756 = .ok (.ifCond .eq 5, 3) := dk_153 0 5 (dk_at dksL_law_29 19 rfl rfl)
theorem dL_law_759 : decode cL_law 759 = .ok (.iconst 0, 1) := dk_3 (dk_at dksL_law_29 22 rfl rfl)
theorem dL_law_760 : decode cL_law 760 = .ok (.ireturn, 1) := dk_172 (dk_at dksL_law_29 23 rfl rfl)
theorem dL_law_761 : decode cL_law 761 = .ok (.goto 376, 3) := dk_167 1 120 (dk_at dksL_law_30 0 rfl rfl)
theorem dL_law_764 : decode cL_law 764 = .ok (.aload_n 1, 1) := dk_43 (dk_at dksL_law_30 3 rfl rfl)
theorem dL_law_765 : decode cL_law 765 = .ok (.aload_n 0, 1) := dk_42 (dk_at dksL_law_30 4 rfl rfl)
theorem dL_law_766 : decode cL_law 766 = .ok (.iload 4, 2) := dk_21 4 (dk_at dksL_law_30 5 rfl rfl)
theorem dL_law_768 : decode cL_law 768 = .ok (.iconst 1, 1) := dk_4 (dk_at dksL_law_30 7 rfl rfl)
theorem dL_law_769 : decode cL_law 769 = .ok (.iadd, 1) := dk_96 (dk_at dksL_law_30 8 rfl rfl)
theorem dL_law_770 : decode cL_law 770 = .ok (.iaload, 1) := dk_46 (dk_at dksL_law_30 9 rfl rfl)
theorem dL_law_771 : decode cL_law 771 = .ok (.aload_n 3, 1) := dk_45 (dk_at dksL_law_30 10 rfl rfl)
theorem dL_law_772 : decode cL_law 772 = .ok (.invokestatic 114, 3) := dk_184 0 114 (dk_at dksL_law_30 11 rfl rfl)
theorem dL_law_775 : decode cL_law 775 = .ok (.istore 5, 2) := dk_54 5 (dk_at dksL_law_30 14 rfl rfl)
theorem dL_law_777 : decode cL_law 777 = .ok (.aload_n 2, 1) := dk_44 (dk_at dksL_law_30 16 rfl rfl)
theorem dL_law_778 : decode cL_law 778 = .ok (.aload_n 0, 1) := dk_42 (dk_at dksL_law_30 17 rfl rfl)
theorem dL_law_779 : decode cL_law 779 = .ok (.iload 4, 2) := dk_21 4 (dk_at dksL_law_30 18 rfl rfl)
theorem dL_law_781 : decode cL_law 781 = .ok (.iconst 1, 1) := dk_4 (dk_at dksL_law_30 20 rfl rfl)
theorem dL_law_782 : decode cL_law 782 = .ok (.iadd, 1) := dk_96 (dk_at dksL_law_30 21 rfl rfl)
theorem dL_law_783 : decode cL_law 783 = .ok (.iaload, 1) := dk_46 (dk_at dksL_law_30 22 rfl rfl)
theorem dL_law_784 : decode cL_law 784 = .ok (.invokevirtual 116, 3) := dk_182 0 116 (dk_at dksL_law_31 0 rfl rfl)
theorem dL_law_787 : decode cL_law 787 = .ok (.istore 6, 2) := dk_54 6 (dk_at dksL_law_31 3 rfl rfl)
theorem dL_law_789 : decode cL_law 789 = .ok (.aload_n 2, 1) := dk_44 (dk_at dksL_law_31 5 rfl rfl)
theorem dL_law_790 : decode cL_law 790 = .ok (.invokevirtual 75, 3) := dk_182 0 75 (dk_at dksL_law_31 6 rfl rfl)
theorem dL_law_793 : decode cL_law 793 = .ok (.iload 5, 2) := dk_21 5 (dk_at dksL_law_31 9 rfl rfl)
theorem dL_law_795 : decode cL_law 795 = .ok (.if_icmp .eq 5, 3) := dk_159 0 5 (dk_at dksL_law_31 11 rfl rfl)
theorem dL_law_798 : decode cL_law 798 = .ok (.iconst 0, 1) := dk_3 (dk_at dksL_law_31 14 rfl rfl)
theorem dL_law_799 : decode cL_law 799 = .ok (.ireturn, 1) := dk_172 (dk_at dksL_law_31 15 rfl rfl)
theorem dL_law_800 : decode cL_law 800 = .ok (.iload 5, 2) := dk_21 5 (dk_at dksL_law_31 16 rfl rfl)
theorem dL_law_802 : decode cL_law 802 = .ok (.ifCond .ne 15, 3) := dk_154 0 15 (dk_at dksL_law_31 18 rfl rfl)
theorem dL_law_805 : decode cL_law 805 = .ok (.aload_n 3, 1) := dk_45 (dk_at dksL_law_31 21 rfl rfl)
theorem dL_law_806 : decode cL_law 806 = .ok (.iconst 0, 1) := dk_3 (dk_at dksL_law_31 22 rfl rfl)
theorem dL_law_807 : decode cL_law 807 = .ok (.laload, 1) := dk_47 (dk_at dksL_law_31 23 rfl rfl)
theorem dL_law_808 : decode cL_law 808 = .ok (.iload 6, 2) := dk_21 6 (dk_at dksL_law_32 0 rfl rfl)
theorem dL_law_810 : decode cL_law 810 = .ok (.i2l, 1) := dk_133 (dk_at dksL_law_32 2 rfl rfl)
theorem dL_law_811 : decode cL_law 811 = .ok (.lcmp, 1) := dk_148 (dk_at dksL_law_32 3 rfl rfl)
theorem dL_law_812 : decode cL_law 812 = .ok (.ifCond .eq 5, 3) := dk_153 0 5 (dk_at dksL_law_32 4 rfl rfl)
theorem dL_law_815 : decode cL_law 815 = .ok (.iconst 0, 1) := dk_3 (dk_at dksL_law_32 7 rfl rfl)
theorem dL_law_816 : decode cL_law 816 = .ok (.ireturn, 1) := dk_172 (dk_at dksL_law_32 8 rfl rfl)
theorem dL_law_817 : decode cL_law 817 = .ok (.goto 320, 3) := dk_167 1 64 (dk_at dksL_law_32 9 rfl rfl)
theorem dL_law_820 : decode cL_law 820 = .ok (.aload_n 1, 1) := dk_43 (dk_at dksL_law_32 12 rfl rfl)
theorem dL_law_821 : decode cL_law 821 = .ok (.aload_n 0, 1) := dk_42 (dk_at dksL_law_32 13 rfl rfl)
theorem dL_law_822 : decode cL_law 822 = .ok (.iload 4, 2) := dk_21 4 (dk_at dksL_law_32 14 rfl rfl)
theorem dL_law_824 : decode cL_law 824 = .ok (.iconst 1, 1) := dk_4 (dk_at dksL_law_32 16 rfl rfl)
theorem dL_law_825 : decode cL_law 825 = .ok (.iadd, 1) := dk_96 (dk_at dksL_law_32 17 rfl rfl)
theorem dL_law_826 : decode cL_law 826 = .ok (.iaload, 1) := dk_46 (dk_at dksL_law_32 18 rfl rfl)
theorem dL_law_827 : decode cL_law 827 = .ok (.aload_n 3, 1) := dk_45 (dk_at dksL_law_32 19 rfl rfl)
theorem dL_law_828 : decode cL_law 828 = .ok (.invokestatic 117, 3) := dk_184 0 117 (dk_at dksL_law_32 20 rfl rfl)
theorem dL_law_831 : decode cL_law 831 = .ok (.istore 5, 2) := dk_54 5 (dk_at dksL_law_33 0 rfl rfl)
theorem dL_law_833 : decode cL_law 833 = .ok (.aload_n 2, 1) := dk_44 (dk_at dksL_law_33 2 rfl rfl)
theorem dL_law_834 : decode cL_law 834 = .ok (.aload_n 0, 1) := dk_42 (dk_at dksL_law_33 3 rfl rfl)
theorem dL_law_835 : decode cL_law 835 = .ok (.iload 4, 2) := dk_21 4 (dk_at dksL_law_33 4 rfl rfl)
theorem dL_law_837 : decode cL_law 837 = .ok (.iconst 1, 1) := dk_4 (dk_at dksL_law_33 6 rfl rfl)
theorem dL_law_838 : decode cL_law 838 = .ok (.iadd, 1) := dk_96 (dk_at dksL_law_33 7 rfl rfl)
theorem dL_law_839 : decode cL_law 839 = .ok (.iaload, 1) := dk_46 (dk_at dksL_law_33 8 rfl rfl)
theorem dL_law_840 : decode cL_law 840 = .ok (.invokevirtual 119, 3) := dk_182 0 119 (dk_at dksL_law_33 9 rfl rfl)
theorem dL_law_843 : decode cL_law 843 = .ok (.istore 6, 2) := dk_54 6 (dk_at dksL_law_33 12 rfl rfl)
theorem dL_law_845 : decode cL_law 845 = .ok (.aload_n 2, 1) := dk_44 (dk_at dksL_law_33 14 rfl rfl)
theorem dL_law_846 : decode cL_law 846 = .ok (.invokevirtual 75, 3) := dk_182 0 75 (dk_at dksL_law_33 15 rfl rfl)
theorem dL_law_849 : decode cL_law 849 = .ok (.iload 5, 2) := dk_21 5 (dk_at dksL_law_33 18 rfl rfl)
theorem dL_law_851 : decode cL_law 851 = .ok (.if_icmp .eq 5, 3) := dk_159 0 5 (dk_at dksL_law_33 20 rfl rfl)
theorem dL_law_854 : decode cL_law 854 = .ok (.iconst 0, 1) := dk_3 (dk_at dksL_law_33 23 rfl rfl)
theorem dL_law_855 : decode cL_law 855 = .ok (.ireturn, 1) := dk_172 (dk_at dksL_law_34 0 rfl rfl)
theorem dL_law_856 : decode cL_law 856 = .ok (.iload 5, 2) := dk_21 5 (dk_at dksL_law_34 1 rfl rfl)
theorem dL_law_858 : decode cL_law 858 = .ok (.ifCond .ne 15, 3) := dk_154 0 15 (dk_at dksL_law_34 3 rfl rfl)
theorem dL_law_861 : decode cL_law 861 = .ok (.aload_n 3, 1) := dk_45 (dk_at dksL_law_34 6 rfl rfl)
theorem dL_law_862 : decode cL_law 862 = .ok (.iconst 0, 1) := dk_3 (dk_at dksL_law_34 7 rfl rfl)
theorem dL_law_863 : decode cL_law 863 = .ok (.laload, 1) := dk_47 (dk_at dksL_law_34 8 rfl rfl)
theorem dL_law_864 : decode cL_law 864 = .ok (.iload 6, 2) := dk_21 6 (dk_at dksL_law_34 9 rfl rfl)
theorem dL_law_866 : decode cL_law 866 = .ok (.i2l, 1) := dk_133 (dk_at dksL_law_34 11 rfl rfl)
theorem dL_law_867 : decode cL_law 867 = .ok (.lcmp, 1) := dk_148 (dk_at dksL_law_34 12 rfl rfl)
theorem dL_law_868 : decode cL_law 868 = .ok (.ifCond .eq 5, 3) := dk_153 0 5 (dk_at dksL_law_34 13 rfl rfl)
theorem dL_law_871 : decode cL_law 871 = .ok (.iconst 0, 1) := dk_3 (dk_at dksL_law_34 16 rfl rfl)
theorem dL_law_872 : decode cL_law 872 = .ok (.ireturn, 1) := dk_172 (dk_at dksL_law_34 17 rfl rfl)
theorem dL_law_873 : decode cL_law 873 = .ok (.goto 264, 3) := dk_167 1 8 (dk_at dksL_law_34 18 rfl rfl)
theorem dL_law_876 : decode cL_law 876 = .ok (.aload_n 1, 1) := dk_43 (dk_at dksL_law_34 21 rfl rfl)
theorem dL_law_877 : decode cL_law 877 = .ok (.invokevirtual 120, 3) := dk_182 0 120 (dk_at dksL_law_35 0 rfl rfl)
theorem dL_law_880 : decode cL_law 880 = .ok (.aload_n 2, 1) := dk_44 (dk_at dksL_law_35 3 rfl rfl)
theorem dL_law_881 : decode cL_law 881 = .ok (.invokevirtual 123, 3) := dk_182 0 123 (dk_at dksL_law_35 4 rfl rfl)
theorem dL_law_884 : decode cL_law 884 = .ok (.if_icmp .eq 253, 3) := dk_159 0 253 (dk_at dksL_law_35 7 rfl rfl)
theorem dL_law_887 : decode cL_law 887 = .ok (.iconst 0, 1) := dk_3 (dk_at dksL_law_35 10 rfl rfl)
theorem dL_law_888 : decode cL_law 888 = .ok (.ireturn, 1) := dk_172 (dk_at dksL_law_35 11 rfl rfl)
theorem dL_law_889 : decode cL_law 889 = .ok (.aload_n 1, 1) := dk_43 (dk_at dksL_law_35 12 rfl rfl)
theorem dL_law_890 : decode cL_law 890 = .ok (.aload_n 0, 1) := dk_42 (dk_at dksL_law_35 13 rfl rfl)
theorem dL_law_891 : decode cL_law 891 = .ok (.iload 4, 2) := dk_21 4 (dk_at dksL_law_35 14 rfl rfl)
theorem dL_law_893 : decode cL_law 893 = .ok (.iconst 1, 1) := dk_4 (dk_at dksL_law_35 16 rfl rfl)
theorem dL_law_894 : decode cL_law 894 = .ok (.iadd, 1) := dk_96 (dk_at dksL_law_35 17 rfl rfl)
theorem dL_law_895 : decode cL_law 895 = .ok (.iaload, 1) := dk_46 (dk_at dksL_law_35 18 rfl rfl)
theorem dL_law_896 : decode cL_law 896 = .ok (.aload_n 0, 1) := dk_42 (dk_at dksL_law_35 19 rfl rfl)
theorem dL_law_897 : decode cL_law 897 = .ok (.iload 4, 2) := dk_21 4 (dk_at dksL_law_35 20 rfl rfl)
theorem dL_law_899 : decode cL_law 899 = .ok (.iconst 2, 1) := dk_5 (dk_at dksL_law_35 22 rfl rfl)
theorem dL_law_900 : decode cL_law 900 = .ok (.iadd, 1) := dk_96 (dk_at dksL_law_35 23 rfl rfl)
theorem dL_law_901 : decode cL_law 901 = .ok (.iaload, 1) := dk_46 (dk_at dksL_law_36 0 rfl rfl)
theorem dL_law_902 : decode cL_law 902 = .ok (.aload_n 3, 1) := dk_45 (dk_at dksL_law_36 1 rfl rfl)
theorem dL_law_903 : decode cL_law 903 = .ok (.invokestatic 124, 3) := dk_184 0 124 (dk_at dksL_law_36 2 rfl rfl)
theorem dL_law_906 : decode cL_law 906 = .ok (.istore 5, 2) := dk_54 5 (dk_at dksL_law_36 5 rfl rfl)
theorem dL_law_908 : decode cL_law 908 = .ok (.aload_n 2, 1) := dk_44 (dk_at dksL_law_36 7 rfl rfl)
theorem dL_law_909 : decode cL_law 909 = .ok (.aload_n 0, 1) := dk_42 (dk_at dksL_law_36 8 rfl rfl)
theorem dL_law_910 : decode cL_law 910 = .ok (.iload 4, 2) := dk_21 4 (dk_at dksL_law_36 9 rfl rfl)
theorem dL_law_912 : decode cL_law 912 = .ok (.iconst 1, 1) := dk_4 (dk_at dksL_law_36 11 rfl rfl)
theorem dL_law_913 : decode cL_law 913 = .ok (.iadd, 1) := dk_96 (dk_at dksL_law_36 12 rfl rfl)
theorem dL_law_914 : decode cL_law 914 = .ok (.iaload, 1) := dk_46 (dk_at dksL_law_36 13 rfl rfl)
theorem dL_law_915 : decode cL_law 915 = .ok (.aload_n 0, 1) := dk_42 (dk_at dksL_law_36 14 rfl rfl)
theorem dL_law_916 : decode cL_law 916 = .ok (.iload 4, 2) := dk_21 4 (dk_at dksL_law_36 15 rfl rfl)
theorem dL_law_918 : decode cL_law 918 = .ok (.iconst 2, 1) := dk_5 (dk_at dksL_law_36 17 rfl rfl)
theorem dL_law_919 : decode cL_law 919 = .ok (.iadd, 1) := dk_96 (dk_at dksL_law_36 18 rfl rfl)
theorem dL_law_920 : decode cL_law 920 = .ok (.iaload, 1) := dk_46 (dk_at dksL_law_36 19 rfl rfl)
theorem dL_law_921 : decode cL_law 921 = .ok (.invokevirtual 126, 3) := dk_182 0 126 (dk_at dksL_law_36 20 rfl rfl)
theorem dL_law_924 : decode cL_law 924 = .ok (.istore 6, 2) := dk_54 6 (dk_at dksL_law_37 0 rfl rfl)
theorem dL_law_926 : decode cL_law 926 = .ok (.aload_n 2, 1) := dk_44 (dk_at dksL_law_37 2 rfl rfl)
theorem dL_law_927 : decode cL_law 927 = .ok (.invokevirtual 75, 3) := dk_182 0 75 (dk_at dksL_law_37 3 rfl rfl)
theorem dL_law_930 : decode cL_law 930 = .ok (.iload 5, 2) := dk_21 5 (dk_at dksL_law_37 6 rfl rfl)
theorem dL_law_932 : decode cL_law 932 = .ok (.if_icmp .eq 5, 3) := dk_159 0 5 (dk_at dksL_law_37 8 rfl rfl)
theorem dL_law_935 : decode cL_law 935 = .ok (.iconst 0, 1) := dk_3 (dk_at dksL_law_37 11 rfl rfl)
theorem dL_law_936 : decode cL_law 936 = .ok (.ireturn, 1) := dk_172 (dk_at dksL_law_37 12 rfl rfl)
theorem dL_law_937 : decode cL_law 937 = .ok (.iload 5, 2) := dk_21 5 (dk_at dksL_law_37 13 rfl rfl)
theorem dL_law_939 : decode cL_law 939 = .ok (.ifCond .ne 15, 3) := dk_154 0 15 (dk_at dksL_law_37 15 rfl rfl)
theorem dL_law_942 : decode cL_law 942 = .ok (.aload_n 3, 1) := dk_45 (dk_at dksL_law_37 18 rfl rfl)
theorem dL_law_943 : decode cL_law 943 = .ok (.iconst 0, 1) := dk_3 (dk_at dksL_law_37 19 rfl rfl)
theorem dL_law_944 : decode cL_law 944 = .ok (.laload, 1) := dk_47 (dk_at dksL_law_37 20 rfl rfl)
theorem dL_law_945 : decode cL_law 945 = .ok (.iload 6, 2) := dk_21 6 (dk_at dksL_law_37 21 rfl rfl)
theorem dL_law_947 : decode cL_law 947 = .ok (.i2l, 1) := dk_133 (dk_at dksL_law_37 23 rfl rfl)
theorem dL_law_948 : decode cL_law 948 = .ok (.lcmp, 1) := dk_148 (dk_at dksL_law_38 0 rfl rfl)
theorem dL_law_949 : decode cL_law 949 = .ok (.ifCond .eq 5, 3) := dk_153 0 5 (dk_at dksL_law_38 1 rfl rfl)
theorem dL_law_952 : decode cL_law 952 = .ok (.iconst 0, 1) := dk_3 (dk_at dksL_law_38 4 rfl rfl)
theorem dL_law_953 : decode cL_law 953 = .ok (.ireturn, 1) := dk_172 (dk_at dksL_law_38 5 rfl rfl)
theorem dL_law_954 : decode cL_law 954 = .ok (.goto 183, 3) := dk_167 0 183 (dk_at dksL_law_38 6 rfl rfl)
theorem dL_law_957 : decode cL_law 957 = .ok (.aload_n 1, 1) := dk_43 (dk_at dksL_law_38 9 rfl rfl)
theorem dL_law_958 : decode cL_law 958 = .ok (.aload_n 0, 1) := dk_42 (dk_at dksL_law_38 10 rfl rfl)
theorem dL_law_959 : decode cL_law 959 = .ok (.iload 4, 2) := dk_21 4 (dk_at dksL_law_38 11 rfl rfl)
theorem dL_law_961 : decode cL_law 961 = .ok (.iconst 1, 1) := dk_4 (dk_at dksL_law_38 13 rfl rfl)
theorem dL_law_962 : decode cL_law 962 = .ok (.iadd, 1) := dk_96 (dk_at dksL_law_38 14 rfl rfl)
theorem dL_law_963 : decode cL_law 963 = .ok (.iaload, 1) := dk_46 (dk_at dksL_law_38 15 rfl rfl)
theorem dL_law_964 : decode cL_law 964 = .ok (.aload_n 0, 1) := dk_42 (dk_at dksL_law_38 16 rfl rfl)
theorem dL_law_965 : decode cL_law 965 = .ok (.iload 4, 2) := dk_21 4 (dk_at dksL_law_38 17 rfl rfl)
theorem dL_law_967 : decode cL_law 967 = .ok (.iconst 2, 1) := dk_5 (dk_at dksL_law_38 19 rfl rfl)
theorem dL_law_968 : decode cL_law 968 = .ok (.iadd, 1) := dk_96 (dk_at dksL_law_38 20 rfl rfl)
theorem dL_law_969 : decode cL_law 969 = .ok (.iaload, 1) := dk_46 (dk_at dksL_law_38 21 rfl rfl)
theorem dL_law_970 : decode cL_law 970 = .ok (.aload_n 3, 1) := dk_45 (dk_at dksL_law_38 22 rfl rfl)
theorem dL_law_971 : decode cL_law 971 = .ok (.invokestatic 127, 3) := dk_184 0 127 (dk_at dksL_law_39 0 rfl rfl)
theorem dL_law_974 : decode cL_law 974 = .ok (.istore 5, 2) := dk_54 5 (dk_at dksL_law_39 3 rfl rfl)
theorem dL_law_976 : decode cL_law 976 = .ok (.aload_n 2, 1) := dk_44 (dk_at dksL_law_39 5 rfl rfl)
theorem dL_law_977 : decode cL_law 977 = .ok (.aload_n 0, 1) := dk_42 (dk_at dksL_law_39 6 rfl rfl)
theorem dL_law_978 : decode cL_law 978 = .ok (.iload 4, 2) := dk_21 4 (dk_at dksL_law_39 7 rfl rfl)
theorem dL_law_980 : decode cL_law 980 = .ok (.iconst 1, 1) := dk_4 (dk_at dksL_law_39 9 rfl rfl)
theorem dL_law_981 : decode cL_law 981 = .ok (.iadd, 1) := dk_96 (dk_at dksL_law_39 10 rfl rfl)
theorem dL_law_982 : decode cL_law 982 = .ok (.iaload, 1) := dk_46 (dk_at dksL_law_39 11 rfl rfl)
theorem dL_law_983 : decode cL_law 983 = .ok (.aload_n 0, 1) := dk_42 (dk_at dksL_law_39 12 rfl rfl)
theorem dL_law_984 : decode cL_law 984 = .ok (.iload 4, 2) := dk_21 4 (dk_at dksL_law_39 13 rfl rfl)
theorem dL_law_986 : decode cL_law 986 = .ok (.iconst 2, 1) := dk_5 (dk_at dksL_law_39 15 rfl rfl)
theorem dL_law_987 : decode cL_law 987 = .ok (.iadd, 1) := dk_96 (dk_at dksL_law_39 16 rfl rfl)
theorem dL_law_988 : decode cL_law 988 = .ok (.iaload, 1) := dk_46 (dk_at dksL_law_39 17 rfl rfl)
theorem dL_law_989 : decode cL_law 989 = .ok (.invokevirtual 129, 3) := dk_182 0 129 (dk_at dksL_law_39 18 rfl rfl)
theorem dL_law_992 : decode cL_law 992 = .ok (.istore 6, 2) := dk_54 6 (dk_at dksL_law_39 21 rfl rfl)
theorem dL_law_994 : decode cL_law 994 = .ok (.aload_n 2, 1) := dk_44 (dk_at dksL_law_39 23 rfl rfl)
theorem dL_law_995 : decode cL_law 995 = .ok (.invokevirtual 75, 3) := dk_182 0 75 (dk_at dksL_law_40 0 rfl rfl)
theorem dL_law_998 : decode cL_law 998 = .ok (.iload 5, 2) := dk_21 5 (dk_at dksL_law_40 3 rfl rfl)
theorem dL_law_1000 : decode cL_law 1000 = .ok (.if_icmp .eq 5, 3) := dk_159 0 5 (dk_at dksL_law_40 5 rfl rfl)
theorem dL_law_1003 : decode cL_law 1003 = .ok (.iconst 0, 1) := dk_3 (dk_at dksL_law_40 8 rfl rfl)
theorem dL_law_1004 : decode cL_law 1004 = .ok (.ireturn, 1) := dk_172 (dk_at dksL_law_40 9 rfl rfl)
theorem dL_law_1005 : decode cL_law 1005 = .ok (.iload 5, 2) := dk_21 5 (dk_at dksL_law_40 10 rfl rfl)
theorem dL_law_1007 : decode cL_law 1007 = .ok (.ifCond .ne 15, 3) := dk_154 0 15 (dk_at dksL_law_40 12 rfl rfl)
theorem dL_law_1010 : decode cL_law 1010 = .ok (.aload_n 3, 1) := dk_45 (dk_at dksL_law_40 15 rfl rfl)
theorem dL_law_1011 : decode cL_law 1011 = .ok (.iconst 0, 1) := dk_3 (dk_at dksL_law_40 16 rfl rfl)
theorem dL_law_1012 : decode cL_law 1012 = .ok (.laload, 1) := dk_47 (dk_at dksL_law_40 17 rfl rfl)
theorem dL_law_1013 : decode cL_law 1013 = .ok (.iload 6, 2) := dk_21 6 (dk_at dksL_law_40 18 rfl rfl)
theorem dL_law_1015 : decode cL_law 1015 = .ok (.i2l, 1) := dk_133 (dk_at dksL_law_40 20 rfl rfl)
theorem dL_law_1016 : decode cL_law 1016 = .ok (.lcmp, 1) := dk_148 (dk_at dksL_law_40 21 rfl rfl)
theorem dL_law_1017 : decode cL_law 1017 = .ok (.ifCond .eq 5, 3) := dk_153 0 5 (dk_at dksL_law_41 0 rfl rfl)
theorem dL_law_1020 : decode cL_law 1020 = .ok (.iconst 0, 1) := dk_3 (dk_at dksL_law_41 3 rfl rfl)
theorem dL_law_1021 : decode cL_law 1021 = .ok (.ireturn, 1) := dk_172 (dk_at dksL_law_41 4 rfl rfl)
theorem dL_law_1022 : decode cL_law 1022 = .ok (.goto 115, 3) := dk_167 0 115 (dk_at dksL_law_41 5 rfl rfl)
theorem dL_law_1025 : decode cL_law 1025 = .ok (.aload_n 1, 1) := dk_43 (dk_at dksL_law_41 8 rfl rfl)
theorem dL_law_1026 : decode cL_law 1026 = .ok (.aload_n 0, 1) := dk_42 (dk_at dksL_law_41 9 rfl rfl)
theorem dL_law_1027 : decode cL_law 1027 = .ok (.iload 4, 2) := dk_21 4 (dk_at dksL_law_41 10 rfl rfl)
theorem dL_law_1029 : decode cL_law 1029 = .ok (.iconst 1, 1) := dk_4 (dk_at dksL_law_41 12 rfl rfl)
theorem dL_law_1030 : decode cL_law 1030 = .ok (.iadd, 1) := dk_96 (dk_at dksL_law_41 13 rfl rfl)
theorem dL_law_1031 : decode cL_law 1031 = .ok (.iaload, 1) := dk_46 (dk_at dksL_law_41 14 rfl rfl)
theorem dL_law_1032 : decode cL_law 1032 = .ok (.aload_n 3, 1) := dk_45 (dk_at dksL_law_41 15 rfl rfl)
theorem dL_law_1033 : decode cL_law 1033 = .ok (.invokestatic 130, 3) := dk_184 0 130 (dk_at dksL_law_41 16 rfl rfl)
theorem dL_law_1036 : decode cL_law 1036 = .ok (.istore 5, 2) := dk_54 5 (dk_at dksL_law_41 19 rfl rfl)
theorem dL_law_1038 : decode cL_law 1038 = .ok (.aload_n 2, 1) := dk_44 (dk_at dksL_law_41 21 rfl rfl)
theorem dL_law_1039 : decode cL_law 1039 = .ok (.aload_n 0, 1) := dk_42 (dk_at dksL_law_41 22 rfl rfl)
theorem dL_law_1040 : decode cL_law 1040 = .ok (.iload 4, 2) := dk_21 4 (dk_at dksL_law_42 0 rfl rfl)
theorem dL_law_1042 : decode cL_law 1042 = .ok (.iconst 1, 1) := dk_4 (dk_at dksL_law_42 2 rfl rfl)
theorem dL_law_1043 : decode cL_law 1043 = .ok (.iadd, 1) := dk_96 (dk_at dksL_law_42 3 rfl rfl)
theorem dL_law_1044 : decode cL_law 1044 = .ok (.iaload, 1) := dk_46 (dk_at dksL_law_42 4 rfl rfl)
theorem dL_law_1045 : decode cL_law 1045 = .ok (.invokevirtual 132, 3) := dk_182 0 132 (dk_at dksL_law_42 5 rfl rfl)
theorem dL_law_1048 : decode cL_law 1048 = .ok (.istore 6, 2) := dk_54 6 (dk_at dksL_law_42 8 rfl rfl)
theorem dL_law_1050 : decode cL_law 1050 = .ok (.aload_n 2, 1) := dk_44 (dk_at dksL_law_42 10 rfl rfl)
theorem dL_law_1051 : decode cL_law 1051 = .ok (.invokevirtual 75, 3) := dk_182 0 75 (dk_at dksL_law_42 11 rfl rfl)
theorem dL_law_1054 : decode cL_law 1054 = .ok (.iload 5, 2) := dk_21 5 (dk_at dksL_law_42 14 rfl rfl)
theorem dL_law_1056 : decode cL_law 1056 = .ok (.if_icmp .eq 5, 3) := dk_159 0 5 (dk_at dksL_law_42 16 rfl rfl)
theorem dL_law_1059 : decode cL_law 1059 = .ok (.iconst 0, 1) := dk_3 (dk_at dksL_law_42 19 rfl rfl)
theorem dL_law_1060 : decode cL_law 1060 = .ok (.ireturn, 1) := dk_172 (dk_at dksL_law_42 20 rfl rfl)
theorem dL_law_1061 : decode cL_law 1061 = .ok (.iload 5, 2) := dk_21 5 (dk_at dksL_law_42 21 rfl rfl)
theorem dL_law_1063 : decode cL_law 1063 = .ok (.ifCond .ne 15, 3) := dk_154 0 15 (dk_at dksL_law_43 0 rfl rfl)
theorem dL_law_1066 : decode cL_law 1066 = .ok (.aload_n 3, 1) := dk_45 (dk_at dksL_law_43 3 rfl rfl)
theorem dL_law_1067 : decode cL_law 1067 = .ok (.iconst 0, 1) := dk_3 (dk_at dksL_law_43 4 rfl rfl)
theorem dL_law_1068 : decode cL_law 1068 = .ok (.laload, 1) := dk_47 (dk_at dksL_law_43 5 rfl rfl)
theorem dL_law_1069 : decode cL_law 1069 = .ok (.iload 6, 2) := dk_21 6 (dk_at dksL_law_43 6 rfl rfl)
theorem dL_law_1071 : decode cL_law 1071 = .ok (.i2l, 1) := dk_133 (dk_at dksL_law_43 8 rfl rfl)
theorem dL_law_1072 : decode cL_law 1072 = .ok (.lcmp, 1) := dk_148 (dk_at dksL_law_43 9 rfl rfl)
theorem dL_law_1073 : decode cL_law 1073 = .ok (.ifCond .eq 5, 3) := dk_153 0 5 (dk_at dksL_law_43 10 rfl rfl)
theorem dL_law_1076 : decode cL_law 1076 = .ok (.iconst 0, 1) := dk_3 (dk_at dksL_law_43 13 rfl rfl)
theorem dL_law_1077 : decode cL_law 1077 = .ok (.ireturn, 1) := dk_172 (dk_at dksL_law_43 14 rfl rfl)
theorem dL_law_1078 : decode cL_law 1078 = .ok (.goto 59, 3) := dk_167 0 59 (dk_at dksL_law_43 15 rfl rfl)
theorem dL_law_1081 : decode cL_law 1081 = .ok (.aload_n 1, 1) := dk_43 (dk_at dksL_law_43 18 rfl rfl)
theorem dL_law_1082 : decode cL_law 1082 = .ok (.aload_n 0, 1) := dk_42 (dk_at dksL_law_43 19 rfl rfl)
theorem dL_law_1083 : decode cL_law 1083 = .ok (.iload 4, 2) := dk_21 4 (dk_at dksL_law_43 20 rfl rfl)
theorem dL_law_1085 : decode cL_law 1085 = .ok (.iconst 1, 1) := dk_4 (dk_at dksL_law_43 22 rfl rfl)
theorem dL_law_1086 : decode cL_law 1086 = .ok (.iadd, 1) := dk_96 (dk_at dksL_law_43 23 rfl rfl)
theorem dL_law_1087 : decode cL_law 1087 = .ok (.iaload, 1) := dk_46 (dk_at dksL_law_44 0 rfl rfl)
theorem dL_law_1088 : decode cL_law 1088 = .ok (.aload_n 3, 1) := dk_45 (dk_at dksL_law_44 1 rfl rfl)
theorem dL_law_1089 : decode cL_law 1089 = .ok (.invokestatic 133, 3) := dk_184 0 133 (dk_at dksL_law_44 2 rfl rfl)
theorem dL_law_1092 : decode cL_law 1092 = .ok (.istore 5, 2) := dk_54 5 (dk_at dksL_law_44 5 rfl rfl)
theorem dL_law_1094 : decode cL_law 1094 = .ok (.aload_n 2, 1) := dk_44 (dk_at dksL_law_44 7 rfl rfl)
theorem dL_law_1095 : decode cL_law 1095 = .ok (.aload_n 0, 1) := dk_42 (dk_at dksL_law_44 8 rfl rfl)
theorem dL_law_1096 : decode cL_law 1096 = .ok (.iload 4, 2) := dk_21 4 (dk_at dksL_law_44 9 rfl rfl)
theorem dL_law_1098 : decode cL_law 1098 = .ok (.iconst 1, 1) := dk_4 (dk_at dksL_law_44 11 rfl rfl)
theorem dL_law_1099 : decode cL_law 1099 = .ok (.iadd, 1) := dk_96 (dk_at dksL_law_44 12 rfl rfl)
theorem dL_law_1100 : decode cL_law 1100 = .ok (.iaload, 1) := dk_46 (dk_at dksL_law_44 13 rfl rfl)
theorem dL_law_1101 : decode cL_law 1101 = .ok (.invokevirtual 135, 3) := dk_182 0 135 (dk_at dksL_law_44 14 rfl rfl)
theorem dL_law_1104 : decode cL_law 1104 = .ok (.istore 6, 2) := dk_54 6 (dk_at dksL_law_44 17 rfl rfl)
theorem dL_law_1106 : decode cL_law 1106 = .ok (.aload_n 2, 1) := dk_44 (dk_at dksL_law_44 19 rfl rfl)
theorem dL_law_1107 : decode cL_law 1107 = .ok (.invokevirtual 75, 3) := dk_182 0 75 (dk_at dksL_law_44 20 rfl rfl)
theorem dL_law_1110 : decode cL_law 1110 = .ok (.iload 5, 2) := dk_21 5 (dk_at dksL_law_45 0 rfl rfl)
theorem dL_law_1112 : decode cL_law 1112 = .ok (.if_icmp .eq 5, 3) := dk_159 0 5 (dk_at dksL_law_45 2 rfl rfl)
theorem dL_law_1115 : decode cL_law 1115 = .ok (.iconst 0, 1) := dk_3 (dk_at dksL_law_45 5 rfl rfl)
theorem dL_law_1116 : decode cL_law 1116 = .ok (.ireturn, 1) := dk_172 (dk_at dksL_law_45 6 rfl rfl)
theorem dL_law_1117 : decode cL_law 1117 = .ok (.iload 5, 2) := dk_21 5 (dk_at dksL_law_45 7 rfl rfl)
theorem dL_law_1119 : decode cL_law 1119 = .ok (.ifCond .ne 15, 3) := dk_154 0 15 (dk_at dksL_law_45 9 rfl rfl)
theorem dL_law_1122 : decode cL_law 1122 = .ok (.aload_n 3, 1) := dk_45 (dk_at dksL_law_45 12 rfl rfl)
theorem dL_law_1123 : decode cL_law 1123 = .ok (.iconst 0, 1) := dk_3 (dk_at dksL_law_45 13 rfl rfl)
theorem dL_law_1124 : decode cL_law 1124 = .ok (.laload, 1) := dk_47 (dk_at dksL_law_45 14 rfl rfl)
theorem dL_law_1125 : decode cL_law 1125 = .ok (.iload 6, 2) := dk_21 6 (dk_at dksL_law_45 15 rfl rfl)
theorem dL_law_1127 : decode cL_law 1127 = .ok (.i2l, 1) := dk_133 (dk_at dksL_law_45 17 rfl rfl)
theorem dL_law_1128 : decode cL_law 1128 = .ok (.lcmp, 1) := dk_148 (dk_at dksL_law_45 18 rfl rfl)
theorem dL_law_1129 : decode cL_law 1129 = .ok (.ifCond .eq 5, 3) := dk_153 0 5 (dk_at dksL_law_45 19 rfl rfl)
theorem dL_law_1132 : decode cL_law 1132 = .ok (.iconst 0, 1) := dk_3 (dk_at dksL_law_45 22 rfl rfl)
theorem dL_law_1133 : decode cL_law 1133 = .ok (.ireturn, 1) := dk_172 (dk_at dksL_law_45 23 rfl rfl)
theorem dL_law_1134 : decode cL_law 1134 = .ok (.goto 3, 3) := dk_167 0 3 (dk_at dksL_law_46 0 rfl rfl)
theorem dL_law_1137 : decode cL_law 1137 = .ok (.iinc 4 7, 3) := dk_132 4 7 (dk_at dksL_law_46 3 rfl rfl)
theorem dL_law_1140 : decode cL_law 1140 = .ok (.goto (-1117), 3) := dk_167 251 163 (dk_at dksL_law_46 6 rfl rfl)
theorem dL_law_1143 : decode cL_law 1143 = .ok (.iconst 1, 1) := dk_4 (dk_at dksL_law_46 9 rfl rfl)
theorem dL_law_1144 : decode cL_law 1144 = .ok (.ireturn, 1) := dk_172 (dk_at dksL_law_46 10 rfl rfl)

/-! TownPurseLaw -/
set_option maxRecDepth 100000
def RX0 : String := "TownPurseLaw"
abbrev cX0_addAccount : ByteArray := method_3_code
def yX0_addAccount : MethodName := ⟨RX0, "addAccount", "(LTownPurse;I[J)I"⟩
def dkwX0_addAccount_0 : List UInt8 := [44, 3, 42, 27, 182, 0, 7, 133, 80, 167, 0, 9, 78, 4, 172, 78, 5, 172, 3, 172]
abbrev dktX0_addAccount_0 : List UInt8 := dkwX0_addAccount_0 ++ []
theorem dksX0_addAccount_0 : cX0_addAccount.data.toList.drop 0 = dktX0_addAccount_0 := by decide +kernel
theorem dX0_addAccount_0 : decode cX0_addAccount 0 = .ok (.aload_n 2, 1) := dk_44 (dk_at dksX0_addAccount_0 0 rfl rfl)
theorem dX0_addAccount_1 : decode cX0_addAccount 1 = .ok (.iconst 0, 1) := dk_3 (dk_at dksX0_addAccount_0 1 rfl rfl)
theorem dX0_addAccount_2 : decode cX0_addAccount 2 = .ok (.aload_n 0, 1) := dk_42 (dk_at dksX0_addAccount_0 2 rfl rfl)
theorem dX0_addAccount_3 : decode cX0_addAccount 3 = .ok (.iload_n 1, 1) := dk_27 (dk_at dksX0_addAccount_0 3 rfl rfl)
theorem dX0_addAccount_4 : decode cX0_addAccount 4 = .ok (.invokevirtual 7, 3) := dk_182 0 7 (dk_at dksX0_addAccount_0 4 rfl rfl)
theorem dX0_addAccount_7 : decode cX0_addAccount 7 = .ok (.i2l, 1) := dk_133 (dk_at dksX0_addAccount_0 7 rfl rfl)
theorem dX0_addAccount_8 : decode cX0_addAccount 8 = .ok (.lastore, 1) := dk_80 (dk_at dksX0_addAccount_0 8 rfl rfl)
theorem dX0_addAccount_9 : decode cX0_addAccount 9 = .ok (.goto 9, 3) := dk_167 0 9 (dk_at dksX0_addAccount_0 9 rfl rfl)
theorem dX0_addAccount_12 : decode cX0_addAccount 12 = .ok (.astore_n 3, 1) := dk_78 (dk_at dksX0_addAccount_0 12 rfl rfl)
theorem dX0_addAccount_13 : decode cX0_addAccount 13 = .ok (.iconst 1, 1) := dk_4 (dk_at dksX0_addAccount_0 13 rfl rfl)
theorem dX0_addAccount_14 : decode cX0_addAccount 14 = .ok (.ireturn, 1) := dk_172 (dk_at dksX0_addAccount_0 14 rfl rfl)
theorem dX0_addAccount_15 : decode cX0_addAccount 15 = .ok (.astore_n 3, 1) := dk_78 (dk_at dksX0_addAccount_0 15 rfl rfl)
theorem dX0_addAccount_16 : decode cX0_addAccount 16 = .ok (.iconst 2, 1) := dk_5 (dk_at dksX0_addAccount_0 16 rfl rfl)
theorem dX0_addAccount_17 : decode cX0_addAccount 17 = .ok (.ireturn, 1) := dk_172 (dk_at dksX0_addAccount_0 17 rfl rfl)
theorem dX0_addAccount_18 : decode cX0_addAccount 18 = .ok (.iconst 0, 1) := dk_3 (dk_at dksX0_addAccount_0 18 rfl rfl)
theorem dX0_addAccount_19 : decode cX0_addAccount 19 = .ok (.ireturn, 1) := dk_172 (dk_at dksX0_addAccount_0 19 rfl rfl)
abbrev cX0_enter : ByteArray := method_4_code
def yX0_enter : MethodName := ⟨RX0, "enter", "(LTownPurse;IIII[J)I"⟩
def dkwX0_enter_1 : List UInt8 := [172, 58, 6, 6, 172, 3, 172]
abbrev dktX0_enter_1 : List UInt8 := dkwX0_enter_1 ++ []
def dkwX0_enter_0 : List UInt8 := [25, 5, 3, 42, 27, 28, 29, 21, 4, 182, 0, 17, 133, 80, 167, 0, 15, 58, 6, 4, 172, 58, 6, 5]
abbrev dktX0_enter_0 : List UInt8 := dkwX0_enter_0 ++ dktX0_enter_1
theorem dksX0_enter_0 : cX0_enter.data.toList.drop 0 = dktX0_enter_0 := by decide +kernel
theorem dksX0_enter_1 : cX0_enter.data.toList.drop 24 = dktX0_enter_1 := dk_seg dksX0_enter_0 24 rfl rfl
theorem dX0_enter_0 : decode cX0_enter 0 = .ok (.aload 5, 2) := dk_25 5 (dk_at dksX0_enter_0 0 rfl rfl)
theorem dX0_enter_2 : decode cX0_enter 2 = .ok (.iconst 0, 1) := dk_3 (dk_at dksX0_enter_0 2 rfl rfl)
theorem dX0_enter_3 : decode cX0_enter 3 = .ok (.aload_n 0, 1) := dk_42 (dk_at dksX0_enter_0 3 rfl rfl)
theorem dX0_enter_4 : decode cX0_enter 4 = .ok (.iload_n 1, 1) := dk_27 (dk_at dksX0_enter_0 4 rfl rfl)
theorem dX0_enter_5 : decode cX0_enter 5 = .ok (.iload_n 2, 1) := dk_28 (dk_at dksX0_enter_0 5 rfl rfl)
theorem dX0_enter_6 : decode cX0_enter 6 = .ok (.iload_n 3, 1) := dk_29 (dk_at dksX0_enter_0 6 rfl rfl)
theorem dX0_enter_7 : decode cX0_enter 7 = .ok (.iload 4, 2) := dk_21 4 (dk_at dksX0_enter_0 7 rfl rfl)
theorem dX0_enter_9 : decode cX0_enter 9 = .ok (.invokevirtual 17, 3) := dk_182 0 17 (dk_at dksX0_enter_0 9 rfl rfl)
theorem dX0_enter_12 : decode cX0_enter 12 = .ok (.i2l, 1) := dk_133 (dk_at dksX0_enter_0 12 rfl rfl)
theorem dX0_enter_13 : decode cX0_enter 13 = .ok (.lastore, 1) := dk_80 (dk_at dksX0_enter_0 13 rfl rfl)
theorem dX0_enter_14 : decode cX0_enter 14 = .ok (.goto 15, 3) := dk_167 0 15 (dk_at dksX0_enter_0 14 rfl rfl)
theorem dX0_enter_17 : decode cX0_enter 17 = .ok (.astore 6, 2) := dk_58 6 (dk_at dksX0_enter_0 17 rfl rfl)
theorem dX0_enter_19 : decode cX0_enter 19 = .ok (.iconst 1, 1) := dk_4 (dk_at dksX0_enter_0 19 rfl rfl)
theorem dX0_enter_20 : decode cX0_enter 20 = .ok (.ireturn, 1) := dk_172 (dk_at dksX0_enter_0 20 rfl rfl)
theorem dX0_enter_21 : decode cX0_enter 21 = .ok (.astore 6, 2) := dk_58 6 (dk_at dksX0_enter_0 21 rfl rfl)
theorem dX0_enter_23 : decode cX0_enter 23 = .ok (.iconst 2, 1) := dk_5 (dk_at dksX0_enter_0 23 rfl rfl)
theorem dX0_enter_24 : decode cX0_enter 24 = .ok (.ireturn, 1) := dk_172 (dk_at dksX0_enter_1 0 rfl rfl)
theorem dX0_enter_25 : decode cX0_enter 25 = .ok (.astore 6, 2) := dk_58 6 (dk_at dksX0_enter_1 1 rfl rfl)
theorem dX0_enter_27 : decode cX0_enter 27 = .ok (.iconst 3, 1) := dk_6 (dk_at dksX0_enter_1 3 rfl rfl)
theorem dX0_enter_28 : decode cX0_enter 28 = .ok (.ireturn, 1) := dk_172 (dk_at dksX0_enter_1 4 rfl rfl)
theorem dX0_enter_29 : decode cX0_enter 29 = .ok (.iconst 0, 1) := dk_3 (dk_at dksX0_enter_1 5 rfl rfl)
theorem dX0_enter_30 : decode cX0_enter 30 = .ok (.ireturn, 1) := dk_172 (dk_at dksX0_enter_1 6 rfl rfl)
abbrev cX0_close : ByteArray := method_5_code
def yX0_close : MethodName := ⟨RX0, "close", "(LTownPurse;[J)I"⟩
def dkwX0_close_0 : List UInt8 := [43, 3, 42, 182, 0, 23, 133, 80, 167, 0, 6, 77, 4, 172, 3, 172]
abbrev dktX0_close_0 : List UInt8 := dkwX0_close_0 ++ []
theorem dksX0_close_0 : cX0_close.data.toList.drop 0 = dktX0_close_0 := by decide +kernel
theorem dX0_close_0 : decode cX0_close 0 = .ok (.aload_n 1, 1) := dk_43 (dk_at dksX0_close_0 0 rfl rfl)
theorem dX0_close_1 : decode cX0_close 1 = .ok (.iconst 0, 1) := dk_3 (dk_at dksX0_close_0 1 rfl rfl)
theorem dX0_close_2 : decode cX0_close 2 = .ok (.aload_n 0, 1) := dk_42 (dk_at dksX0_close_0 2 rfl rfl)
theorem dX0_close_3 : decode cX0_close 3 = .ok (.invokevirtual 23, 3) := dk_182 0 23 (dk_at dksX0_close_0 3 rfl rfl)
theorem dX0_close_6 : decode cX0_close 6 = .ok (.i2l, 1) := dk_133 (dk_at dksX0_close_0 6 rfl rfl)
theorem dX0_close_7 : decode cX0_close 7 = .ok (.lastore, 1) := dk_80 (dk_at dksX0_close_0 7 rfl rfl)
theorem dX0_close_8 : decode cX0_close 8 = .ok (.goto 6, 3) := dk_167 0 6 (dk_at dksX0_close_0 8 rfl rfl)
theorem dX0_close_11 : decode cX0_close 11 = .ok (.astore_n 2, 1) := dk_77 (dk_at dksX0_close_0 11 rfl rfl)
theorem dX0_close_12 : decode cX0_close 12 = .ok (.iconst 1, 1) := dk_4 (dk_at dksX0_close_0 12 rfl rfl)
theorem dX0_close_13 : decode cX0_close 13 = .ok (.ireturn, 1) := dk_172 (dk_at dksX0_close_0 13 rfl rfl)
theorem dX0_close_14 : decode cX0_close 14 = .ok (.iconst 0, 1) := dk_3 (dk_at dksX0_close_0 14 rfl rfl)
theorem dX0_close_15 : decode cX0_close 15 = .ok (.ireturn, 1) := dk_172 (dk_at dksX0_close_0 15 rfl rfl)
abbrev cX0_periodOf : ByteArray := method_6_code
def yX0_periodOf : MethodName := ⟨RX0, "periodOf", "(LTownPurse;I[J)I"⟩
def dkwX0_periodOf_0 : List UInt8 := [44, 3, 42, 27, 182, 0, 27, 133, 80, 167, 0, 6, 78, 4, 172, 3, 172]
abbrev dktX0_periodOf_0 : List UInt8 := dkwX0_periodOf_0 ++ []
theorem dksX0_periodOf_0 : cX0_periodOf.data.toList.drop 0 = dktX0_periodOf_0 := by decide +kernel
theorem dX0_periodOf_0 : decode cX0_periodOf 0 = .ok (.aload_n 2, 1) := dk_44 (dk_at dksX0_periodOf_0 0 rfl rfl)
theorem dX0_periodOf_1 : decode cX0_periodOf 1 = .ok (.iconst 0, 1) := dk_3 (dk_at dksX0_periodOf_0 1 rfl rfl)
theorem dX0_periodOf_2 : decode cX0_periodOf 2 = .ok (.aload_n 0, 1) := dk_42 (dk_at dksX0_periodOf_0 2 rfl rfl)
theorem dX0_periodOf_3 : decode cX0_periodOf 3 = .ok (.iload_n 1, 1) := dk_27 (dk_at dksX0_periodOf_0 3 rfl rfl)
theorem dX0_periodOf_4 : decode cX0_periodOf 4 = .ok (.invokevirtual 27, 3) := dk_182 0 27 (dk_at dksX0_periodOf_0 4 rfl rfl)
theorem dX0_periodOf_7 : decode cX0_periodOf 7 = .ok (.i2l, 1) := dk_133 (dk_at dksX0_periodOf_0 7 rfl rfl)
theorem dX0_periodOf_8 : decode cX0_periodOf 8 = .ok (.lastore, 1) := dk_80 (dk_at dksX0_periodOf_0 8 rfl rfl)
theorem dX0_periodOf_9 : decode cX0_periodOf 9 = .ok (.goto 6, 3) := dk_167 0 6 (dk_at dksX0_periodOf_0 9 rfl rfl)
theorem dX0_periodOf_12 : decode cX0_periodOf 12 = .ok (.astore_n 3, 1) := dk_78 (dk_at dksX0_periodOf_0 12 rfl rfl)
theorem dX0_periodOf_13 : decode cX0_periodOf 13 = .ok (.iconst 1, 1) := dk_4 (dk_at dksX0_periodOf_0 13 rfl rfl)
theorem dX0_periodOf_14 : decode cX0_periodOf 14 = .ok (.ireturn, 1) := dk_172 (dk_at dksX0_periodOf_0 14 rfl rfl)
theorem dX0_periodOf_15 : decode cX0_periodOf 15 = .ok (.iconst 0, 1) := dk_3 (dk_at dksX0_periodOf_0 15 rfl rfl)
theorem dX0_periodOf_16 : decode cX0_periodOf 16 = .ok (.ireturn, 1) := dk_172 (dk_at dksX0_periodOf_0 16 rfl rfl)
abbrev cX0_isLate : ByteArray := method_7_code
def yX0_isLate : MethodName := ⟨RX0, "isLate", "(LTownPurse;I[J)I"⟩
def dkwX0_isLate_0 : List UInt8 := [44, 3, 42, 27, 182, 0, 30, 153, 0, 7, 10, 167, 0, 4, 9, 80, 167, 0, 6, 78, 4, 172, 3, 172]
abbrev dktX0_isLate_0 : List UInt8 := dkwX0_isLate_0 ++ []
theorem dksX0_isLate_0 : cX0_isLate.data.toList.drop 0 = dktX0_isLate_0 := by decide +kernel
theorem dX0_isLate_0 : decode cX0_isLate 0 = .ok (.aload_n 2, 1) := dk_44 (dk_at dksX0_isLate_0 0 rfl rfl)
theorem dX0_isLate_1 : decode cX0_isLate 1 = .ok (.iconst 0, 1) := dk_3 (dk_at dksX0_isLate_0 1 rfl rfl)
theorem dX0_isLate_2 : decode cX0_isLate 2 = .ok (.aload_n 0, 1) := dk_42 (dk_at dksX0_isLate_0 2 rfl rfl)
theorem dX0_isLate_3 : decode cX0_isLate 3 = .ok (.iload_n 1, 1) := dk_27 (dk_at dksX0_isLate_0 3 rfl rfl)
theorem dX0_isLate_4 : decode cX0_isLate 4 = .ok (.invokevirtual 30, 3) := dk_182 0 30 (dk_at dksX0_isLate_0 4 rfl rfl)
theorem dX0_isLate_7 : decode cX0_isLate 7 = .ok (.ifCond .eq 7, 3) := dk_153 0 7 (dk_at dksX0_isLate_0 7 rfl rfl)
theorem dX0_isLate_10 : decode cX0_isLate 10 = .ok (.lconst 1, 1) := dk_10 (dk_at dksX0_isLate_0 10 rfl rfl)
theorem dX0_isLate_11 : decode cX0_isLate 11 = .ok (.goto 4, 3) := dk_167 0 4 (dk_at dksX0_isLate_0 11 rfl rfl)
theorem dX0_isLate_14 : decode cX0_isLate 14 = .ok (.lconst 0, 1) := dk_9 (dk_at dksX0_isLate_0 14 rfl rfl)
theorem dX0_isLate_15 : decode cX0_isLate 15 = .ok (.lastore, 1) := dk_80 (dk_at dksX0_isLate_0 15 rfl rfl)
theorem dX0_isLate_16 : decode cX0_isLate 16 = .ok (.goto 6, 3) := dk_167 0 6 (dk_at dksX0_isLate_0 16 rfl rfl)
theorem dX0_isLate_19 : decode cX0_isLate 19 = .ok (.astore_n 3, 1) := dk_78 (dk_at dksX0_isLate_0 19 rfl rfl)
theorem dX0_isLate_20 : decode cX0_isLate 20 = .ok (.iconst 1, 1) := dk_4 (dk_at dksX0_isLate_0 20 rfl rfl)
theorem dX0_isLate_21 : decode cX0_isLate 21 = .ok (.ireturn, 1) := dk_172 (dk_at dksX0_isLate_0 21 rfl rfl)
theorem dX0_isLate_22 : decode cX0_isLate 22 = .ok (.iconst 0, 1) := dk_3 (dk_at dksX0_isLate_0 22 rfl rfl)
theorem dX0_isLate_23 : decode cX0_isLate 23 = .ok (.ireturn, 1) := dk_172 (dk_at dksX0_isLate_0 23 rfl rfl)
abbrev cX0_balance : ByteArray := method_8_code
def yX0_balance : MethodName := ⟨RX0, "balance", "(LTownPurse;II[J)I"⟩
def dkwX0_balance_0 : List UInt8 := [45, 3, 42, 27, 28, 182, 0, 34, 133, 80, 167, 0, 11, 58, 4, 4, 172, 58, 4, 5, 172, 3, 172]
abbrev dktX0_balance_0 : List UInt8 := dkwX0_balance_0 ++ []
theorem dksX0_balance_0 : cX0_balance.data.toList.drop 0 = dktX0_balance_0 := by decide +kernel
theorem dX0_balance_0 : decode cX0_balance 0 = .ok (.aload_n 3, 1) := dk_45 (dk_at dksX0_balance_0 0 rfl rfl)
theorem dX0_balance_1 : decode cX0_balance 1 = .ok (.iconst 0, 1) := dk_3 (dk_at dksX0_balance_0 1 rfl rfl)
theorem dX0_balance_2 : decode cX0_balance 2 = .ok (.aload_n 0, 1) := dk_42 (dk_at dksX0_balance_0 2 rfl rfl)
theorem dX0_balance_3 : decode cX0_balance 3 = .ok (.iload_n 1, 1) := dk_27 (dk_at dksX0_balance_0 3 rfl rfl)
theorem dX0_balance_4 : decode cX0_balance 4 = .ok (.iload_n 2, 1) := dk_28 (dk_at dksX0_balance_0 4 rfl rfl)
theorem dX0_balance_5 : decode cX0_balance 5 = .ok (.invokevirtual 34, 3) := dk_182 0 34 (dk_at dksX0_balance_0 5 rfl rfl)
theorem dX0_balance_8 : decode cX0_balance 8 = .ok (.i2l, 1) := dk_133 (dk_at dksX0_balance_0 8 rfl rfl)
theorem dX0_balance_9 : decode cX0_balance 9 = .ok (.lastore, 1) := dk_80 (dk_at dksX0_balance_0 9 rfl rfl)
theorem dX0_balance_10 : decode cX0_balance 10 = .ok (.goto 11, 3) := dk_167 0 11 (dk_at dksX0_balance_0 10 rfl rfl)
theorem dX0_balance_13 : decode cX0_balance 13 = .ok (.astore 4, 2) := dk_58 4 (dk_at dksX0_balance_0 13 rfl rfl)
theorem dX0_balance_15 : decode cX0_balance 15 = .ok (.iconst 1, 1) := dk_4 (dk_at dksX0_balance_0 15 rfl rfl)
theorem dX0_balance_16 : decode cX0_balance 16 = .ok (.ireturn, 1) := dk_172 (dk_at dksX0_balance_0 16 rfl rfl)
theorem dX0_balance_17 : decode cX0_balance 17 = .ok (.astore 4, 2) := dk_58 4 (dk_at dksX0_balance_0 17 rfl rfl)
theorem dX0_balance_19 : decode cX0_balance 19 = .ok (.iconst 2, 1) := dk_5 (dk_at dksX0_balance_0 19 rfl rfl)
theorem dX0_balance_20 : decode cX0_balance 20 = .ok (.ireturn, 1) := dk_172 (dk_at dksX0_balance_0 20 rfl rfl)
theorem dX0_balance_21 : decode cX0_balance 21 = .ok (.iconst 0, 1) := dk_3 (dk_at dksX0_balance_0 21 rfl rfl)
theorem dX0_balance_22 : decode cX0_balance 22 = .ok (.ireturn, 1) := dk_172 (dk_at dksX0_balance_0 22 rfl rfl)
abbrev cX0_balanceByEntries : ByteArray := method_9_code
def yX0_balanceByEntries : MethodName := ⟨RX0, "balanceByEntries", "(LTownPurse;II[J)I"⟩
def dkwX0_balanceByEntries_0 : List UInt8 := [45, 3, 42, 27, 28, 182, 0, 38, 133, 80, 167, 0, 11, 58, 4, 4, 172, 58, 4, 5, 172, 3, 172]
abbrev dktX0_balanceByEntries_0 : List UInt8 := dkwX0_balanceByEntries_0 ++ []
theorem dksX0_balanceByEntries_0 : cX0_balanceByEntries.data.toList.drop 0 = dktX0_balanceByEntries_0 := by decide +kernel
theorem dX0_balanceByEntries_0 : decode cX0_balanceByEntries 0 = .ok (.aload_n 3, 1) := dk_45 (dk_at dksX0_balanceByEntries_0 0 rfl rfl)
theorem dX0_balanceByEntries_1 : decode cX0_balanceByEntries 1 = .ok (.iconst 0, 1) := dk_3 (dk_at dksX0_balanceByEntries_0 1 rfl rfl)
theorem dX0_balanceByEntries_2 : decode cX0_balanceByEntries 2 = .ok (.aload_n 0, 1) := dk_42 (dk_at dksX0_balanceByEntries_0 2 rfl rfl)
theorem dX0_balanceByEntries_3 : decode cX0_balanceByEntries 3 = .ok (.iload_n 1, 1) := dk_27 (dk_at dksX0_balanceByEntries_0 3 rfl rfl)
theorem dX0_balanceByEntries_4 : decode cX0_balanceByEntries 4 = .ok (.iload_n 2, 1) := dk_28 (dk_at dksX0_balanceByEntries_0 4 rfl rfl)
theorem dX0_balanceByEntries_5 : decode cX0_balanceByEntries 5 = .ok (.invokevirtual 38, 3) := dk_182 0 38 (dk_at dksX0_balanceByEntries_0 5 rfl rfl)
theorem dX0_balanceByEntries_8 : decode cX0_balanceByEntries 8 = .ok (.i2l, 1) := dk_133 (dk_at dksX0_balanceByEntries_0 8 rfl rfl)
theorem dX0_balanceByEntries_9 : decode cX0_balanceByEntries 9 = .ok (.lastore, 1) := dk_80 (dk_at dksX0_balanceByEntries_0 9 rfl rfl)
theorem dX0_balanceByEntries_10 : decode cX0_balanceByEntries 10 = .ok (.goto 11, 3) := dk_167 0 11 (dk_at dksX0_balanceByEntries_0 10 rfl rfl)
theorem dX0_balanceByEntries_13 : decode cX0_balanceByEntries 13 = .ok (.astore 4, 2) := dk_58 4 (dk_at dksX0_balanceByEntries_0 13 rfl rfl)
theorem dX0_balanceByEntries_15 : decode cX0_balanceByEntries 15 = .ok (.iconst 1, 1) := dk_4 (dk_at dksX0_balanceByEntries_0 15 rfl rfl)
theorem dX0_balanceByEntries_16 : decode cX0_balanceByEntries 16 = .ok (.ireturn, 1) := dk_172 (dk_at dksX0_balanceByEntries_0 16 rfl rfl)
theorem dX0_balanceByEntries_17 : decode cX0_balanceByEntries 17 = .ok (.astore 4, 2) := dk_58 4 (dk_at dksX0_balanceByEntries_0 17 rfl rfl)
theorem dX0_balanceByEntries_19 : decode cX0_balanceByEntries 19 = .ok (.iconst 2, 1) := dk_5 (dk_at dksX0_balanceByEntries_0 19 rfl rfl)
theorem dX0_balanceByEntries_20 : decode cX0_balanceByEntries 20 = .ok (.ireturn, 1) := dk_172 (dk_at dksX0_balanceByEntries_0 20 rfl rfl)
theorem dX0_balanceByEntries_21 : decode cX0_balanceByEntries 21 = .ok (.iconst 0, 1) := dk_3 (dk_at dksX0_balanceByEntries_0 21 rfl rfl)
theorem dX0_balanceByEntries_22 : decode cX0_balanceByEntries 22 = .ok (.ireturn, 1) := dk_172 (dk_at dksX0_balanceByEntries_0 22 rfl rfl)
abbrev cX0_grant : ByteArray := method_10_code
def yX0_grant : MethodName := ⟨RX0, "grant", "(LTownPurse;II)I"⟩
def dkwX0_grant_0 : List UInt8 := [42, 27, 28, 182, 0, 41, 167, 0, 12, 78, 4, 172, 78, 5, 172, 78, 6, 172, 3, 172]
abbrev dktX0_grant_0 : List UInt8 := dkwX0_grant_0 ++ []
theorem dksX0_grant_0 : cX0_grant.data.toList.drop 0 = dktX0_grant_0 := by decide +kernel
theorem dX0_grant_0 : decode cX0_grant 0 = .ok (.aload_n 0, 1) := dk_42 (dk_at dksX0_grant_0 0 rfl rfl)
theorem dX0_grant_1 : decode cX0_grant 1 = .ok (.iload_n 1, 1) := dk_27 (dk_at dksX0_grant_0 1 rfl rfl)
theorem dX0_grant_2 : decode cX0_grant 2 = .ok (.iload_n 2, 1) := dk_28 (dk_at dksX0_grant_0 2 rfl rfl)
theorem dX0_grant_3 : decode cX0_grant 3 = .ok (.invokevirtual 41, 3) := dk_182 0 41 (dk_at dksX0_grant_0 3 rfl rfl)
theorem dX0_grant_6 : decode cX0_grant 6 = .ok (.goto 12, 3) := dk_167 0 12 (dk_at dksX0_grant_0 6 rfl rfl)
theorem dX0_grant_9 : decode cX0_grant 9 = .ok (.astore_n 3, 1) := dk_78 (dk_at dksX0_grant_0 9 rfl rfl)
theorem dX0_grant_10 : decode cX0_grant 10 = .ok (.iconst 1, 1) := dk_4 (dk_at dksX0_grant_0 10 rfl rfl)
theorem dX0_grant_11 : decode cX0_grant 11 = .ok (.ireturn, 1) := dk_172 (dk_at dksX0_grant_0 11 rfl rfl)
theorem dX0_grant_12 : decode cX0_grant 12 = .ok (.astore_n 3, 1) := dk_78 (dk_at dksX0_grant_0 12 rfl rfl)
theorem dX0_grant_13 : decode cX0_grant 13 = .ok (.iconst 2, 1) := dk_5 (dk_at dksX0_grant_0 13 rfl rfl)
theorem dX0_grant_14 : decode cX0_grant 14 = .ok (.ireturn, 1) := dk_172 (dk_at dksX0_grant_0 14 rfl rfl)
theorem dX0_grant_15 : decode cX0_grant 15 = .ok (.astore_n 3, 1) := dk_78 (dk_at dksX0_grant_0 15 rfl rfl)
theorem dX0_grant_16 : decode cX0_grant 16 = .ok (.iconst 3, 1) := dk_6 (dk_at dksX0_grant_0 16 rfl rfl)
theorem dX0_grant_17 : decode cX0_grant 17 = .ok (.ireturn, 1) := dk_172 (dk_at dksX0_grant_0 17 rfl rfl)
theorem dX0_grant_18 : decode cX0_grant 18 = .ok (.iconst 0, 1) := dk_3 (dk_at dksX0_grant_0 18 rfl rfl)
theorem dX0_grant_19 : decode cX0_grant 19 = .ok (.ireturn, 1) := dk_172 (dk_at dksX0_grant_0 19 rfl rfl)
abbrev cX0_amend : ByteArray := method_11_code
def yX0_amend : MethodName := ⟨RX0, "amend", "(LTownPurse;IIIZ[J)I"⟩
def dkwX0_amend_1 : List UInt8 := [172, 58, 6, 6, 172, 3, 172]
abbrev dktX0_amend_1 : List UInt8 := dkwX0_amend_1 ++ []
def dkwX0_amend_0 : List UInt8 := [25, 5, 3, 42, 27, 28, 29, 21, 4, 182, 0, 45, 133, 80, 167, 0, 15, 58, 6, 4, 172, 58, 6, 5]
abbrev dktX0_amend_0 : List UInt8 := dkwX0_amend_0 ++ dktX0_amend_1
theorem dksX0_amend_0 : cX0_amend.data.toList.drop 0 = dktX0_amend_0 := by decide +kernel
theorem dksX0_amend_1 : cX0_amend.data.toList.drop 24 = dktX0_amend_1 := dk_seg dksX0_amend_0 24 rfl rfl
theorem dX0_amend_0 : decode cX0_amend 0 = .ok (.aload 5, 2) := dk_25 5 (dk_at dksX0_amend_0 0 rfl rfl)
theorem dX0_amend_2 : decode cX0_amend 2 = .ok (.iconst 0, 1) := dk_3 (dk_at dksX0_amend_0 2 rfl rfl)
theorem dX0_amend_3 : decode cX0_amend 3 = .ok (.aload_n 0, 1) := dk_42 (dk_at dksX0_amend_0 3 rfl rfl)
theorem dX0_amend_4 : decode cX0_amend 4 = .ok (.iload_n 1, 1) := dk_27 (dk_at dksX0_amend_0 4 rfl rfl)
theorem dX0_amend_5 : decode cX0_amend 5 = .ok (.iload_n 2, 1) := dk_28 (dk_at dksX0_amend_0 5 rfl rfl)
theorem dX0_amend_6 : decode cX0_amend 6 = .ok (.iload_n 3, 1) := dk_29 (dk_at dksX0_amend_0 6 rfl rfl)
theorem dX0_amend_7 : decode cX0_amend 7 = .ok (.iload 4, 2) := dk_21 4 (dk_at dksX0_amend_0 7 rfl rfl)
theorem dX0_amend_9 : decode cX0_amend 9 = .ok (.invokevirtual 45, 3) := dk_182 0 45 (dk_at dksX0_amend_0 9 rfl rfl)
theorem dX0_amend_12 : decode cX0_amend 12 = .ok (.i2l, 1) := dk_133 (dk_at dksX0_amend_0 12 rfl rfl)
theorem dX0_amend_13 : decode cX0_amend 13 = .ok (.lastore, 1) := dk_80 (dk_at dksX0_amend_0 13 rfl rfl)
theorem dX0_amend_14 : decode cX0_amend 14 = .ok (.goto 15, 3) := dk_167 0 15 (dk_at dksX0_amend_0 14 rfl rfl)
theorem dX0_amend_17 : decode cX0_amend 17 = .ok (.astore 6, 2) := dk_58 6 (dk_at dksX0_amend_0 17 rfl rfl)
theorem dX0_amend_19 : decode cX0_amend 19 = .ok (.iconst 1, 1) := dk_4 (dk_at dksX0_amend_0 19 rfl rfl)
theorem dX0_amend_20 : decode cX0_amend 20 = .ok (.ireturn, 1) := dk_172 (dk_at dksX0_amend_0 20 rfl rfl)
theorem dX0_amend_21 : decode cX0_amend 21 = .ok (.astore 6, 2) := dk_58 6 (dk_at dksX0_amend_0 21 rfl rfl)
theorem dX0_amend_23 : decode cX0_amend 23 = .ok (.iconst 2, 1) := dk_5 (dk_at dksX0_amend_0 23 rfl rfl)
theorem dX0_amend_24 : decode cX0_amend 24 = .ok (.ireturn, 1) := dk_172 (dk_at dksX0_amend_1 0 rfl rfl)
theorem dX0_amend_25 : decode cX0_amend 25 = .ok (.astore 6, 2) := dk_58 6 (dk_at dksX0_amend_1 1 rfl rfl)
theorem dX0_amend_27 : decode cX0_amend 27 = .ok (.iconst 3, 1) := dk_6 (dk_at dksX0_amend_1 3 rfl rfl)
theorem dX0_amend_28 : decode cX0_amend 28 = .ok (.ireturn, 1) := dk_172 (dk_at dksX0_amend_1 4 rfl rfl)
theorem dX0_amend_29 : decode cX0_amend 29 = .ok (.iconst 0, 1) := dk_3 (dk_at dksX0_amend_1 5 rfl rfl)
theorem dX0_amend_30 : decode cX0_amend 30 = .ok (.ireturn, 1) := dk_172 (dk_at dksX0_amend_1 6 rfl rfl)
abbrev cX0_left : ByteArray := method_12_code
def yX0_left : MethodName := ⟨RX0, "left", "(LTownPurse;I[J)I"⟩
def dkwX0_left_0 : List UInt8 := [44, 3, 42, 27, 182, 0, 49, 133, 80, 167, 0, 6, 78, 4, 172, 3, 172]
abbrev dktX0_left_0 : List UInt8 := dkwX0_left_0 ++ []
theorem dksX0_left_0 : cX0_left.data.toList.drop 0 = dktX0_left_0 := by decide +kernel
theorem dX0_left_0 : decode cX0_left 0 = .ok (.aload_n 2, 1) := dk_44 (dk_at dksX0_left_0 0 rfl rfl)
theorem dX0_left_1 : decode cX0_left 1 = .ok (.iconst 0, 1) := dk_3 (dk_at dksX0_left_0 1 rfl rfl)
theorem dX0_left_2 : decode cX0_left 2 = .ok (.aload_n 0, 1) := dk_42 (dk_at dksX0_left_0 2 rfl rfl)
theorem dX0_left_3 : decode cX0_left 3 = .ok (.iload_n 1, 1) := dk_27 (dk_at dksX0_left_0 3 rfl rfl)
theorem dX0_left_4 : decode cX0_left 4 = .ok (.invokevirtual 49, 3) := dk_182 0 49 (dk_at dksX0_left_0 4 rfl rfl)
theorem dX0_left_7 : decode cX0_left 7 = .ok (.i2l, 1) := dk_133 (dk_at dksX0_left_0 7 rfl rfl)
theorem dX0_left_8 : decode cX0_left 8 = .ok (.lastore, 1) := dk_80 (dk_at dksX0_left_0 8 rfl rfl)
theorem dX0_left_9 : decode cX0_left 9 = .ok (.goto 6, 3) := dk_167 0 6 (dk_at dksX0_left_0 9 rfl rfl)
theorem dX0_left_12 : decode cX0_left 12 = .ok (.astore_n 3, 1) := dk_78 (dk_at dksX0_left_0 12 rfl rfl)
theorem dX0_left_13 : decode cX0_left 13 = .ok (.iconst 1, 1) := dk_4 (dk_at dksX0_left_0 13 rfl rfl)
theorem dX0_left_14 : decode cX0_left 14 = .ok (.ireturn, 1) := dk_172 (dk_at dksX0_left_0 14 rfl rfl)
theorem dX0_left_15 : decode cX0_left 15 = .ok (.iconst 0, 1) := dk_3 (dk_at dksX0_left_0 15 rfl rfl)
theorem dX0_left_16 : decode cX0_left 16 = .ok (.ireturn, 1) := dk_172 (dk_at dksX0_left_0 16 rfl rfl)
abbrev cX0_setLimit : ByteArray := method_13_code
def yX0_setLimit : MethodName := ⟨RX0, "setLimit", "(LTownPurse;I[J)I"⟩
def dkwX0_setLimit_0 : List UInt8 := [44, 3, 42, 27, 182, 0, 52, 133, 80, 167, 0, 6, 78, 4, 172, 3, 172]
abbrev dktX0_setLimit_0 : List UInt8 := dkwX0_setLimit_0 ++ []
theorem dksX0_setLimit_0 : cX0_setLimit.data.toList.drop 0 = dktX0_setLimit_0 := by decide +kernel
theorem dX0_setLimit_0 : decode cX0_setLimit 0 = .ok (.aload_n 2, 1) := dk_44 (dk_at dksX0_setLimit_0 0 rfl rfl)
theorem dX0_setLimit_1 : decode cX0_setLimit 1 = .ok (.iconst 0, 1) := dk_3 (dk_at dksX0_setLimit_0 1 rfl rfl)
theorem dX0_setLimit_2 : decode cX0_setLimit 2 = .ok (.aload_n 0, 1) := dk_42 (dk_at dksX0_setLimit_0 2 rfl rfl)
theorem dX0_setLimit_3 : decode cX0_setLimit 3 = .ok (.iload_n 1, 1) := dk_27 (dk_at dksX0_setLimit_0 3 rfl rfl)
theorem dX0_setLimit_4 : decode cX0_setLimit 4 = .ok (.invokevirtual 52, 3) := dk_182 0 52 (dk_at dksX0_setLimit_0 4 rfl rfl)
theorem dX0_setLimit_7 : decode cX0_setLimit 7 = .ok (.i2l, 1) := dk_133 (dk_at dksX0_setLimit_0 7 rfl rfl)
theorem dX0_setLimit_8 : decode cX0_setLimit 8 = .ok (.lastore, 1) := dk_80 (dk_at dksX0_setLimit_0 8 rfl rfl)
theorem dX0_setLimit_9 : decode cX0_setLimit 9 = .ok (.goto 6, 3) := dk_167 0 6 (dk_at dksX0_setLimit_0 9 rfl rfl)
theorem dX0_setLimit_12 : decode cX0_setLimit 12 = .ok (.astore_n 3, 1) := dk_78 (dk_at dksX0_setLimit_0 12 rfl rfl)
theorem dX0_setLimit_13 : decode cX0_setLimit 13 = .ok (.iconst 1, 1) := dk_4 (dk_at dksX0_setLimit_0 13 rfl rfl)
theorem dX0_setLimit_14 : decode cX0_setLimit 14 = .ok (.ireturn, 1) := dk_172 (dk_at dksX0_setLimit_0 14 rfl rfl)
theorem dX0_setLimit_15 : decode cX0_setLimit 15 = .ok (.iconst 0, 1) := dk_3 (dk_at dksX0_setLimit_0 15 rfl rfl)
theorem dX0_setLimit_16 : decode cX0_setLimit 16 = .ok (.ireturn, 1) := dk_172 (dk_at dksX0_setLimit_0 16 rfl rfl)
abbrev cX0_prepare : ByteArray := method_14_code
def yX0_prepare : MethodName := ⟨RX0, "prepare", "(LTownPurse;IIII[J)I"⟩
def dkwX0_prepare_1 : List UInt8 := [172, 58, 6, 6, 172, 3, 172]
abbrev dktX0_prepare_1 : List UInt8 := dkwX0_prepare_1 ++ []
def dkwX0_prepare_0 : List UInt8 := [25, 5, 3, 42, 27, 28, 29, 21, 4, 182, 0, 55, 133, 80, 167, 0, 15, 58, 6, 4, 172, 58, 6, 5]
abbrev dktX0_prepare_0 : List UInt8 := dkwX0_prepare_0 ++ dktX0_prepare_1
theorem dksX0_prepare_0 : cX0_prepare.data.toList.drop 0 = dktX0_prepare_0 := by decide +kernel
theorem dksX0_prepare_1 : cX0_prepare.data.toList.drop 24 = dktX0_prepare_1 := dk_seg dksX0_prepare_0 24 rfl rfl
theorem dX0_prepare_0 : decode cX0_prepare 0 = .ok (.aload 5, 2) := dk_25 5 (dk_at dksX0_prepare_0 0 rfl rfl)
theorem dX0_prepare_2 : decode cX0_prepare 2 = .ok (.iconst 0, 1) := dk_3 (dk_at dksX0_prepare_0 2 rfl rfl)
theorem dX0_prepare_3 : decode cX0_prepare 3 = .ok (.aload_n 0, 1) := dk_42 (dk_at dksX0_prepare_0 3 rfl rfl)
theorem dX0_prepare_4 : decode cX0_prepare 4 = .ok (.iload_n 1, 1) := dk_27 (dk_at dksX0_prepare_0 4 rfl rfl)
theorem dX0_prepare_5 : decode cX0_prepare 5 = .ok (.iload_n 2, 1) := dk_28 (dk_at dksX0_prepare_0 5 rfl rfl)
theorem dX0_prepare_6 : decode cX0_prepare 6 = .ok (.iload_n 3, 1) := dk_29 (dk_at dksX0_prepare_0 6 rfl rfl)
theorem dX0_prepare_7 : decode cX0_prepare 7 = .ok (.iload 4, 2) := dk_21 4 (dk_at dksX0_prepare_0 7 rfl rfl)
theorem dX0_prepare_9 : decode cX0_prepare 9 = .ok (.invokevirtual 55, 3) := dk_182 0 55 (dk_at dksX0_prepare_0 9 rfl rfl)
theorem dX0_prepare_12 : decode cX0_prepare 12 = .ok (.i2l, 1) := dk_133 (dk_at dksX0_prepare_0 12 rfl rfl)
theorem dX0_prepare_13 : decode cX0_prepare 13 = .ok (.lastore, 1) := dk_80 (dk_at dksX0_prepare_0 13 rfl rfl)
theorem dX0_prepare_14 : decode cX0_prepare 14 = .ok (.goto 15, 3) := dk_167 0 15 (dk_at dksX0_prepare_0 14 rfl rfl)
theorem dX0_prepare_17 : decode cX0_prepare 17 = .ok (.astore 6, 2) := dk_58 6 (dk_at dksX0_prepare_0 17 rfl rfl)
theorem dX0_prepare_19 : decode cX0_prepare 19 = .ok (.iconst 1, 1) := dk_4 (dk_at dksX0_prepare_0 19 rfl rfl)
theorem dX0_prepare_20 : decode cX0_prepare 20 = .ok (.ireturn, 1) := dk_172 (dk_at dksX0_prepare_0 20 rfl rfl)
theorem dX0_prepare_21 : decode cX0_prepare 21 = .ok (.astore 6, 2) := dk_58 6 (dk_at dksX0_prepare_0 21 rfl rfl)
theorem dX0_prepare_23 : decode cX0_prepare 23 = .ok (.iconst 2, 1) := dk_5 (dk_at dksX0_prepare_0 23 rfl rfl)
theorem dX0_prepare_24 : decode cX0_prepare 24 = .ok (.ireturn, 1) := dk_172 (dk_at dksX0_prepare_1 0 rfl rfl)
theorem dX0_prepare_25 : decode cX0_prepare 25 = .ok (.astore 6, 2) := dk_58 6 (dk_at dksX0_prepare_1 1 rfl rfl)
theorem dX0_prepare_27 : decode cX0_prepare 27 = .ok (.iconst 3, 1) := dk_6 (dk_at dksX0_prepare_1 3 rfl rfl)
theorem dX0_prepare_28 : decode cX0_prepare 28 = .ok (.ireturn, 1) := dk_172 (dk_at dksX0_prepare_1 4 rfl rfl)
theorem dX0_prepare_29 : decode cX0_prepare 29 = .ok (.iconst 0, 1) := dk_3 (dk_at dksX0_prepare_1 5 rfl rfl)
theorem dX0_prepare_30 : decode cX0_prepare 30 = .ok (.ireturn, 1) := dk_172 (dk_at dksX0_prepare_1 6 rfl rfl)
abbrev cX0_release : ByteArray := method_15_code
def yX0_release : MethodName := ⟨RX0, "release", "(LTownPurse;II[J)I"⟩
def dkwX0_release_0 : List UInt8 := [45, 3, 42, 27, 28, 182, 0, 58, 133, 80, 167, 0, 11, 58, 4, 4, 172, 58, 4, 5, 172, 3, 172]
abbrev dktX0_release_0 : List UInt8 := dkwX0_release_0 ++ []
theorem dksX0_release_0 : cX0_release.data.toList.drop 0 = dktX0_release_0 := by decide +kernel
theorem dX0_release_0 : decode cX0_release 0 = .ok (.aload_n 3, 1) := dk_45 (dk_at dksX0_release_0 0 rfl rfl)
theorem dX0_release_1 : decode cX0_release 1 = .ok (.iconst 0, 1) := dk_3 (dk_at dksX0_release_0 1 rfl rfl)
theorem dX0_release_2 : decode cX0_release 2 = .ok (.aload_n 0, 1) := dk_42 (dk_at dksX0_release_0 2 rfl rfl)
theorem dX0_release_3 : decode cX0_release 3 = .ok (.iload_n 1, 1) := dk_27 (dk_at dksX0_release_0 3 rfl rfl)
theorem dX0_release_4 : decode cX0_release 4 = .ok (.iload_n 2, 1) := dk_28 (dk_at dksX0_release_0 4 rfl rfl)
theorem dX0_release_5 : decode cX0_release 5 = .ok (.invokevirtual 58, 3) := dk_182 0 58 (dk_at dksX0_release_0 5 rfl rfl)
theorem dX0_release_8 : decode cX0_release 8 = .ok (.i2l, 1) := dk_133 (dk_at dksX0_release_0 8 rfl rfl)
theorem dX0_release_9 : decode cX0_release 9 = .ok (.lastore, 1) := dk_80 (dk_at dksX0_release_0 9 rfl rfl)
theorem dX0_release_10 : decode cX0_release 10 = .ok (.goto 11, 3) := dk_167 0 11 (dk_at dksX0_release_0 10 rfl rfl)
theorem dX0_release_13 : decode cX0_release 13 = .ok (.astore 4, 2) := dk_58 4 (dk_at dksX0_release_0 13 rfl rfl)
theorem dX0_release_15 : decode cX0_release 15 = .ok (.iconst 1, 1) := dk_4 (dk_at dksX0_release_0 15 rfl rfl)
theorem dX0_release_16 : decode cX0_release 16 = .ok (.ireturn, 1) := dk_172 (dk_at dksX0_release_0 16 rfl rfl)
theorem dX0_release_17 : decode cX0_release 17 = .ok (.astore 4, 2) := dk_58 4 (dk_at dksX0_release_0 17 rfl rfl)
theorem dX0_release_19 : decode cX0_release 19 = .ok (.iconst 2, 1) := dk_5 (dk_at dksX0_release_0 19 rfl rfl)
theorem dX0_release_20 : decode cX0_release 20 = .ok (.ireturn, 1) := dk_172 (dk_at dksX0_release_0 20 rfl rfl)
theorem dX0_release_21 : decode cX0_release 21 = .ok (.iconst 0, 1) := dk_3 (dk_at dksX0_release_0 21 rfl rfl)
theorem dX0_release_22 : decode cX0_release 22 = .ok (.ireturn, 1) := dk_172 (dk_at dksX0_release_0 22 rfl rfl)
abbrev cX0_refuse : ByteArray := method_16_code
def yX0_refuse : MethodName := ⟨RX0, "refuse", "(LTownPurse;I[J)I"⟩
def dkwX0_refuse_0 : List UInt8 := [44, 3, 42, 27, 182, 0, 61, 133, 80, 167, 0, 9, 78, 4, 172, 78, 5, 172, 3, 172]
abbrev dktX0_refuse_0 : List UInt8 := dkwX0_refuse_0 ++ []
theorem dksX0_refuse_0 : cX0_refuse.data.toList.drop 0 = dktX0_refuse_0 := by decide +kernel
theorem dX0_refuse_0 : decode cX0_refuse 0 = .ok (.aload_n 2, 1) := dk_44 (dk_at dksX0_refuse_0 0 rfl rfl)
theorem dX0_refuse_1 : decode cX0_refuse 1 = .ok (.iconst 0, 1) := dk_3 (dk_at dksX0_refuse_0 1 rfl rfl)
theorem dX0_refuse_2 : decode cX0_refuse 2 = .ok (.aload_n 0, 1) := dk_42 (dk_at dksX0_refuse_0 2 rfl rfl)
theorem dX0_refuse_3 : decode cX0_refuse 3 = .ok (.iload_n 1, 1) := dk_27 (dk_at dksX0_refuse_0 3 rfl rfl)
theorem dX0_refuse_4 : decode cX0_refuse 4 = .ok (.invokevirtual 61, 3) := dk_182 0 61 (dk_at dksX0_refuse_0 4 rfl rfl)
theorem dX0_refuse_7 : decode cX0_refuse 7 = .ok (.i2l, 1) := dk_133 (dk_at dksX0_refuse_0 7 rfl rfl)
theorem dX0_refuse_8 : decode cX0_refuse 8 = .ok (.lastore, 1) := dk_80 (dk_at dksX0_refuse_0 8 rfl rfl)
theorem dX0_refuse_9 : decode cX0_refuse 9 = .ok (.goto 9, 3) := dk_167 0 9 (dk_at dksX0_refuse_0 9 rfl rfl)
theorem dX0_refuse_12 : decode cX0_refuse 12 = .ok (.astore_n 3, 1) := dk_78 (dk_at dksX0_refuse_0 12 rfl rfl)
theorem dX0_refuse_13 : decode cX0_refuse 13 = .ok (.iconst 1, 1) := dk_4 (dk_at dksX0_refuse_0 13 rfl rfl)
theorem dX0_refuse_14 : decode cX0_refuse 14 = .ok (.ireturn, 1) := dk_172 (dk_at dksX0_refuse_0 14 rfl rfl)
theorem dX0_refuse_15 : decode cX0_refuse 15 = .ok (.astore_n 3, 1) := dk_78 (dk_at dksX0_refuse_0 15 rfl rfl)
theorem dX0_refuse_16 : decode cX0_refuse 16 = .ok (.iconst 2, 1) := dk_5 (dk_at dksX0_refuse_0 16 rfl rfl)
theorem dX0_refuse_17 : decode cX0_refuse 17 = .ok (.ireturn, 1) := dk_172 (dk_at dksX0_refuse_0 17 rfl rfl)
theorem dX0_refuse_18 : decode cX0_refuse 18 = .ok (.iconst 0, 1) := dk_3 (dk_at dksX0_refuse_0 18 rfl rfl)
theorem dX0_refuse_19 : decode cX0_refuse 19 = .ok (.ireturn, 1) := dk_172 (dk_at dksX0_refuse_0 19 rfl rfl)
abbrev cX0_stateOf : ByteArray := method_17_code
def yX0_stateOf : MethodName := ⟨RX0, "stateOf", "(LTownPurse;I[J)I"⟩
def dkwX0_stateOf_0 : List UInt8 := [44, 3, 42, 27, 182, 0, 64, 133, 80, 167, 0, 6, 78, 4, 172, 3, 172]
abbrev dktX0_stateOf_0 : List UInt8 := dkwX0_stateOf_0 ++ []
theorem dksX0_stateOf_0 : cX0_stateOf.data.toList.drop 0 = dktX0_stateOf_0 := by decide +kernel
theorem dX0_stateOf_0 : decode cX0_stateOf 0 = .ok (.aload_n 2, 1) := dk_44 (dk_at dksX0_stateOf_0 0 rfl rfl)
theorem dX0_stateOf_1 : decode cX0_stateOf 1 = .ok (.iconst 0, 1) := dk_3 (dk_at dksX0_stateOf_0 1 rfl rfl)
theorem dX0_stateOf_2 : decode cX0_stateOf 2 = .ok (.aload_n 0, 1) := dk_42 (dk_at dksX0_stateOf_0 2 rfl rfl)
theorem dX0_stateOf_3 : decode cX0_stateOf 3 = .ok (.iload_n 1, 1) := dk_27 (dk_at dksX0_stateOf_0 3 rfl rfl)
theorem dX0_stateOf_4 : decode cX0_stateOf 4 = .ok (.invokevirtual 64, 3) := dk_182 0 64 (dk_at dksX0_stateOf_0 4 rfl rfl)
theorem dX0_stateOf_7 : decode cX0_stateOf 7 = .ok (.i2l, 1) := dk_133 (dk_at dksX0_stateOf_0 7 rfl rfl)
theorem dX0_stateOf_8 : decode cX0_stateOf 8 = .ok (.lastore, 1) := dk_80 (dk_at dksX0_stateOf_0 8 rfl rfl)
theorem dX0_stateOf_9 : decode cX0_stateOf 9 = .ok (.goto 6, 3) := dk_167 0 6 (dk_at dksX0_stateOf_0 9 rfl rfl)
theorem dX0_stateOf_12 : decode cX0_stateOf 12 = .ok (.astore_n 3, 1) := dk_78 (dk_at dksX0_stateOf_0 12 rfl rfl)
theorem dX0_stateOf_13 : decode cX0_stateOf 13 = .ok (.iconst 1, 1) := dk_4 (dk_at dksX0_stateOf_0 13 rfl rfl)
theorem dX0_stateOf_14 : decode cX0_stateOf 14 = .ok (.ireturn, 1) := dk_172 (dk_at dksX0_stateOf_0 14 rfl rfl)
theorem dX0_stateOf_15 : decode cX0_stateOf 15 = .ok (.iconst 0, 1) := dk_3 (dk_at dksX0_stateOf_0 15 rfl rfl)
theorem dX0_stateOf_16 : decode cX0_stateOf 16 = .ok (.ireturn, 1) := dk_172 (dk_at dksX0_stateOf_0 16 rfl rfl)
abbrev cX0_isSplit : ByteArray := method_18_code
def yX0_isSplit : MethodName := ⟨RX0, "isSplit", "(LTownPurse;I[J)I"⟩
def dkwX0_isSplit_0 : List UInt8 := [44, 3, 42, 27, 182, 0, 67, 153, 0, 7, 10, 167, 0, 4, 9, 80, 167, 0, 6, 78, 4, 172, 3, 172]
abbrev dktX0_isSplit_0 : List UInt8 := dkwX0_isSplit_0 ++ []
theorem dksX0_isSplit_0 : cX0_isSplit.data.toList.drop 0 = dktX0_isSplit_0 := by decide +kernel
theorem dX0_isSplit_0 : decode cX0_isSplit 0 = .ok (.aload_n 2, 1) := dk_44 (dk_at dksX0_isSplit_0 0 rfl rfl)
theorem dX0_isSplit_1 : decode cX0_isSplit 1 = .ok (.iconst 0, 1) := dk_3 (dk_at dksX0_isSplit_0 1 rfl rfl)
theorem dX0_isSplit_2 : decode cX0_isSplit 2 = .ok (.aload_n 0, 1) := dk_42 (dk_at dksX0_isSplit_0 2 rfl rfl)
theorem dX0_isSplit_3 : decode cX0_isSplit 3 = .ok (.iload_n 1, 1) := dk_27 (dk_at dksX0_isSplit_0 3 rfl rfl)
theorem dX0_isSplit_4 : decode cX0_isSplit 4 = .ok (.invokevirtual 67, 3) := dk_182 0 67 (dk_at dksX0_isSplit_0 4 rfl rfl)
theorem dX0_isSplit_7 : decode cX0_isSplit 7 = .ok (.ifCond .eq 7, 3) := dk_153 0 7 (dk_at dksX0_isSplit_0 7 rfl rfl)
theorem dX0_isSplit_10 : decode cX0_isSplit 10 = .ok (.lconst 1, 1) := dk_10 (dk_at dksX0_isSplit_0 10 rfl rfl)
theorem dX0_isSplit_11 : decode cX0_isSplit 11 = .ok (.goto 4, 3) := dk_167 0 4 (dk_at dksX0_isSplit_0 11 rfl rfl)
theorem dX0_isSplit_14 : decode cX0_isSplit 14 = .ok (.lconst 0, 1) := dk_9 (dk_at dksX0_isSplit_0 14 rfl rfl)
theorem dX0_isSplit_15 : decode cX0_isSplit 15 = .ok (.lastore, 1) := dk_80 (dk_at dksX0_isSplit_0 15 rfl rfl)
theorem dX0_isSplit_16 : decode cX0_isSplit 16 = .ok (.goto 6, 3) := dk_167 0 6 (dk_at dksX0_isSplit_0 16 rfl rfl)
theorem dX0_isSplit_19 : decode cX0_isSplit 19 = .ok (.astore_n 3, 1) := dk_78 (dk_at dksX0_isSplit_0 19 rfl rfl)
theorem dX0_isSplit_20 : decode cX0_isSplit 20 = .ok (.iconst 1, 1) := dk_4 (dk_at dksX0_isSplit_0 20 rfl rfl)
theorem dX0_isSplit_21 : decode cX0_isSplit 21 = .ok (.ireturn, 1) := dk_172 (dk_at dksX0_isSplit_0 21 rfl rfl)
theorem dX0_isSplit_22 : decode cX0_isSplit 22 = .ok (.iconst 0, 1) := dk_3 (dk_at dksX0_isSplit_0 22 rfl rfl)
theorem dX0_isSplit_23 : decode cX0_isSplit 23 = .ok (.ireturn, 1) := dk_172 (dk_at dksX0_isSplit_0 23 rfl rfl)
abbrev cX0_advance : ByteArray := method_19_code
def yX0_advance : MethodName := ⟨RX0, "advance", "(LTownPurse;II[J)I"⟩
def dkwX0_advance_1 : List UInt8 := [172, 3, 172]
abbrev dktX0_advance_1 : List UInt8 := dkwX0_advance_1 ++ []
def dkwX0_advance_0 : List UInt8 := [45, 3, 42, 27, 28, 182, 0, 70, 133, 80, 167, 0, 15, 58, 4, 4, 172, 58, 4, 5, 172, 58, 4, 6]
abbrev dktX0_advance_0 : List UInt8 := dkwX0_advance_0 ++ dktX0_advance_1
theorem dksX0_advance_0 : cX0_advance.data.toList.drop 0 = dktX0_advance_0 := by decide +kernel
theorem dksX0_advance_1 : cX0_advance.data.toList.drop 24 = dktX0_advance_1 := dk_seg dksX0_advance_0 24 rfl rfl
theorem dX0_advance_0 : decode cX0_advance 0 = .ok (.aload_n 3, 1) := dk_45 (dk_at dksX0_advance_0 0 rfl rfl)
theorem dX0_advance_1 : decode cX0_advance 1 = .ok (.iconst 0, 1) := dk_3 (dk_at dksX0_advance_0 1 rfl rfl)
theorem dX0_advance_2 : decode cX0_advance 2 = .ok (.aload_n 0, 1) := dk_42 (dk_at dksX0_advance_0 2 rfl rfl)
theorem dX0_advance_3 : decode cX0_advance 3 = .ok (.iload_n 1, 1) := dk_27 (dk_at dksX0_advance_0 3 rfl rfl)
theorem dX0_advance_4 : decode cX0_advance 4 = .ok (.iload_n 2, 1) := dk_28 (dk_at dksX0_advance_0 4 rfl rfl)
theorem dX0_advance_5 : decode cX0_advance 5 = .ok (.invokevirtual 70, 3) := dk_182 0 70 (dk_at dksX0_advance_0 5 rfl rfl)
theorem dX0_advance_8 : decode cX0_advance 8 = .ok (.i2l, 1) := dk_133 (dk_at dksX0_advance_0 8 rfl rfl)
theorem dX0_advance_9 : decode cX0_advance 9 = .ok (.lastore, 1) := dk_80 (dk_at dksX0_advance_0 9 rfl rfl)
theorem dX0_advance_10 : decode cX0_advance 10 = .ok (.goto 15, 3) := dk_167 0 15 (dk_at dksX0_advance_0 10 rfl rfl)
theorem dX0_advance_13 : decode cX0_advance 13 = .ok (.astore 4, 2) := dk_58 4 (dk_at dksX0_advance_0 13 rfl rfl)
theorem dX0_advance_15 : decode cX0_advance 15 = .ok (.iconst 1, 1) := dk_4 (dk_at dksX0_advance_0 15 rfl rfl)
theorem dX0_advance_16 : decode cX0_advance 16 = .ok (.ireturn, 1) := dk_172 (dk_at dksX0_advance_0 16 rfl rfl)
theorem dX0_advance_17 : decode cX0_advance 17 = .ok (.astore 4, 2) := dk_58 4 (dk_at dksX0_advance_0 17 rfl rfl)
theorem dX0_advance_19 : decode cX0_advance 19 = .ok (.iconst 2, 1) := dk_5 (dk_at dksX0_advance_0 19 rfl rfl)
theorem dX0_advance_20 : decode cX0_advance 20 = .ok (.ireturn, 1) := dk_172 (dk_at dksX0_advance_0 20 rfl rfl)
theorem dX0_advance_21 : decode cX0_advance 21 = .ok (.astore 4, 2) := dk_58 4 (dk_at dksX0_advance_0 21 rfl rfl)
theorem dX0_advance_23 : decode cX0_advance 23 = .ok (.iconst 3, 1) := dk_6 (dk_at dksX0_advance_0 23 rfl rfl)
theorem dX0_advance_24 : decode cX0_advance 24 = .ok (.ireturn, 1) := dk_172 (dk_at dksX0_advance_1 0 rfl rfl)
theorem dX0_advance_25 : decode cX0_advance 25 = .ok (.iconst 0, 1) := dk_3 (dk_at dksX0_advance_1 1 rfl rfl)
theorem dX0_advance_26 : decode cX0_advance 26 = .ok (.ireturn, 1) := dk_172 (dk_at dksX0_advance_1 2 rfl rfl)
abbrev cX0_settle : ByteArray := method_20_code
def yX0_settle : MethodName := ⟨RX0, "settle", "(LTownPurse;III[J)I"⟩
def dkwX0_settle_1 : List UInt8 := [58, 5, 6, 172, 3, 172]
abbrev dktX0_settle_1 : List UInt8 := dkwX0_settle_1 ++ []
def dkwX0_settle_0 : List UInt8 := [25, 4, 3, 42, 27, 28, 29, 182, 0, 73, 133, 80, 167, 0, 15, 58, 5, 4, 172, 58, 5, 5, 172]
abbrev dktX0_settle_0 : List UInt8 := dkwX0_settle_0 ++ dktX0_settle_1
theorem dksX0_settle_0 : cX0_settle.data.toList.drop 0 = dktX0_settle_0 := by decide +kernel
theorem dksX0_settle_1 : cX0_settle.data.toList.drop 23 = dktX0_settle_1 := dk_seg dksX0_settle_0 23 rfl rfl
theorem dX0_settle_0 : decode cX0_settle 0 = .ok (.aload 4, 2) := dk_25 4 (dk_at dksX0_settle_0 0 rfl rfl)
theorem dX0_settle_2 : decode cX0_settle 2 = .ok (.iconst 0, 1) := dk_3 (dk_at dksX0_settle_0 2 rfl rfl)
theorem dX0_settle_3 : decode cX0_settle 3 = .ok (.aload_n 0, 1) := dk_42 (dk_at dksX0_settle_0 3 rfl rfl)
theorem dX0_settle_4 : decode cX0_settle 4 = .ok (.iload_n 1, 1) := dk_27 (dk_at dksX0_settle_0 4 rfl rfl)
theorem dX0_settle_5 : decode cX0_settle 5 = .ok (.iload_n 2, 1) := dk_28 (dk_at dksX0_settle_0 5 rfl rfl)
theorem dX0_settle_6 : decode cX0_settle 6 = .ok (.iload_n 3, 1) := dk_29 (dk_at dksX0_settle_0 6 rfl rfl)
theorem dX0_settle_7 : decode cX0_settle 7 = .ok (.invokevirtual 73, 3) := dk_182 0 73 (dk_at dksX0_settle_0 7 rfl rfl)
theorem dX0_settle_10 : decode cX0_settle 10 = .ok (.i2l, 1) := dk_133 (dk_at dksX0_settle_0 10 rfl rfl)
theorem dX0_settle_11 : decode cX0_settle 11 = .ok (.lastore, 1) := dk_80 (dk_at dksX0_settle_0 11 rfl rfl)
theorem dX0_settle_12 : decode cX0_settle 12 = .ok (.goto 15, 3) := dk_167 0 15 (dk_at dksX0_settle_0 12 rfl rfl)
theorem dX0_settle_15 : decode cX0_settle 15 = .ok (.astore 5, 2) := dk_58 5 (dk_at dksX0_settle_0 15 rfl rfl)
theorem dX0_settle_17 : decode cX0_settle 17 = .ok (.iconst 1, 1) := dk_4 (dk_at dksX0_settle_0 17 rfl rfl)
theorem dX0_settle_18 : decode cX0_settle 18 = .ok (.ireturn, 1) := dk_172 (dk_at dksX0_settle_0 18 rfl rfl)
theorem dX0_settle_19 : decode cX0_settle 19 = .ok (.astore 5, 2) := dk_58 5 (dk_at dksX0_settle_0 19 rfl rfl)
theorem dX0_settle_21 : decode cX0_settle 21 = .ok (.iconst 2, 1) := dk_5 (dk_at dksX0_settle_0 21 rfl rfl)
theorem dX0_settle_22 : decode cX0_settle 22 = .ok (.ireturn, 1) := dk_172 (dk_at dksX0_settle_0 22 rfl rfl)
theorem dX0_settle_23 : decode cX0_settle 23 = .ok (.astore 5, 2) := dk_58 5 (dk_at dksX0_settle_1 0 rfl rfl)
theorem dX0_settle_25 : decode cX0_settle 25 = .ok (.iconst 3, 1) := dk_6 (dk_at dksX0_settle_1 2 rfl rfl)
theorem dX0_settle_26 : decode cX0_settle 26 = .ok (.ireturn, 1) := dk_172 (dk_at dksX0_settle_1 3 rfl rfl)
theorem dX0_settle_27 : decode cX0_settle 27 = .ok (.iconst 0, 1) := dk_3 (dk_at dksX0_settle_1 4 rfl rfl)
theorem dX0_settle_28 : decode cX0_settle 28 = .ok (.ireturn, 1) := dk_172 (dk_at dksX0_settle_1 5 rfl rfl)
theorem q17 : (Jvm.Cond.initialized "TownPurseLaw") ∈ lw_all := lw_g (lw_at lw_m1 0 rfl) rfl
theorem q45 : (Jvm.Cond.classLink "TownPurseLaw" (8 : Nat) "TownPurse") ∈ lw_all := lw_g (lw_at lw_m1 28 rfl) rfl
theorem q47 : (Jvm.Cond.methodLink "TownPurseLaw" (77 : Nat) ({ cls := "TownPurse", name := "<init>", desc := "()V" } : Jvm.MethodName)) ∈ lw_all := lw_g (lw_at lw_m1 30 rfl) rfl
theorem q193 : (Jvm.Cond.methodLink "TownPurseLaw" (98 : Nat) ({ cls := "TownPurse", name := "period", desc := "()I" } : Jvm.MethodName)) ∈ lw_all := lw_g (lw_at lw_m1 176 rfl) rfl
theorem q197 : (Jvm.Cond.methodLink "TownPurseLaw" (102 : Nat) ({ cls := "TownPurse", name := "entries", desc := "()I" } : Jvm.MethodName)) ∈ lw_all := lw_g (lw_at lw_m1 180 rfl) rfl
theorem q205 : (Jvm.Cond.methodLink "TownPurseLaw" (81 : Nat) ({ cls := "TownPurseLaw", name := "addAccount", desc := "(LTownPurse;I[J)I" } : Jvm.MethodName)) ∈ lw_all := lw_g (lw_at lw_m1 188 rfl) rfl
theorem q206 : (Jvm.Cond.static ({ cls := "TownPurseLaw", name := "addAccount", desc := "(LTownPurse;I[J)I" } : Jvm.MethodName)) ∈ lw_all := lw_g (lw_at lw_m1 189 rfl) rfl
theorem q207 : (Jvm.Cond.codeWith ({ cls := "TownPurseLaw", name := "addAccount", desc := "(LTownPurse;I[J)I" } : Jvm.MethodName) method_3_code (4 : Nat) (Option.some Jvm.ClassFile.FieldType.int) [((0 : Nat), (9 : Nat), (12 : Nat), (13 : Nat)), ((0 : Nat), (9 : Nat), (15 : Nat), (15 : Nat))]) ∈ lw_all := lw_g (lw_at lw_m1 190 rfl) rfl
theorem q208 : (Jvm.Cond.classLink "TownPurseLaw" (13 : Nat) "java/lang/IndexOutOfBoundsException") ∈ lw_all := lw_g (lw_at lw_m1 191 rfl) rfl
theorem q285 : (Jvm.Cond.classLink "TownPurseLaw" (15 : Nat) "java/lang/IllegalStateException") ∈ lw_all := lw_g (lw_at lw_m2 28 rfl) rfl
theorem q286 : (Jvm.Cond.methodLink "TownPurseLaw" (7 : Nat) ({ cls := "TownPurse", name := "addAccount", desc := "(I)I" } : Jvm.MethodName)) ∈ lw_all := lw_g (lw_at lw_m2 29 rfl) rfl
theorem q349 : (Jvm.Cond.methodLink "TownPurseLaw" (90 : Nat) ({ cls := "TownPurseLaw", name := "enter", desc := "(LTownPurse;IIII[J)I" } : Jvm.MethodName)) ∈ lw_all := lw_g (lw_at lw_m2 92 rfl) rfl
theorem q350 : (Jvm.Cond.static ({ cls := "TownPurseLaw", name := "enter", desc := "(LTownPurse;IIII[J)I" } : Jvm.MethodName)) ∈ lw_all := lw_g (lw_at lw_m2 93 rfl) rfl
theorem q351 : (Jvm.Cond.codeWith ({ cls := "TownPurseLaw", name := "enter", desc := "(LTownPurse;IIII[J)I" } : Jvm.MethodName) method_4_code (7 : Nat) (Option.some Jvm.ClassFile.FieldType.int) [((0 : Nat), (14 : Nat), (17 : Nat), (13 : Nat)), ((0 : Nat), (14 : Nat), (21 : Nat), (21 : Nat)), ((0 : Nat), (14 : Nat), (25 : Nat), (15 : Nat))]) ∈ lw_all := lw_g (lw_at lw_m2 94 rfl) rfl
theorem q352 : (Jvm.Cond.classLink "TownPurseLaw" (21 : Nat) "java/lang/IllegalArgumentException") ∈ lw_all := lw_g (lw_at lw_m2 95 rfl) rfl
theorem q353 : (Jvm.Cond.methodLink "TownPurseLaw" (17 : Nat) ({ cls := "TownPurse", name := "enter", desc := "(IIII)I" } : Jvm.MethodName)) ∈ lw_all := lw_g (lw_at lw_m2 96 rfl) rfl
theorem q495 : (Jvm.Cond.methodLink "TownPurseLaw" (94 : Nat) ({ cls := "TownPurseLaw", name := "close", desc := "(LTownPurse;[J)I" } : Jvm.MethodName)) ∈ lw_all := lw_g (lw_at lw_m2 238 rfl) rfl
theorem q496 : (Jvm.Cond.static ({ cls := "TownPurseLaw", name := "close", desc := "(LTownPurse;[J)I" } : Jvm.MethodName)) ∈ lw_all := lw_g (lw_at lw_m2 239 rfl) rfl
theorem q497 : (Jvm.Cond.codeWith ({ cls := "TownPurseLaw", name := "close", desc := "(LTownPurse;[J)I" } : Jvm.MethodName) method_5_code (3 : Nat) (Option.some Jvm.ClassFile.FieldType.int) [((0 : Nat), (8 : Nat), (11 : Nat), (15 : Nat))]) ∈ lw_all := lw_g (lw_at lw_m3 0 rfl) rfl
theorem q498 : (Jvm.Cond.methodLink "TownPurseLaw" (23 : Nat) ({ cls := "TownPurse", name := "close", desc := "()I" } : Jvm.MethodName)) ∈ lw_all := lw_g (lw_at lw_m3 1 rfl) rfl
theorem q502 : (Jvm.Cond.methodLink "TownPurseLaw" (106 : Nat) ({ cls := "TownPurseLaw", name := "periodOf", desc := "(LTownPurse;I[J)I" } : Jvm.MethodName)) ∈ lw_all := lw_g (lw_at lw_m3 5 rfl) rfl
theorem q503 : (Jvm.Cond.static ({ cls := "TownPurseLaw", name := "periodOf", desc := "(LTownPurse;I[J)I" } : Jvm.MethodName)) ∈ lw_all := lw_g (lw_at lw_m3 6 rfl) rfl
theorem q504 : (Jvm.Cond.codeWith ({ cls := "TownPurseLaw", name := "periodOf", desc := "(LTownPurse;I[J)I" } : Jvm.MethodName) method_6_code (4 : Nat) (Option.some Jvm.ClassFile.FieldType.int) [((0 : Nat), (9 : Nat), (12 : Nat), (13 : Nat))]) ∈ lw_all := lw_g (lw_at lw_m3 7 rfl) rfl
theorem q505 : (Jvm.Cond.methodLink "TownPurseLaw" (27 : Nat) ({ cls := "TownPurse", name := "periodOf", desc := "(I)I" } : Jvm.MethodName)) ∈ lw_all := lw_g (lw_at lw_m3 8 rfl) rfl
theorem q510 : (Jvm.Cond.methodLink "TownPurseLaw" (109 : Nat) ({ cls := "TownPurseLaw", name := "isLate", desc := "(LTownPurse;I[J)I" } : Jvm.MethodName)) ∈ lw_all := lw_g (lw_at lw_m3 13 rfl) rfl
theorem q511 : (Jvm.Cond.static ({ cls := "TownPurseLaw", name := "isLate", desc := "(LTownPurse;I[J)I" } : Jvm.MethodName)) ∈ lw_all := lw_g (lw_at lw_m3 14 rfl) rfl
theorem q512 : (Jvm.Cond.codeWith ({ cls := "TownPurseLaw", name := "isLate", desc := "(LTownPurse;I[J)I" } : Jvm.MethodName) method_7_code (4 : Nat) (Option.some Jvm.ClassFile.FieldType.int) [((0 : Nat), (16 : Nat), (19 : Nat), (13 : Nat))]) ∈ lw_all := lw_g (lw_at lw_m3 15 rfl) rfl
theorem q513 : (Jvm.Cond.methodLink "TownPurseLaw" (30 : Nat) ({ cls := "TownPurse", name := "isLate", desc := "(I)Z" } : Jvm.MethodName)) ∈ lw_all := lw_g (lw_at lw_m3 16 rfl) rfl
theorem q531 : (Jvm.Cond.methodLink "TownPurseLaw" (112 : Nat) ({ cls := "TownPurseLaw", name := "balance", desc := "(LTownPurse;II[J)I" } : Jvm.MethodName)) ∈ lw_all := lw_g (lw_at lw_m3 34 rfl) rfl
theorem q532 : (Jvm.Cond.static ({ cls := "TownPurseLaw", name := "balance", desc := "(LTownPurse;II[J)I" } : Jvm.MethodName)) ∈ lw_all := lw_g (lw_at lw_m3 35 rfl) rfl
theorem q533 : (Jvm.Cond.codeWith ({ cls := "TownPurseLaw", name := "balance", desc := "(LTownPurse;II[J)I" } : Jvm.MethodName) method_8_code (5 : Nat) (Option.some Jvm.ClassFile.FieldType.int) [((0 : Nat), (10 : Nat), (13 : Nat), (13 : Nat)), ((0 : Nat), (10 : Nat), (17 : Nat), (21 : Nat))]) ∈ lw_all := lw_g (lw_at lw_m3 36 rfl) rfl
theorem q534 : (Jvm.Cond.methodLink "TownPurseLaw" (34 : Nat) ({ cls := "TownPurse", name := "balance", desc := "(II)I" } : Jvm.MethodName)) ∈ lw_all := lw_g (lw_at lw_m3 37 rfl) rfl
theorem q541 : (Jvm.Cond.methodLink "TownPurseLaw" (116 : Nat) ({ cls := "TownPurseLaw", name := "balanceByEntries", desc := "(LTownPurse;II[J)I" } : Jvm.MethodName)) ∈ lw_all := lw_g (lw_at lw_m3 44 rfl) rfl
theorem q542 : (Jvm.Cond.static ({ cls := "TownPurseLaw", name := "balanceByEntries", desc := "(LTownPurse;II[J)I" } : Jvm.MethodName)) ∈ lw_all := lw_g (lw_at lw_m3 45 rfl) rfl
theorem q543 : (Jvm.Cond.codeWith ({ cls := "TownPurseLaw", name := "balanceByEntries", desc := "(LTownPurse;II[J)I" } : Jvm.MethodName) method_9_code (5 : Nat) (Option.some Jvm.ClassFile.FieldType.int) [((0 : Nat), (10 : Nat), (13 : Nat), (13 : Nat)), ((0 : Nat), (10 : Nat), (17 : Nat), (21 : Nat))]) ∈ lw_all := lw_g (lw_at lw_m3 46 rfl) rfl
theorem q544 : (Jvm.Cond.methodLink "TownPurseLaw" (38 : Nat) ({ cls := "TownPurse", name := "balanceByEntries", desc := "(II)I" } : Jvm.MethodName)) ∈ lw_all := lw_g (lw_at lw_m3 47 rfl) rfl
theorem q568 : (Jvm.Cond.methodLink "TownPurseLaw" (119 : Nat) ({ cls := "TownPurseLaw", name := "grant", desc := "(LTownPurse;II)I" } : Jvm.MethodName)) ∈ lw_all := lw_g (lw_at lw_m3 71 rfl) rfl
theorem q569 : (Jvm.Cond.static ({ cls := "TownPurseLaw", name := "grant", desc := "(LTownPurse;II)I" } : Jvm.MethodName)) ∈ lw_all := lw_g (lw_at lw_m3 72 rfl) rfl
theorem q570 : (Jvm.Cond.codeWith ({ cls := "TownPurseLaw", name := "grant", desc := "(LTownPurse;II)I" } : Jvm.MethodName) method_10_code (4 : Nat) (Option.some Jvm.ClassFile.FieldType.int) [((0 : Nat), (6 : Nat), (9 : Nat), (13 : Nat)), ((0 : Nat), (6 : Nat), (12 : Nat), (21 : Nat)), ((0 : Nat), (6 : Nat), (15 : Nat), (15 : Nat))]) ∈ lw_all := lw_g (lw_at lw_m3 73 rfl) rfl
theorem q571 : (Jvm.Cond.methodLink "TownPurseLaw" (41 : Nat) ({ cls := "TownPurse", name := "grant", desc := "(II)V" } : Jvm.MethodName)) ∈ lw_all := lw_g (lw_at lw_m3 74 rfl) rfl
theorem q575 : (Jvm.Cond.methodLink "TownPurseLaw" (123 : Nat) ({ cls := "TownPurseLaw", name := "amend", desc := "(LTownPurse;IIIZ[J)I" } : Jvm.MethodName)) ∈ lw_all := lw_g (lw_at lw_m3 78 rfl) rfl
theorem q576 : (Jvm.Cond.static ({ cls := "TownPurseLaw", name := "amend", desc := "(LTownPurse;IIIZ[J)I" } : Jvm.MethodName)) ∈ lw_all := lw_g (lw_at lw_m3 79 rfl) rfl
theorem q577 : (Jvm.Cond.codeWith ({ cls := "TownPurseLaw", name := "amend", desc := "(LTownPurse;IIIZ[J)I" } : Jvm.MethodName) method_11_code (7 : Nat) (Option.some Jvm.ClassFile.FieldType.int) [((0 : Nat), (14 : Nat), (17 : Nat), (13 : Nat)), ((0 : Nat), (14 : Nat), (21 : Nat), (21 : Nat)), ((0 : Nat), (14 : Nat), (25 : Nat), (15 : Nat))]) ∈ lw_all := lw_g (lw_at lw_m3 80 rfl) rfl
theorem q578 : (Jvm.Cond.methodLink "TownPurseLaw" (45 : Nat) ({ cls := "TownPurse", name := "amend", desc := "(IIIZ)I" } : Jvm.MethodName)) ∈ lw_all := lw_g (lw_at lw_m3 81 rfl) rfl
theorem q586 : (Jvm.Cond.methodLink "TownPurseLaw" (127 : Nat) ({ cls := "TownPurseLaw", name := "left", desc := "(LTownPurse;I[J)I" } : Jvm.MethodName)) ∈ lw_all := lw_g (lw_at lw_m3 89 rfl) rfl
theorem q587 : (Jvm.Cond.static ({ cls := "TownPurseLaw", name := "left", desc := "(LTownPurse;I[J)I" } : Jvm.MethodName)) ∈ lw_all := lw_g (lw_at lw_m3 90 rfl) rfl
theorem q588 : (Jvm.Cond.codeWith ({ cls := "TownPurseLaw", name := "left", desc := "(LTownPurse;I[J)I" } : Jvm.MethodName) method_12_code (4 : Nat) (Option.some Jvm.ClassFile.FieldType.int) [((0 : Nat), (9 : Nat), (12 : Nat), (13 : Nat))]) ∈ lw_all := lw_g (lw_at lw_m3 91 rfl) rfl
theorem q589 : (Jvm.Cond.methodLink "TownPurseLaw" (49 : Nat) ({ cls := "TownPurse", name := "left", desc := "(I)I" } : Jvm.MethodName)) ∈ lw_all := lw_g (lw_at lw_m3 92 rfl) rfl
theorem q593 : (Jvm.Cond.methodLink "TownPurseLaw" (130 : Nat) ({ cls := "TownPurseLaw", name := "setLimit", desc := "(LTownPurse;I[J)I" } : Jvm.MethodName)) ∈ lw_all := lw_g (lw_at lw_m3 96 rfl) rfl
theorem q594 : (Jvm.Cond.static ({ cls := "TownPurseLaw", name := "setLimit", desc := "(LTownPurse;I[J)I" } : Jvm.MethodName)) ∈ lw_all := lw_g (lw_at lw_m3 97 rfl) rfl
theorem q595 : (Jvm.Cond.codeWith ({ cls := "TownPurseLaw", name := "setLimit", desc := "(LTownPurse;I[J)I" } : Jvm.MethodName) method_13_code (4 : Nat) (Option.some Jvm.ClassFile.FieldType.int) [((0 : Nat), (9 : Nat), (12 : Nat), (21 : Nat))]) ∈ lw_all := lw_g (lw_at lw_m3 98 rfl) rfl
theorem q596 : (Jvm.Cond.methodLink "TownPurseLaw" (52 : Nat) ({ cls := "TownPurse", name := "setLimit", desc := "(I)I" } : Jvm.MethodName)) ∈ lw_all := lw_g (lw_at lw_m3 99 rfl) rfl
theorem q600 : (Jvm.Cond.methodLink "TownPurseLaw" (133 : Nat) ({ cls := "TownPurseLaw", name := "prepare", desc := "(LTownPurse;IIII[J)I" } : Jvm.MethodName)) ∈ lw_all := lw_g (lw_at lw_m3 103 rfl) rfl
theorem q601 : (Jvm.Cond.static ({ cls := "TownPurseLaw", name := "prepare", desc := "(LTownPurse;IIII[J)I" } : Jvm.MethodName)) ∈ lw_all := lw_g (lw_at lw_m3 104 rfl) rfl
theorem q602 : (Jvm.Cond.codeWith ({ cls := "TownPurseLaw", name := "prepare", desc := "(LTownPurse;IIII[J)I" } : Jvm.MethodName) method_14_code (7 : Nat) (Option.some Jvm.ClassFile.FieldType.int) [((0 : Nat), (14 : Nat), (17 : Nat), (13 : Nat)), ((0 : Nat), (14 : Nat), (21 : Nat), (21 : Nat)), ((0 : Nat), (14 : Nat), (25 : Nat), (15 : Nat))]) ∈ lw_all := lw_g (lw_at lw_m3 105 rfl) rfl
theorem q603 : (Jvm.Cond.methodLink "TownPurseLaw" (55 : Nat) ({ cls := "TownPurse", name := "prepare", desc := "(IIII)I" } : Jvm.MethodName)) ∈ lw_all := lw_g (lw_at lw_m3 106 rfl) rfl
theorem q645 : (Jvm.Cond.methodLink "TownPurseLaw" (136 : Nat) ({ cls := "TownPurseLaw", name := "release", desc := "(LTownPurse;II[J)I" } : Jvm.MethodName)) ∈ lw_all := lw_g (lw_at lw_m3 148 rfl) rfl
theorem q646 : (Jvm.Cond.static ({ cls := "TownPurseLaw", name := "release", desc := "(LTownPurse;II[J)I" } : Jvm.MethodName)) ∈ lw_all := lw_g (lw_at lw_m3 149 rfl) rfl
theorem q647 : (Jvm.Cond.codeWith ({ cls := "TownPurseLaw", name := "release", desc := "(LTownPurse;II[J)I" } : Jvm.MethodName) method_15_code (5 : Nat) (Option.some Jvm.ClassFile.FieldType.int) [((0 : Nat), (10 : Nat), (13 : Nat), (13 : Nat)), ((0 : Nat), (10 : Nat), (17 : Nat), (15 : Nat))]) ∈ lw_all := lw_g (lw_at lw_m3 150 rfl) rfl
theorem q648 : (Jvm.Cond.methodLink "TownPurseLaw" (58 : Nat) ({ cls := "TownPurse", name := "release", desc := "(II)I" } : Jvm.MethodName)) ∈ lw_all := lw_g (lw_at lw_m3 151 rfl) rfl
theorem q684 : (Jvm.Cond.methodLink "TownPurseLaw" (139 : Nat) ({ cls := "TownPurseLaw", name := "refuse", desc := "(LTownPurse;I[J)I" } : Jvm.MethodName)) ∈ lw_all := lw_g (lw_at lw_m3 187 rfl) rfl
theorem q685 : (Jvm.Cond.static ({ cls := "TownPurseLaw", name := "refuse", desc := "(LTownPurse;I[J)I" } : Jvm.MethodName)) ∈ lw_all := lw_g (lw_at lw_m3 188 rfl) rfl
theorem q686 : (Jvm.Cond.codeWith ({ cls := "TownPurseLaw", name := "refuse", desc := "(LTownPurse;I[J)I" } : Jvm.MethodName) method_16_code (4 : Nat) (Option.some Jvm.ClassFile.FieldType.int) [((0 : Nat), (9 : Nat), (12 : Nat), (13 : Nat)), ((0 : Nat), (9 : Nat), (15 : Nat), (15 : Nat))]) ∈ lw_all := lw_g (lw_at lw_m3 189 rfl) rfl
theorem q687 : (Jvm.Cond.methodLink "TownPurseLaw" (61 : Nat) ({ cls := "TownPurse", name := "refuse", desc := "(I)I" } : Jvm.MethodName)) ∈ lw_all := lw_g (lw_at lw_m3 190 rfl) rfl
theorem q697 : (Jvm.Cond.methodLink "TownPurseLaw" (142 : Nat) ({ cls := "TownPurseLaw", name := "stateOf", desc := "(LTownPurse;I[J)I" } : Jvm.MethodName)) ∈ lw_all := lw_g (lw_at lw_m3 200 rfl) rfl
theorem q698 : (Jvm.Cond.static ({ cls := "TownPurseLaw", name := "stateOf", desc := "(LTownPurse;I[J)I" } : Jvm.MethodName)) ∈ lw_all := lw_g (lw_at lw_m3 201 rfl) rfl
theorem q699 : (Jvm.Cond.codeWith ({ cls := "TownPurseLaw", name := "stateOf", desc := "(LTownPurse;I[J)I" } : Jvm.MethodName) method_17_code (4 : Nat) (Option.some Jvm.ClassFile.FieldType.int) [((0 : Nat), (9 : Nat), (12 : Nat), (13 : Nat))]) ∈ lw_all := lw_g (lw_at lw_m3 202 rfl) rfl
theorem q700 : (Jvm.Cond.methodLink "TownPurseLaw" (64 : Nat) ({ cls := "TownPurse", name := "stateOf", desc := "(I)I" } : Jvm.MethodName)) ∈ lw_all := lw_g (lw_at lw_m3 203 rfl) rfl
theorem q712 : (Jvm.Cond.methodLink "TownPurseLaw" (145 : Nat) ({ cls := "TownPurseLaw", name := "isSplit", desc := "(LTownPurse;I[J)I" } : Jvm.MethodName)) ∈ lw_all := lw_g (lw_at lw_m3 215 rfl) rfl
theorem q713 : (Jvm.Cond.static ({ cls := "TownPurseLaw", name := "isSplit", desc := "(LTownPurse;I[J)I" } : Jvm.MethodName)) ∈ lw_all := lw_g (lw_at lw_m3 216 rfl) rfl
theorem q714 : (Jvm.Cond.codeWith ({ cls := "TownPurseLaw", name := "isSplit", desc := "(LTownPurse;I[J)I" } : Jvm.MethodName) method_18_code (4 : Nat) (Option.some Jvm.ClassFile.FieldType.int) [((0 : Nat), (16 : Nat), (19 : Nat), (13 : Nat))]) ∈ lw_all := lw_g (lw_at lw_m3 217 rfl) rfl
theorem q715 : (Jvm.Cond.methodLink "TownPurseLaw" (67 : Nat) ({ cls := "TownPurse", name := "isSplit", desc := "(I)Z" } : Jvm.MethodName)) ∈ lw_all := lw_g (lw_at lw_m3 218 rfl) rfl
theorem q719 : (Jvm.Cond.methodLink "TownPurseLaw" (148 : Nat) ({ cls := "TownPurseLaw", name := "advance", desc := "(LTownPurse;II[J)I" } : Jvm.MethodName)) ∈ lw_all := lw_g (lw_at lw_m3 222 rfl) rfl
theorem q720 : (Jvm.Cond.static ({ cls := "TownPurseLaw", name := "advance", desc := "(LTownPurse;II[J)I" } : Jvm.MethodName)) ∈ lw_all := lw_g (lw_at lw_m3 223 rfl) rfl
theorem q721 : (Jvm.Cond.codeWith ({ cls := "TownPurseLaw", name := "advance", desc := "(LTownPurse;II[J)I" } : Jvm.MethodName) method_19_code (5 : Nat) (Option.some Jvm.ClassFile.FieldType.int) [((0 : Nat), (10 : Nat), (13 : Nat), (13 : Nat)), ((0 : Nat), (10 : Nat), (17 : Nat), (21 : Nat)), ((0 : Nat), (10 : Nat), (21 : Nat), (15 : Nat))]) ∈ lw_all := lw_g (lw_at lw_m3 224 rfl) rfl
theorem q722 : (Jvm.Cond.methodLink "TownPurseLaw" (70 : Nat) ({ cls := "TownPurse", name := "advance", desc := "(II)I" } : Jvm.MethodName)) ∈ lw_all := lw_g (lw_at lw_m3 225 rfl) rfl
theorem q744 : (Jvm.Cond.methodLink "TownPurseLaw" (151 : Nat) ({ cls := "TownPurseLaw", name := "settle", desc := "(LTownPurse;III[J)I" } : Jvm.MethodName)) ∈ lw_all := lw_g (lw_at lw_m4 7 rfl) rfl
theorem q745 : (Jvm.Cond.static ({ cls := "TownPurseLaw", name := "settle", desc := "(LTownPurse;III[J)I" } : Jvm.MethodName)) ∈ lw_all := lw_g (lw_at lw_m4 8 rfl) rfl
theorem q746 : (Jvm.Cond.codeWith ({ cls := "TownPurseLaw", name := "settle", desc := "(LTownPurse;III[J)I" } : Jvm.MethodName) method_20_code (6 : Nat) (Option.some Jvm.ClassFile.FieldType.int) [((0 : Nat), (12 : Nat), (15 : Nat), (13 : Nat)), ((0 : Nat), (12 : Nat), (19 : Nat), (21 : Nat)), ((0 : Nat), (12 : Nat), (23 : Nat), (15 : Nat))]) ∈ lw_all := lw_g (lw_at lw_m4 9 rfl) rfl
theorem q747 : (Jvm.Cond.methodLink "TownPurseLaw" (73 : Nat) ({ cls := "TownPurse", name := "settle", desc := "(III)I" } : Jvm.MethodName)) ∈ lw_all := lw_g (lw_at lw_m4 10 rfl) rfl
theorem q751 : (Jvm.Cond.classLink "TownPurseLaw" (78 : Nat) "TownPurseModel") ∈ lw_all := lw_g (lw_at lw_m4 14 rfl) rfl
theorem q753 : (Jvm.Cond.methodLink "TownPurseLaw" (80 : Nat) ({ cls := "TownPurseModel", name := "<init>", desc := "()V" } : Jvm.MethodName)) ∈ lw_all := lw_g (lw_at lw_m4 16 rfl) rfl
theorem q845 : (Jvm.Cond.methodLink "TownPurseLaw" (87 : Nat) ({ cls := "TownPurseModel", name := "thrown", desc := "()I" } : Jvm.MethodName)) ∈ lw_all := lw_g (lw_at lw_m4 108 rfl) rfl
theorem q849 : (Jvm.Cond.methodLink "TownPurseLaw" (86 : Nat) ({ cls := "TownPurseModel", name := "addAccount", desc := "(I)I" } : Jvm.MethodName)) ∈ lw_all := lw_g (lw_at lw_m4 112 rfl) rfl
theorem q860 : (Jvm.Cond.methodLink "TownPurseLaw" (93 : Nat) ({ cls := "TownPurseModel", name := "enter", desc := "(IIII)I" } : Jvm.MethodName)) ∈ lw_all := lw_g (lw_at lw_m4 123 rfl) rfl
theorem q869 : (Jvm.Cond.methodLink "TownPurseLaw" (97 : Nat) ({ cls := "TownPurseModel", name := "close", desc := "()I" } : Jvm.MethodName)) ∈ lw_all := lw_g (lw_at lw_m4 132 rfl) rfl
theorem q873 : (Jvm.Cond.methodLink "TownPurseLaw" (101 : Nat) ({ cls := "TownPurseModel", name := "period", desc := "()I" } : Jvm.MethodName)) ∈ lw_all := lw_g (lw_at lw_m4 136 rfl) rfl
theorem q877 : (Jvm.Cond.methodLink "TownPurseLaw" (105 : Nat) ({ cls := "TownPurseModel", name := "entries", desc := "()I" } : Jvm.MethodName)) ∈ lw_all := lw_g (lw_at lw_m4 140 rfl) rfl
theorem q881 : (Jvm.Cond.methodLink "TownPurseLaw" (108 : Nat) ({ cls := "TownPurseModel", name := "periodOf", desc := "(I)I" } : Jvm.MethodName)) ∈ lw_all := lw_g (lw_at lw_m4 144 rfl) rfl
theorem q885 : (Jvm.Cond.methodLink "TownPurseLaw" (111 : Nat) ({ cls := "TownPurseModel", name := "isLate", desc := "(I)Z" } : Jvm.MethodName)) ∈ lw_all := lw_g (lw_at lw_m4 148 rfl) rfl
theorem q889 : (Jvm.Cond.methodLink "TownPurseLaw" (115 : Nat) ({ cls := "TownPurseModel", name := "balance", desc := "(II)I" } : Jvm.MethodName)) ∈ lw_all := lw_g (lw_at lw_m4 152 rfl) rfl
theorem q901 : (Jvm.Cond.methodLink "TownPurseLaw" (118 : Nat) ({ cls := "TownPurseModel", name := "balanceByEntries", desc := "(II)I" } : Jvm.MethodName)) ∈ lw_all := lw_g (lw_at lw_m4 164 rfl) rfl
theorem q905 : (Jvm.Cond.methodLink "TownPurseLaw" (122 : Nat) ({ cls := "TownPurseModel", name := "grant", desc := "(II)V" } : Jvm.MethodName)) ∈ lw_all := lw_g (lw_at lw_m4 168 rfl) rfl
theorem q909 : (Jvm.Cond.methodLink "TownPurseLaw" (126 : Nat) ({ cls := "TownPurseModel", name := "amend", desc := "(IIIZ)I" } : Jvm.MethodName)) ∈ lw_all := lw_g (lw_at lw_m4 172 rfl) rfl
theorem q921 : (Jvm.Cond.methodLink "TownPurseLaw" (129 : Nat) ({ cls := "TownPurseModel", name := "left", desc := "(I)I" } : Jvm.MethodName)) ∈ lw_all := lw_g (lw_at lw_m4 184 rfl) rfl
theorem q925 : (Jvm.Cond.methodLink "TownPurseLaw" (132 : Nat) ({ cls := "TownPurseModel", name := "setLimit", desc := "(I)I" } : Jvm.MethodName)) ∈ lw_all := lw_g (lw_at lw_m4 188 rfl) rfl
theorem q929 : (Jvm.Cond.methodLink "TownPurseLaw" (135 : Nat) ({ cls := "TownPurseModel", name := "prepare", desc := "(IIII)I" } : Jvm.MethodName)) ∈ lw_all := lw_g (lw_at lw_m4 192 rfl) rfl
theorem q933 : (Jvm.Cond.methodLink "TownPurseLaw" (138 : Nat) ({ cls := "TownPurseModel", name := "release", desc := "(II)I" } : Jvm.MethodName)) ∈ lw_all := lw_g (lw_at lw_m4 196 rfl) rfl
theorem q941 : (Jvm.Cond.methodLink "TownPurseLaw" (141 : Nat) ({ cls := "TownPurseModel", name := "refuse", desc := "(I)I" } : Jvm.MethodName)) ∈ lw_all := lw_g (lw_at lw_m4 204 rfl) rfl
theorem q949 : (Jvm.Cond.methodLink "TownPurseLaw" (144 : Nat) ({ cls := "TownPurseModel", name := "stateOf", desc := "(I)I" } : Jvm.MethodName)) ∈ lw_all := lw_g (lw_at lw_m4 212 rfl) rfl
theorem q953 : (Jvm.Cond.methodLink "TownPurseLaw" (147 : Nat) ({ cls := "TownPurseModel", name := "isSplit", desc := "(I)Z" } : Jvm.MethodName)) ∈ lw_all := lw_g (lw_at lw_m4 216 rfl) rfl
theorem q957 : (Jvm.Cond.methodLink "TownPurseLaw" (150 : Nat) ({ cls := "TownPurseModel", name := "advance", desc := "(II)I" } : Jvm.MethodName)) ∈ lw_all := lw_g (lw_at lw_m4 220 rfl) rfl
theorem q961 : (Jvm.Cond.methodLink "TownPurseLaw" (154 : Nat) ({ cls := "TownPurseModel", name := "settle", desc := "(III)I" } : Jvm.MethodName)) ∈ lw_all := lw_g (lw_at lw_m4 224 rfl) rfl

/-! the law's own entry -/
set_option maxRecDepth 100000
abbrev cL_law : ByteArray := code
def dkwL_law_55 : List UInt8 := [21, 6, 133, 148, 153, 0, 5, 3, 172, 167, 0, 3, 132, 4, 5, 167, 250, 200, 4, 172]
abbrev dktL_law_55 : List UInt8 := dkwL_law_55 ++ []
def dkwL_law_54 : List UInt8 := [182, 0, 154, 54, 6, 44, 182, 0, 87, 21, 5, 159, 0, 5, 3, 172, 21, 5, 154, 0, 15, 45, 3, 47]
abbrev dktL_law_54 : List UInt8 := dkwL_law_54 ++ dktL_law_55
def dkwL_law_53 : List UInt8 := [184, 0, 151, 54, 5, 44, 42, 21, 4, 4, 96, 46, 42, 21, 4, 5, 96, 46, 42, 21, 4, 6, 96, 46]
abbrev dktL_law_53 : List UInt8 := dkwL_law_53 ++ dktL_law_54
def dkwL_law_52 : List UInt8 := [167, 0, 83, 43, 42, 21, 4, 4, 96, 46, 42, 21, 4, 5, 96, 46, 42, 21, 4, 6, 96, 46, 45]
abbrev dktL_law_52 : List UInt8 := dkwL_law_52 ++ dktL_law_53
def dkwL_law_51 : List UInt8 := [159, 0, 5, 3, 172, 21, 5, 154, 0, 15, 45, 3, 47, 21, 6, 133, 148, 153, 0, 5, 3, 172]
abbrev dktL_law_51 : List UInt8 := dkwL_law_51 ++ dktL_law_52
def dkwL_law_50 : List UInt8 := [21, 4, 4, 96, 46, 42, 21, 4, 5, 96, 46, 182, 0, 150, 54, 6, 44, 182, 0, 87, 21, 5]
abbrev dktL_law_50 : List UInt8 := dkwL_law_50 ++ dktL_law_51
def dkwL_law_49 : List UInt8 := [167, 0, 151, 43, 42, 21, 4, 4, 96, 46, 42, 21, 4, 5, 96, 46, 45, 184, 0, 148, 54, 5, 44, 42]
abbrev dktL_law_49 : List UInt8 := dkwL_law_49 ++ dktL_law_50
def dkwL_law_48 : List UInt8 := [154, 0, 22, 45, 3, 47, 21, 6, 153, 0, 7, 10, 167, 0, 4, 9, 148, 153, 0, 5, 3, 172]
abbrev dktL_law_48 : List UInt8 := dkwL_law_48 ++ dktL_law_49
def dkwL_law_47 : List UInt8 := [21, 4, 4, 96, 46, 182, 0, 147, 54, 6, 44, 182, 0, 87, 21, 5, 159, 0, 5, 3, 172, 21, 5]
abbrev dktL_law_47 : List UInt8 := dkwL_law_47 ++ dktL_law_48
def dkwL_law_46 : List UInt8 := [153, 0, 5, 3, 172, 167, 0, 214, 43, 42, 21, 4, 4, 96, 46, 45, 184, 0, 145, 54, 5, 44, 42]
abbrev dktL_law_46 : List UInt8 := dkwL_law_46 ++ dktL_law_47
def dkwL_law_45 : List UInt8 := [182, 0, 87, 21, 5, 159, 0, 5, 3, 172, 21, 5, 154, 0, 15, 45, 3, 47, 21, 6, 133, 148]
abbrev dktL_law_45 : List UInt8 := dkwL_law_45 ++ dktL_law_46
def dkwL_law_44 : List UInt8 := [21, 4, 4, 96, 46, 45, 184, 0, 142, 54, 5, 44, 42, 21, 4, 4, 96, 46, 182, 0, 144, 54, 6, 44]
abbrev dktL_law_44 : List UInt8 := dkwL_law_44 ++ dktL_law_45
def dkwL_law_43 : List UInt8 := [172, 21, 5, 154, 0, 15, 45, 3, 47, 21, 6, 133, 148, 153, 0, 5, 3, 172, 167, 1, 14, 43, 42]
abbrev dktL_law_43 : List UInt8 := dkwL_law_43 ++ dktL_law_44
def dkwL_law_42 : List UInt8 := [54, 5, 44, 42, 21, 4, 4, 96, 46, 182, 0, 141, 54, 6, 44, 182, 0, 87, 21, 5, 159, 0, 5, 3]
abbrev dktL_law_42 : List UInt8 := dkwL_law_42 ++ dktL_law_43
def dkwL_law_41 : List UInt8 := [21, 6, 133, 148, 153, 0, 5, 3, 172, 167, 1, 70, 43, 42, 21, 4, 4, 96, 46, 45, 184, 0, 139]
abbrev dktL_law_41 : List UInt8 := dkwL_law_41 ++ dktL_law_42
def dkwL_law_40 : List UInt8 := [182, 0, 138, 54, 6, 44, 182, 0, 87, 21, 5, 159, 0, 5, 3, 172, 21, 5, 154, 0, 15, 45, 3, 47]
abbrev dktL_law_40 : List UInt8 := dkwL_law_40 ++ dktL_law_41
def dkwL_law_39 : List UInt8 := [21, 4, 5, 96, 46, 45, 184, 0, 136, 54, 5, 44, 42, 21, 4, 4, 96, 46, 42, 21, 4, 5, 96, 46]
abbrev dktL_law_39 : List UInt8 := dkwL_law_39 ++ dktL_law_40
def dkwL_law_38 : List UInt8 := [45, 3, 47, 21, 6, 133, 148, 153, 0, 5, 3, 172, 167, 1, 138, 43, 42, 21, 4, 4, 96, 46, 42]
abbrev dktL_law_38 : List UInt8 := dkwL_law_38 ++ dktL_law_39
def dkwL_law_37 : List UInt8 := [7, 96, 46, 182, 0, 135, 54, 6, 44, 182, 0, 87, 21, 5, 159, 0, 5, 3, 172, 21, 5, 154, 0, 15]
abbrev dktL_law_37 : List UInt8 := dkwL_law_37 ++ dktL_law_38
def dkwL_law_36 : List UInt8 := [54, 5, 44, 42, 21, 4, 4, 96, 46, 42, 21, 4, 5, 96, 46, 42, 21, 4, 6, 96, 46, 42, 21, 4]
abbrev dktL_law_36 : List UInt8 := dkwL_law_36 ++ dktL_law_37
def dkwL_law_35 : List UInt8 := [46, 42, 21, 4, 5, 96, 46, 42, 21, 4, 6, 96, 46, 42, 21, 4, 7, 96, 46, 45, 184, 0, 133]
abbrev dktL_law_35 : List UInt8 := dkwL_law_35 ++ dktL_law_36
def dkwL_law_34 : List UInt8 := [154, 0, 15, 45, 3, 47, 21, 6, 133, 148, 153, 0, 5, 3, 172, 167, 1, 230, 43, 42, 21, 4, 4, 96]
abbrev dktL_law_34 : List UInt8 := dkwL_law_34 ++ dktL_law_35
def dkwL_law_33 : List UInt8 := [21, 4, 4, 96, 46, 182, 0, 132, 54, 6, 44, 182, 0, 87, 21, 5, 159, 0, 5, 3, 172, 21, 5]
abbrev dktL_law_33 : List UInt8 := dkwL_law_33 ++ dktL_law_34
def dkwL_law_32 : List UInt8 := [153, 0, 5, 3, 172, 167, 2, 30, 43, 42, 21, 4, 4, 96, 46, 45, 184, 0, 130, 54, 5, 44, 42]
abbrev dktL_law_32 : List UInt8 := dkwL_law_32 ++ dktL_law_33
def dkwL_law_31 : List UInt8 := [182, 0, 87, 21, 5, 159, 0, 5, 3, 172, 21, 5, 154, 0, 15, 45, 3, 47, 21, 6, 133, 148]
abbrev dktL_law_31 : List UInt8 := dkwL_law_31 ++ dktL_law_32
def dkwL_law_30 : List UInt8 := [4, 96, 46, 45, 184, 0, 127, 54, 5, 44, 42, 21, 4, 4, 96, 46, 182, 0, 129, 54, 6, 44]
abbrev dktL_law_30 : List UInt8 := dkwL_law_30 ++ dktL_law_31
def dkwL_law_29 : List UInt8 := [21, 5, 154, 0, 15, 45, 3, 47, 21, 6, 133, 148, 153, 0, 5, 3, 172, 167, 2, 86, 43, 42, 21, 4]
abbrev dktL_law_29 : List UInt8 := dkwL_law_29 ++ dktL_law_30
def dkwL_law_28 : List UInt8 := [153, 0, 7, 4, 167, 0, 4, 3, 182, 0, 126, 54, 6, 44, 182, 0, 87, 21, 5, 159, 0, 5, 3, 172]
abbrev dktL_law_28 : List UInt8 := dkwL_law_28 ++ dktL_law_29
def dkwL_law_27 : List UInt8 := [42, 21, 4, 4, 96, 46, 42, 21, 4, 5, 96, 46, 42, 21, 4, 6, 96, 46, 42, 21, 4, 7, 96, 46]
abbrev dktL_law_27 : List UInt8 := dkwL_law_27 ++ dktL_law_28
def dkwL_law_26 : List UInt8 := [6, 96, 46, 42, 21, 4, 7, 96, 46, 153, 0, 7, 4, 167, 0, 4, 3, 45, 184, 0, 123, 54, 5, 44]
abbrev dktL_law_26 : List UInt8 := dkwL_law_26 ++ dktL_law_27
def dkwL_law_25 : List UInt8 := [159, 0, 5, 3, 172, 167, 2, 194, 43, 42, 21, 4, 4, 96, 46, 42, 21, 4, 5, 96, 46, 42, 21, 4]
abbrev dktL_law_25 : List UInt8 := dkwL_law_25 ++ dktL_law_26
def dkwL_law_24 : List UInt8 := [54, 5, 44, 42, 21, 4, 4, 96, 46, 42, 21, 4, 5, 96, 46, 182, 0, 122, 44, 182, 0, 87, 21, 5]
abbrev dktL_law_24 : List UInt8 := dkwL_law_24 ++ dktL_law_25
def dkwL_law_23 : List UInt8 := [153, 0, 5, 3, 172, 167, 2, 242, 43, 42, 21, 4, 4, 96, 46, 42, 21, 4, 5, 96, 46, 184, 0, 119]
abbrev dktL_law_23 : List UInt8 := dkwL_law_23 ++ dktL_law_24
def dkwL_law_22 : List UInt8 := [182, 0, 87, 21, 5, 159, 0, 5, 3, 172, 21, 5, 154, 0, 15, 45, 3, 47, 21, 6, 133, 148]
abbrev dktL_law_22 : List UInt8 := dkwL_law_22 ++ dktL_law_23
def dkwL_law_21 : List UInt8 := [184, 0, 116, 54, 5, 44, 42, 21, 4, 4, 96, 46, 42, 21, 4, 5, 96, 46, 182, 0, 118, 54, 6, 44]
abbrev dktL_law_21 : List UInt8 := dkwL_law_21 ++ dktL_law_22
def dkwL_law_20 : List UInt8 := [148, 153, 0, 5, 3, 172, 167, 3, 54, 43, 42, 21, 4, 4, 96, 46, 42, 21, 4, 5, 96, 46, 45]
abbrev dktL_law_20 : List UInt8 := dkwL_law_20 ++ dktL_law_21
def dkwL_law_19 : List UInt8 := [54, 6, 44, 182, 0, 87, 21, 5, 159, 0, 5, 3, 172, 21, 5, 154, 0, 15, 45, 3, 47, 21, 6, 133]
abbrev dktL_law_19 : List UInt8 := dkwL_law_19 ++ dktL_law_20
def dkwL_law_18 : List UInt8 := [96, 46, 45, 184, 0, 112, 54, 5, 44, 42, 21, 4, 4, 96, 46, 42, 21, 4, 5, 96, 46, 182, 0, 115]
abbrev dktL_law_18 : List UInt8 := dkwL_law_18 ++ dktL_law_19
def dkwL_law_17 : List UInt8 := [167, 0, 4, 9, 148, 153, 0, 5, 3, 172, 167, 3, 122, 43, 42, 21, 4, 4, 96, 46, 42, 21, 4, 5]
abbrev dktL_law_17 : List UInt8 := dkwL_law_17 ++ dktL_law_18
def dkwL_law_16 : List UInt8 := [182, 0, 87, 21, 5, 159, 0, 5, 3, 172, 21, 5, 154, 0, 22, 45, 3, 47, 21, 6, 153, 0, 7, 10]
abbrev dktL_law_16 : List UInt8 := dkwL_law_16 ++ dktL_law_17
def dkwL_law_15 : List UInt8 := [21, 4, 4, 96, 46, 45, 184, 0, 109, 54, 5, 44, 42, 21, 4, 4, 96, 46, 182, 0, 111, 54, 6, 44]
abbrev dktL_law_15 : List UInt8 := dkwL_law_15 ++ dktL_law_16
def dkwL_law_14 : List UInt8 := [172, 21, 5, 154, 0, 15, 45, 3, 47, 21, 6, 133, 148, 153, 0, 5, 3, 172, 167, 3, 185, 43, 42]
abbrev dktL_law_14 : List UInt8 := dkwL_law_14 ++ dktL_law_15
def dkwL_law_13 : List UInt8 := [54, 5, 44, 42, 21, 4, 4, 96, 46, 182, 0, 108, 54, 6, 44, 182, 0, 87, 21, 5, 159, 0, 5, 3]
abbrev dktL_law_13 : List UInt8 := dkwL_law_13 ++ dktL_law_14
def dkwL_law_12 : List UInt8 := [182, 0, 102, 44, 182, 0, 105, 159, 3, 243, 3, 172, 43, 42, 21, 4, 4, 96, 46, 45, 184, 0, 106]
abbrev dktL_law_12 : List UInt8 := dkwL_law_12 ++ dktL_law_13
def dkwL_law_11 : List UInt8 := [153, 0, 5, 3, 172, 167, 4, 11, 43, 182, 0, 98, 44, 182, 0, 101, 159, 4, 0, 3, 172, 43]
abbrev dktL_law_11 : List UInt8 := dkwL_law_11 ++ dktL_law_12
def dkwL_law_10 : List UInt8 := [182, 0, 87, 21, 5, 159, 0, 5, 3, 172, 21, 5, 154, 0, 15, 45, 3, 47, 21, 6, 133, 148]
abbrev dktL_law_10 : List UInt8 := dkwL_law_10 ++ dktL_law_11
def dkwL_law_9 : List UInt8 := [153, 0, 5, 3, 172, 167, 4, 55, 43, 45, 184, 0, 94, 54, 5, 44, 182, 0, 97, 54, 6, 44]
abbrev dktL_law_9 : List UInt8 := dkwL_law_9 ++ dktL_law_10
def dkwL_law_8 : List UInt8 := [182, 0, 87, 21, 5, 159, 0, 5, 3, 172, 21, 5, 154, 0, 15, 45, 3, 47, 21, 6, 133, 148]
abbrev dktL_law_8 : List UInt8 := dkwL_law_8 ++ dktL_law_9
def dkwL_law_7 : List UInt8 := [42, 21, 4, 5, 96, 46, 42, 21, 4, 6, 96, 46, 42, 21, 4, 7, 96, 46, 182, 0, 93, 54, 6, 44]
abbrev dktL_law_7 : List UInt8 := dkwL_law_7 ++ dktL_law_8
def dkwL_law_6 : List UInt8 := [21, 4, 6, 96, 46, 42, 21, 4, 7, 96, 46, 45, 184, 0, 90, 54, 5, 44, 42, 21, 4, 4, 96, 46]
abbrev dktL_law_6 : List UInt8 := dkwL_law_6 ++ dktL_law_7
def dkwL_law_5 : List UInt8 := [148, 153, 0, 5, 3, 172, 167, 4, 147, 43, 42, 21, 4, 4, 96, 46, 42, 21, 4, 5, 96, 46, 42]
abbrev dktL_law_5 : List UInt8 := dkwL_law_5 ++ dktL_law_6
def dkwL_law_4 : List UInt8 := [54, 6, 44, 182, 0, 87, 21, 5, 159, 0, 5, 3, 172, 21, 5, 154, 0, 15, 45, 3, 47, 21, 6, 133]
abbrev dktL_law_4 : List UInt8 := dkwL_law_4 ++ dktL_law_5
def dkwL_law_3 : List UInt8 := [43, 42, 21, 4, 4, 96, 46, 45, 184, 0, 81, 54, 5, 44, 42, 21, 4, 4, 96, 46, 182, 0, 86]
abbrev dktL_law_3 : List UInt8 := dkwL_law_3 ++ dktL_law_4
def dkwL_law_2 : List UInt8 := [170, 0, 0, 5, 37, 0, 0, 0, 0, 0, 0, 0, 19, 0, 0, 0, 93, 0, 0, 0, 149, 0, 0, 0, 241, 0, 0, 1, 29, 0, 0, 1, 42, 0, 0, 1, 55, 0, 0, 1, 111, 0, 0, 1, 174, 0, 0, 1, 242, 0, 0, 2, 54, 0, 0, 2, 102, 0, 0, 2, 210, 0, 0, 3, 10, 0, 0, 3, 66, 0, 0, 3, 158, 0, 0, 3, 226, 0, 0, 4, 26, 0, 0, 4, 82, 0, 0, 4, 145, 0, 0, 4, 213]
abbrev dktL_law_2 : List UInt8 := dkwL_law_2 ++ dktL_law_3
def dkwL_law_1 : List UInt8 := [21, 4, 42, 190, 8, 100, 163, 5, 53, 42, 21, 4, 46, 16, 31, 126]
abbrev dktL_law_1 : List UInt8 := dkwL_law_1 ++ dktL_law_2
def dkwL_law_0 : List UInt8 := [187, 0, 8, 89, 183, 0, 77, 76, 187, 0, 78, 89, 183, 0, 80, 77, 4, 188, 11, 78, 3, 54, 4]
abbrev dktL_law_0 : List UInt8 := dkwL_law_0 ++ dktL_law_1
theorem dksL_law_0 : cL_law.data.toList.drop 0 = dktL_law_0 := by decide +kernel
theorem dksL_law_1 : cL_law.data.toList.drop 23 = dktL_law_1 := dk_seg dksL_law_0 23 rfl rfl
theorem dksL_law_2 : cL_law.data.toList.drop 39 = dktL_law_2 := dk_seg dksL_law_1 16 rfl rfl
theorem dksL_law_3 : cL_law.data.toList.drop 132 = dktL_law_3 := dk_seg dksL_law_2 93 rfl rfl
theorem dksL_law_4 : cL_law.data.toList.drop 155 = dktL_law_4 := dk_seg dksL_law_3 23 rfl rfl
theorem dksL_law_5 : cL_law.data.toList.drop 179 = dktL_law_5 := dk_seg dksL_law_4 24 rfl rfl
theorem dksL_law_6 : cL_law.data.toList.drop 202 = dktL_law_6 := dk_seg dksL_law_5 23 rfl rfl
theorem dksL_law_7 : cL_law.data.toList.drop 226 = dktL_law_7 := dk_seg dksL_law_6 24 rfl rfl
theorem dksL_law_8 : cL_law.data.toList.drop 250 = dktL_law_8 := dk_seg dksL_law_7 24 rfl rfl
theorem dksL_law_9 : cL_law.data.toList.drop 272 = dktL_law_9 := dk_seg dksL_law_8 22 rfl rfl
theorem dksL_law_10 : cL_law.data.toList.drop 294 = dktL_law_10 := dk_seg dksL_law_9 22 rfl rfl
theorem dksL_law_11 : cL_law.data.toList.drop 316 = dktL_law_11 := dk_seg dksL_law_10 22 rfl rfl
theorem dksL_law_12 : cL_law.data.toList.drop 338 = dktL_law_12 := dk_seg dksL_law_11 22 rfl rfl
theorem dksL_law_13 : cL_law.data.toList.drop 361 = dktL_law_13 := dk_seg dksL_law_12 23 rfl rfl
theorem dksL_law_14 : cL_law.data.toList.drop 385 = dktL_law_14 := dk_seg dksL_law_13 24 rfl rfl
theorem dksL_law_15 : cL_law.data.toList.drop 408 = dktL_law_15 := dk_seg dksL_law_14 23 rfl rfl
theorem dksL_law_16 : cL_law.data.toList.drop 432 = dktL_law_16 := dk_seg dksL_law_15 24 rfl rfl
theorem dksL_law_17 : cL_law.data.toList.drop 456 = dktL_law_17 := dk_seg dksL_law_16 24 rfl rfl
theorem dksL_law_18 : cL_law.data.toList.drop 480 = dktL_law_18 := dk_seg dksL_law_17 24 rfl rfl
theorem dksL_law_19 : cL_law.data.toList.drop 504 = dktL_law_19 := dk_seg dksL_law_18 24 rfl rfl
theorem dksL_law_20 : cL_law.data.toList.drop 528 = dktL_law_20 := dk_seg dksL_law_19 24 rfl rfl
theorem dksL_law_21 : cL_law.data.toList.drop 551 = dktL_law_21 := dk_seg dksL_law_20 23 rfl rfl
theorem dksL_law_22 : cL_law.data.toList.drop 575 = dktL_law_22 := dk_seg dksL_law_21 24 rfl rfl
theorem dksL_law_23 : cL_law.data.toList.drop 597 = dktL_law_23 := dk_seg dksL_law_22 22 rfl rfl
theorem dksL_law_24 : cL_law.data.toList.drop 621 = dktL_law_24 := dk_seg dksL_law_23 24 rfl rfl
theorem dksL_law_25 : cL_law.data.toList.drop 645 = dktL_law_25 := dk_seg dksL_law_24 24 rfl rfl
theorem dksL_law_26 : cL_law.data.toList.drop 669 = dktL_law_26 := dk_seg dksL_law_25 24 rfl rfl
theorem dksL_law_27 : cL_law.data.toList.drop 693 = dktL_law_27 := dk_seg dksL_law_26 24 rfl rfl
theorem dksL_law_28 : cL_law.data.toList.drop 717 = dktL_law_28 := dk_seg dksL_law_27 24 rfl rfl
theorem dksL_law_29 : cL_law.data.toList.drop 741 = dktL_law_29 := dk_seg dksL_law_28 24 rfl rfl
theorem dksL_law_30 : cL_law.data.toList.drop 765 = dktL_law_30 := dk_seg dksL_law_29 24 rfl rfl
theorem dksL_law_31 : cL_law.data.toList.drop 787 = dktL_law_31 := dk_seg dksL_law_30 22 rfl rfl
theorem dksL_law_32 : cL_law.data.toList.drop 809 = dktL_law_32 := dk_seg dksL_law_31 22 rfl rfl
theorem dksL_law_33 : cL_law.data.toList.drop 832 = dktL_law_33 := dk_seg dksL_law_32 23 rfl rfl
theorem dksL_law_34 : cL_law.data.toList.drop 855 = dktL_law_34 := dk_seg dksL_law_33 23 rfl rfl
theorem dksL_law_35 : cL_law.data.toList.drop 879 = dktL_law_35 := dk_seg dksL_law_34 24 rfl rfl
theorem dksL_law_36 : cL_law.data.toList.drop 902 = dktL_law_36 := dk_seg dksL_law_35 23 rfl rfl
theorem dksL_law_37 : cL_law.data.toList.drop 926 = dktL_law_37 := dk_seg dksL_law_36 24 rfl rfl
theorem dksL_law_38 : cL_law.data.toList.drop 950 = dktL_law_38 := dk_seg dksL_law_37 24 rfl rfl
theorem dksL_law_39 : cL_law.data.toList.drop 973 = dktL_law_39 := dk_seg dksL_law_38 23 rfl rfl
theorem dksL_law_40 : cL_law.data.toList.drop 997 = dktL_law_40 := dk_seg dksL_law_39 24 rfl rfl
theorem dksL_law_41 : cL_law.data.toList.drop 1021 = dktL_law_41 := dk_seg dksL_law_40 24 rfl rfl
theorem dksL_law_42 : cL_law.data.toList.drop 1044 = dktL_law_42 := dk_seg dksL_law_41 23 rfl rfl
theorem dksL_law_43 : cL_law.data.toList.drop 1068 = dktL_law_43 := dk_seg dksL_law_42 24 rfl rfl
theorem dksL_law_44 : cL_law.data.toList.drop 1091 = dktL_law_44 := dk_seg dksL_law_43 23 rfl rfl
theorem dksL_law_45 : cL_law.data.toList.drop 1115 = dktL_law_45 := dk_seg dksL_law_44 24 rfl rfl
theorem dksL_law_46 : cL_law.data.toList.drop 1137 = dktL_law_46 := dk_seg dksL_law_45 22 rfl rfl
theorem dksL_law_47 : cL_law.data.toList.drop 1160 = dktL_law_47 := dk_seg dksL_law_46 23 rfl rfl
theorem dksL_law_48 : cL_law.data.toList.drop 1183 = dktL_law_48 := dk_seg dksL_law_47 23 rfl rfl
theorem dksL_law_49 : cL_law.data.toList.drop 1205 = dktL_law_49 := dk_seg dksL_law_48 22 rfl rfl
theorem dksL_law_50 : cL_law.data.toList.drop 1229 = dktL_law_50 := dk_seg dksL_law_49 24 rfl rfl
theorem dksL_law_51 : cL_law.data.toList.drop 1251 = dktL_law_51 := dk_seg dksL_law_50 22 rfl rfl
theorem dksL_law_52 : cL_law.data.toList.drop 1273 = dktL_law_52 := dk_seg dksL_law_51 22 rfl rfl
theorem dksL_law_53 : cL_law.data.toList.drop 1296 = dktL_law_53 := dk_seg dksL_law_52 23 rfl rfl
theorem dksL_law_54 : cL_law.data.toList.drop 1320 = dktL_law_54 := dk_seg dksL_law_53 24 rfl rfl
theorem dksL_law_55 : cL_law.data.toList.drop 1344 = dktL_law_55 := dk_seg dksL_law_54 24 rfl rfl
theorem dL_law_0 : decode cL_law 0 = .ok (.new 8, 3) := dk_187 0 8 (dk_at dksL_law_0 0 rfl rfl)
theorem dL_law_3 : decode cL_law 3 = .ok (.dup, 1) := dk_89 (dk_at dksL_law_0 3 rfl rfl)
theorem dL_law_4 : decode cL_law 4 = .ok (.invokespecial 77, 3) := dk_183 0 77 (dk_at dksL_law_0 4 rfl rfl)
theorem dL_law_7 : decode cL_law 7 = .ok (.astore_n 1, 1) := dk_76 (dk_at dksL_law_0 7 rfl rfl)
theorem dL_law_8 : decode cL_law 8 = .ok (.new 78, 3) := dk_187 0 78 (dk_at dksL_law_0 8 rfl rfl)
theorem dL_law_11 : decode cL_law 11 = .ok (.dup, 1) := dk_89 (dk_at dksL_law_0 11 rfl rfl)
theorem dL_law_12 : decode cL_law 12 = .ok (.invokespecial 80, 3) := dk_183 0 80 (dk_at dksL_law_0 12 rfl rfl)
theorem dL_law_15 : decode cL_law 15 = .ok (.astore_n 2, 1) := dk_77 (dk_at dksL_law_0 15 rfl rfl)
theorem dL_law_16 : decode cL_law 16 = .ok (.iconst 1, 1) := dk_4 (dk_at dksL_law_0 16 rfl rfl)
theorem dL_law_17 : decode cL_law 17 = .ok (.newarray .long, 2) := dk_188_11 (dk_at dksL_law_0 17 rfl rfl)
theorem dL_law_19 : decode cL_law 19 = .ok (.astore_n 3, 1) := dk_78 (dk_at dksL_law_0 19 rfl rfl)
theorem dL_law_20 : decode cL_law 20 = .ok (.iconst 0, 1) := dk_3 (dk_at dksL_law_0 20 rfl rfl)
theorem dL_law_21 : decode cL_law 21 = .ok (.istore 4, 2) := dk_54 4 (dk_at dksL_law_0 21 rfl rfl)
theorem dL_law_23 : decode cL_law 23 = .ok (.iload 4, 2) := dk_21 4 (dk_at dksL_law_1 0 rfl rfl)
theorem dL_law_25 : decode cL_law 25 = .ok (.aload_n 0, 1) := dk_42 (dk_at dksL_law_1 2 rfl rfl)
theorem dL_law_26 : decode cL_law 26 = .ok (.arraylength, 1) := dk_190 (dk_at dksL_law_1 3 rfl rfl)
theorem dL_law_27 : decode cL_law 27 = .ok (.iconst 5, 1) := dk_8 (dk_at dksL_law_1 4 rfl rfl)
theorem dL_law_28 : decode cL_law 28 = .ok (.isub, 1) := dk_100 (dk_at dksL_law_1 5 rfl rfl)
theorem dL_law_29 : decode cL_law 29 = .ok (.if_icmp .gt 1333, 3) := dk_163 5 53 (dk_at dksL_law_1 6 rfl rfl)
theorem dL_law_32 : decode cL_law 32 = .ok (.aload_n 0, 1) := dk_42 (dk_at dksL_law_1 9 rfl rfl)
theorem dL_law_33 : decode cL_law 33 = .ok (.iload 4, 2) := dk_21 4 (dk_at dksL_law_1 10 rfl rfl)
theorem dL_law_35 : decode cL_law 35 = .ok (.iaload, 1) := dk_46 (dk_at dksL_law_1 12 rfl rfl)
theorem dL_law_36 : decode cL_law 36 = .ok (.bipush 31, 2) := dk_16 31 (dk_at dksL_law_1 13 rfl rfl)
theorem dL_law_38 : decode cL_law 38 = .ok (.iand, 1) := dk_126 (dk_at dksL_law_1 15 rfl rfl)
theorem dL_law_39 : decode cL_law 39 = .ok (.tableswitch 1317 0 19 #[93, 149, 241, 285, 298, 311, 367, 430, 498, 566, 614, 722, 778, 834, 926, 994, 1050, 1106, 1169, 1237], 93) := by decide +kernel
theorem dL_law_132 : decode cL_law 132 = .ok (.aload_n 1, 1) := dk_43 (dk_at dksL_law_3 0 rfl rfl)
theorem dL_law_133 : decode cL_law 133 = .ok (.aload_n 0, 1) := dk_42 (dk_at dksL_law_3 1 rfl rfl)
theorem dL_law_134 : decode cL_law 134 = .ok (.iload 4, 2) := dk_21 4 (dk_at dksL_law_3 2 rfl rfl)
theorem dL_law_136 : decode cL_law 136 = .ok (.iconst 1, 1) := dk_4 (dk_at dksL_law_3 4 rfl rfl)
theorem dL_law_137 : decode cL_law 137 = .ok (.iadd, 1) := dk_96 (dk_at dksL_law_3 5 rfl rfl)
theorem dL_law_138 : decode cL_law 138 = .ok (.iaload, 1) := dk_46 (dk_at dksL_law_3 6 rfl rfl)
theorem dL_law_139 : decode cL_law 139 = .ok (.aload_n 3, 1) := dk_45 (dk_at dksL_law_3 7 rfl rfl)
theorem dL_law_140 : decode cL_law 140 = .ok (.invokestatic 81, 3) := dk_184 0 81 (dk_at dksL_law_3 8 rfl rfl)
theorem dL_law_143 : decode cL_law 143 = .ok (.istore 5, 2) := dk_54 5 (dk_at dksL_law_3 11 rfl rfl)
theorem dL_law_145 : decode cL_law 145 = .ok (.aload_n 2, 1) := dk_44 (dk_at dksL_law_3 13 rfl rfl)
theorem dL_law_146 : decode cL_law 146 = .ok (.aload_n 0, 1) := dk_42 (dk_at dksL_law_3 14 rfl rfl)
theorem dL_law_147 : decode cL_law 147 = .ok (.iload 4, 2) := dk_21 4 (dk_at dksL_law_3 15 rfl rfl)
theorem dL_law_149 : decode cL_law 149 = .ok (.iconst 1, 1) := dk_4 (dk_at dksL_law_3 17 rfl rfl)
theorem dL_law_150 : decode cL_law 150 = .ok (.iadd, 1) := dk_96 (dk_at dksL_law_3 18 rfl rfl)
theorem dL_law_151 : decode cL_law 151 = .ok (.iaload, 1) := dk_46 (dk_at dksL_law_3 19 rfl rfl)
theorem dL_law_152 : decode cL_law 152 = .ok (.invokevirtual 86, 3) := dk_182 0 86 (dk_at dksL_law_3 20 rfl rfl)
theorem dL_law_155 : decode cL_law 155 = .ok (.istore 6, 2) := dk_54 6 (dk_at dksL_law_4 0 rfl rfl)
theorem dL_law_157 : decode cL_law 157 = .ok (.aload_n 2, 1) := dk_44 (dk_at dksL_law_4 2 rfl rfl)
theorem dL_law_158 : decode cL_law 158 = .ok (.invokevirtual 87, 3) := dk_182 0 87 (dk_at dksL_law_4 3 rfl rfl)
theorem dL_law_161 : decode cL_law 161 = .ok (.iload 5, 2) := dk_21 5 (dk_at dksL_law_4 6 rfl rfl)
theorem dL_law_163 : decode cL_law 163 = .ok (.if_icmp .eq 5, 3) := dk_159 0 5 (dk_at dksL_law_4 8 rfl rfl)
theorem dL_law_166 : decode cL_law 166 = .ok (.iconst 0, 1) := dk_3 (dk_at dksL_law_4 11 rfl rfl)
theorem dL_law_167 : decode cL_law 167 = .ok (.ireturn, 1) := dk_172 (dk_at dksL_law_4 12 rfl rfl)
theorem dL_law_168 : decode cL_law 168 = .ok (.iload 5, 2) := dk_21 5 (dk_at dksL_law_4 13 rfl rfl)
theorem dL_law_170 : decode cL_law 170 = .ok (.ifCond .ne 15, 3) := dk_154 0 15 (dk_at dksL_law_4 15 rfl rfl)
theorem dL_law_173 : decode cL_law 173 = .ok (.aload_n 3, 1) := dk_45 (dk_at dksL_law_4 18 rfl rfl)
theorem dL_law_174 : decode cL_law 174 = .ok (.iconst 0, 1) := dk_3 (dk_at dksL_law_4 19 rfl rfl)
theorem dL_law_175 : decode cL_law 175 = .ok (.laload, 1) := dk_47 (dk_at dksL_law_4 20 rfl rfl)
theorem dL_law_176 : decode cL_law 176 = .ok (.iload 6, 2) := dk_21 6 (dk_at dksL_law_4 21 rfl rfl)
theorem dL_law_178 : decode cL_law 178 = .ok (.i2l, 1) := dk_133 (dk_at dksL_law_4 23 rfl rfl)
theorem dL_law_179 : decode cL_law 179 = .ok (.lcmp, 1) := dk_148 (dk_at dksL_law_5 0 rfl rfl)
theorem dL_law_180 : decode cL_law 180 = .ok (.ifCond .eq 5, 3) := dk_153 0 5 (dk_at dksL_law_5 1 rfl rfl)
theorem dL_law_183 : decode cL_law 183 = .ok (.iconst 0, 1) := dk_3 (dk_at dksL_law_5 4 rfl rfl)
theorem dL_law_184 : decode cL_law 184 = .ok (.ireturn, 1) := dk_172 (dk_at dksL_law_5 5 rfl rfl)
theorem dL_law_185 : decode cL_law 185 = .ok (.goto 1171, 3) := dk_167 4 147 (dk_at dksL_law_5 6 rfl rfl)
theorem dL_law_188 : decode cL_law 188 = .ok (.aload_n 1, 1) := dk_43 (dk_at dksL_law_5 9 rfl rfl)
theorem dL_law_189 : decode cL_law 189 = .ok (.aload_n 0, 1) := dk_42 (dk_at dksL_law_5 10 rfl rfl)
theorem dL_law_190 : decode cL_law 190 = .ok (.iload 4, 2) := dk_21 4 (dk_at dksL_law_5 11 rfl rfl)
theorem dL_law_192 : decode cL_law 192 = .ok (.iconst 1, 1) := dk_4 (dk_at dksL_law_5 13 rfl rfl)
theorem dL_law_193 : decode cL_law 193 = .ok (.iadd, 1) := dk_96 (dk_at dksL_law_5 14 rfl rfl)
theorem dL_law_194 : decode cL_law 194 = .ok (.iaload, 1) := dk_46 (dk_at dksL_law_5 15 rfl rfl)
theorem dL_law_195 : decode cL_law 195 = .ok (.aload_n 0, 1) := dk_42 (dk_at dksL_law_5 16 rfl rfl)
theorem dL_law_196 : decode cL_law 196 = .ok (.iload 4, 2) := dk_21 4 (dk_at dksL_law_5 17 rfl rfl)
theorem dL_law_198 : decode cL_law 198 = .ok (.iconst 2, 1) := dk_5 (dk_at dksL_law_5 19 rfl rfl)
theorem dL_law_199 : decode cL_law 199 = .ok (.iadd, 1) := dk_96 (dk_at dksL_law_5 20 rfl rfl)
theorem dL_law_200 : decode cL_law 200 = .ok (.iaload, 1) := dk_46 (dk_at dksL_law_5 21 rfl rfl)
theorem dL_law_201 : decode cL_law 201 = .ok (.aload_n 0, 1) := dk_42 (dk_at dksL_law_5 22 rfl rfl)
theorem dL_law_202 : decode cL_law 202 = .ok (.iload 4, 2) := dk_21 4 (dk_at dksL_law_6 0 rfl rfl)
theorem dL_law_204 : decode cL_law 204 = .ok (.iconst 3, 1) := dk_6 (dk_at dksL_law_6 2 rfl rfl)
theorem dL_law_205 : decode cL_law 205 = .ok (.iadd, 1) := dk_96 (dk_at dksL_law_6 3 rfl rfl)
theorem dL_law_206 : decode cL_law 206 = .ok (.iaload, 1) := dk_46 (dk_at dksL_law_6 4 rfl rfl)
theorem dL_law_207 : decode cL_law 207 = .ok (.aload_n 0, 1) := dk_42 (dk_at dksL_law_6 5 rfl rfl)
theorem dL_law_208 : decode cL_law 208 = .ok (.iload 4, 2) := dk_21 4 (dk_at dksL_law_6 6 rfl rfl)
theorem dL_law_210 : decode cL_law 210 = .ok (.iconst 4, 1) := dk_7 (dk_at dksL_law_6 8 rfl rfl)
theorem dL_law_211 : decode cL_law 211 = .ok (.iadd, 1) := dk_96 (dk_at dksL_law_6 9 rfl rfl)
theorem dL_law_212 : decode cL_law 212 = .ok (.iaload, 1) := dk_46 (dk_at dksL_law_6 10 rfl rfl)
theorem dL_law_213 : decode cL_law 213 = .ok (.aload_n 3, 1) := dk_45 (dk_at dksL_law_6 11 rfl rfl)
theorem dL_law_214 : decode cL_law 214 = .ok (.invokestatic 90, 3) := dk_184 0 90 (dk_at dksL_law_6 12 rfl rfl)
theorem dL_law_217 : decode cL_law 217 = .ok (.istore 5, 2) := dk_54 5 (dk_at dksL_law_6 15 rfl rfl)
theorem dL_law_219 : decode cL_law 219 = .ok (.aload_n 2, 1) := dk_44 (dk_at dksL_law_6 17 rfl rfl)
theorem dL_law_220 : decode cL_law 220 = .ok (.aload_n 0, 1) := dk_42 (dk_at dksL_law_6 18 rfl rfl)
theorem dL_law_221 : decode cL_law 221 = .ok (.iload 4, 2) := dk_21 4 (dk_at dksL_law_6 19 rfl rfl)
theorem dL_law_223 : decode cL_law 223 = .ok (.iconst 1, 1) := dk_4 (dk_at dksL_law_6 21 rfl rfl)
theorem dL_law_224 : decode cL_law 224 = .ok (.iadd, 1) := dk_96 (dk_at dksL_law_6 22 rfl rfl)
theorem dL_law_225 : decode cL_law 225 = .ok (.iaload, 1) := dk_46 (dk_at dksL_law_6 23 rfl rfl)
theorem dL_law_226 : decode cL_law 226 = .ok (.aload_n 0, 1) := dk_42 (dk_at dksL_law_7 0 rfl rfl)
theorem dL_law_227 : decode cL_law 227 = .ok (.iload 4, 2) := dk_21 4 (dk_at dksL_law_7 1 rfl rfl)
theorem dL_law_229 : decode cL_law 229 = .ok (.iconst 2, 1) := dk_5 (dk_at dksL_law_7 3 rfl rfl)
theorem dL_law_230 : decode cL_law 230 = .ok (.iadd, 1) := dk_96 (dk_at dksL_law_7 4 rfl rfl)
theorem dL_law_231 : decode cL_law 231 = .ok (.iaload, 1) := dk_46 (dk_at dksL_law_7 5 rfl rfl)
theorem dL_law_232 : decode cL_law 232 = .ok (.aload_n 0, 1) := dk_42 (dk_at dksL_law_7 6 rfl rfl)
theorem dL_law_233 : decode cL_law 233 = .ok (.iload 4, 2) := dk_21 4 (dk_at dksL_law_7 7 rfl rfl)
theorem dL_law_235 : decode cL_law 235 = .ok (.iconst 3, 1) := dk_6 (dk_at dksL_law_7 9 rfl rfl)
theorem dL_law_236 : decode cL_law 236 = .ok (.iadd, 1) := dk_96 (dk_at dksL_law_7 10 rfl rfl)
theorem dL_law_237 : decode cL_law 237 = .ok (.iaload, 1) := dk_46 (dk_at dksL_law_7 11 rfl rfl)
theorem dL_law_238 : decode cL_law 238 = .ok (.aload_n 0, 1) := dk_42 (dk_at dksL_law_7 12 rfl rfl)
theorem dL_law_239 : decode cL_law 239 = .ok (.iload 4, 2) := dk_21 4 (dk_at dksL_law_7 13 rfl rfl)
theorem dL_law_241 : decode cL_law 241 = .ok (.iconst 4, 1) := dk_7 (dk_at dksL_law_7 15 rfl rfl)
theorem dL_law_242 : decode cL_law 242 = .ok (.iadd, 1) := dk_96 (dk_at dksL_law_7 16 rfl rfl)
theorem dL_law_243 : decode cL_law 243 = .ok (.iaload, 1) := dk_46 (dk_at dksL_law_7 17 rfl rfl)
theorem dL_law_244 : decode cL_law 244 = .ok (.invokevirtual 93, 3) := dk_182 0 93 (dk_at dksL_law_7 18 rfl rfl)
theorem dL_law_247 : decode cL_law 247 = .ok (.istore 6, 2) := dk_54 6 (dk_at dksL_law_7 21 rfl rfl)
theorem dL_law_249 : decode cL_law 249 = .ok (.aload_n 2, 1) := dk_44 (dk_at dksL_law_7 23 rfl rfl)
theorem dL_law_250 : decode cL_law 250 = .ok (.invokevirtual 87, 3) := dk_182 0 87 (dk_at dksL_law_8 0 rfl rfl)
theorem dL_law_253 : decode cL_law 253 = .ok (.iload 5, 2) := dk_21 5 (dk_at dksL_law_8 3 rfl rfl)
theorem dL_law_255 : decode cL_law 255 = .ok (.if_icmp .eq 5, 3) := dk_159 0 5 (dk_at dksL_law_8 5 rfl rfl)
theorem dL_law_258 : decode cL_law 258 = .ok (.iconst 0, 1) := dk_3 (dk_at dksL_law_8 8 rfl rfl)
theorem dL_law_259 : decode cL_law 259 = .ok (.ireturn, 1) := dk_172 (dk_at dksL_law_8 9 rfl rfl)
theorem dL_law_260 : decode cL_law 260 = .ok (.iload 5, 2) := dk_21 5 (dk_at dksL_law_8 10 rfl rfl)
theorem dL_law_262 : decode cL_law 262 = .ok (.ifCond .ne 15, 3) := dk_154 0 15 (dk_at dksL_law_8 12 rfl rfl)
theorem dL_law_265 : decode cL_law 265 = .ok (.aload_n 3, 1) := dk_45 (dk_at dksL_law_8 15 rfl rfl)
theorem dL_law_266 : decode cL_law 266 = .ok (.iconst 0, 1) := dk_3 (dk_at dksL_law_8 16 rfl rfl)
theorem dL_law_267 : decode cL_law 267 = .ok (.laload, 1) := dk_47 (dk_at dksL_law_8 17 rfl rfl)
theorem dL_law_268 : decode cL_law 268 = .ok (.iload 6, 2) := dk_21 6 (dk_at dksL_law_8 18 rfl rfl)
theorem dL_law_270 : decode cL_law 270 = .ok (.i2l, 1) := dk_133 (dk_at dksL_law_8 20 rfl rfl)
theorem dL_law_271 : decode cL_law 271 = .ok (.lcmp, 1) := dk_148 (dk_at dksL_law_8 21 rfl rfl)
theorem dL_law_272 : decode cL_law 272 = .ok (.ifCond .eq 5, 3) := dk_153 0 5 (dk_at dksL_law_9 0 rfl rfl)
theorem dL_law_275 : decode cL_law 275 = .ok (.iconst 0, 1) := dk_3 (dk_at dksL_law_9 3 rfl rfl)
theorem dL_law_276 : decode cL_law 276 = .ok (.ireturn, 1) := dk_172 (dk_at dksL_law_9 4 rfl rfl)
theorem dL_law_277 : decode cL_law 277 = .ok (.goto 1079, 3) := dk_167 4 55 (dk_at dksL_law_9 5 rfl rfl)
theorem dL_law_280 : decode cL_law 280 = .ok (.aload_n 1, 1) := dk_43 (dk_at dksL_law_9 8 rfl rfl)
theorem dL_law_281 : decode cL_law 281 = .ok (.aload_n 3, 1) := dk_45 (dk_at dksL_law_9 9 rfl rfl)
theorem dL_law_282 : decode cL_law 282 = .ok (.invokestatic 94, 3) := dk_184 0 94 (dk_at dksL_law_9 10 rfl rfl)
theorem dL_law_285 : decode cL_law 285 = .ok (.istore 5, 2) := dk_54 5 (dk_at dksL_law_9 13 rfl rfl)
theorem dL_law_287 : decode cL_law 287 = .ok (.aload_n 2, 1) := dk_44 (dk_at dksL_law_9 15 rfl rfl)
theorem dL_law_288 : decode cL_law 288 = .ok (.invokevirtual 97, 3) := dk_182 0 97 (dk_at dksL_law_9 16 rfl rfl)
theorem dL_law_291 : decode cL_law 291 = .ok (.istore 6, 2) := dk_54 6 (dk_at dksL_law_9 19 rfl rfl)
theorem dL_law_293 : decode cL_law 293 = .ok (.aload_n 2, 1) := dk_44 (dk_at dksL_law_9 21 rfl rfl)
theorem dL_law_294 : decode cL_law 294 = .ok (.invokevirtual 87, 3) := dk_182 0 87 (dk_at dksL_law_10 0 rfl rfl)
theorem dL_law_297 : decode cL_law 297 = .ok (.iload 5, 2) := dk_21 5 (dk_at dksL_law_10 3 rfl rfl)
theorem dL_law_299 : decode cL_law 299 = .ok (.if_icmp .eq 5, 3) := dk_159 0 5 (dk_at dksL_law_10 5 rfl rfl)
theorem dL_law_302 : decode cL_law 302 = .ok (.iconst 0, 1) := dk_3 (dk_at dksL_law_10 8 rfl rfl)
theorem dL_law_303 : decode cL_law 303 = .ok (.ireturn, 1) := dk_172 (dk_at dksL_law_10 9 rfl rfl)
theorem dL_law_304 : decode cL_law 304 = .ok (.iload 5, 2) := dk_21 5 (dk_at dksL_law_10 10 rfl rfl)
theorem dL_law_306 : decode cL_law 306 = .ok (.ifCond .ne 15, 3) := dk_154 0 15 (dk_at dksL_law_10 12 rfl rfl)
theorem dL_law_309 : decode cL_law 309 = .ok (.aload_n 3, 1) := dk_45 (dk_at dksL_law_10 15 rfl rfl)
theorem dL_law_310 : decode cL_law 310 = .ok (.iconst 0, 1) := dk_3 (dk_at dksL_law_10 16 rfl rfl)
theorem dL_law_311 : decode cL_law 311 = .ok (.laload, 1) := dk_47 (dk_at dksL_law_10 17 rfl rfl)
theorem dL_law_312 : decode cL_law 312 = .ok (.iload 6, 2) := dk_21 6 (dk_at dksL_law_10 18 rfl rfl)
theorem dL_law_314 : decode cL_law 314 = .ok (.i2l, 1) := dk_133 (dk_at dksL_law_10 20 rfl rfl)
theorem dL_law_315 : decode cL_law 315 = .ok (.lcmp, 1) := dk_148 (dk_at dksL_law_10 21 rfl rfl)
theorem dL_law_316 : decode cL_law 316 = .ok (.ifCond .eq 5, 3) := dk_153 0 5 (dk_at dksL_law_11 0 rfl rfl)
theorem dL_law_319 : decode cL_law 319 = .ok (.iconst 0, 1) := dk_3 (dk_at dksL_law_11 3 rfl rfl)
theorem dL_law_320 : decode cL_law 320 = .ok (.ireturn, 1) := dk_172 (dk_at dksL_law_11 4 rfl rfl)
theorem dL_law_321 : decode cL_law 321 = .ok (.goto 1035, 3) := dk_167 4 11 (dk_at dksL_law_11 5 rfl rfl)
theorem dL_law_324 : decode cL_law 324 = .ok (.aload_n 1, 1) := dk_43 (dk_at dksL_law_11 8 rfl rfl)
theorem dL_law_325 : decode cL_law 325 = .ok (.invokevirtual 98, 3) := dk_182 0 98 (dk_at dksL_law_11 9 rfl rfl)
theorem dL_law_328 : decode cL_law 328 = .ok (.aload_n 2, 1) := dk_44 (dk_at dksL_law_11 12 rfl rfl)
theorem dL_law_329 : decode cL_law 329 = .ok (.invokevirtual 101, 3) := dk_182 0 101 (dk_at dksL_law_11 13 rfl rfl)
theorem dL_law_332 : decode cL_law 332 = .ok (.if_icmp .eq 1024, 3) := dk_159 4 0 (dk_at dksL_law_11 16 rfl rfl)
theorem dL_law_335 : decode cL_law 335 = .ok (.iconst 0, 1) := dk_3 (dk_at dksL_law_11 19 rfl rfl)
theorem dL_law_336 : decode cL_law 336 = .ok (.ireturn, 1) := dk_172 (dk_at dksL_law_11 20 rfl rfl)
theorem dL_law_337 : decode cL_law 337 = .ok (.aload_n 1, 1) := dk_43 (dk_at dksL_law_11 21 rfl rfl)
theorem dL_law_338 : decode cL_law 338 = .ok (.invokevirtual 102, 3) := dk_182 0 102 (dk_at dksL_law_12 0 rfl rfl)
theorem dL_law_341 : decode cL_law 341 = .ok (.aload_n 2, 1) := dk_44 (dk_at dksL_law_12 3 rfl rfl)
theorem dL_law_342 : decode cL_law 342 = .ok (.invokevirtual 105, 3) := dk_182 0 105 (dk_at dksL_law_12 4 rfl rfl)
theorem dL_law_345 : decode cL_law 345 = .ok (.if_icmp .eq 1011, 3) := dk_159 3 243 (dk_at dksL_law_12 7 rfl rfl)
theorem dL_law_348 : decode cL_law 348 = .ok (.iconst 0, 1) := dk_3 (dk_at dksL_law_12 10 rfl rfl)
theorem dL_law_349 : decode cL_law 349 = .ok (.ireturn, 1) := dk_172 (dk_at dksL_law_12 11 rfl rfl)
theorem dL_law_350 : decode cL_law 350 = .ok (.aload_n 1, 1) := dk_43 (dk_at dksL_law_12 12 rfl rfl)
theorem dL_law_351 : decode cL_law 351 = .ok (.aload_n 0, 1) := dk_42 (dk_at dksL_law_12 13 rfl rfl)
theorem dL_law_352 : decode cL_law 352 = .ok (.iload 4, 2) := dk_21 4 (dk_at dksL_law_12 14 rfl rfl)
theorem dL_law_354 : decode cL_law 354 = .ok (.iconst 1, 1) := dk_4 (dk_at dksL_law_12 16 rfl rfl)
theorem dL_law_355 : decode cL_law 355 = .ok (.iadd, 1) := dk_96 (dk_at dksL_law_12 17 rfl rfl)
theorem dL_law_356 : decode cL_law 356 = .ok (.iaload, 1) := dk_46 (dk_at dksL_law_12 18 rfl rfl)
theorem dL_law_357 : decode cL_law 357 = .ok (.aload_n 3, 1) := dk_45 (dk_at dksL_law_12 19 rfl rfl)
theorem dL_law_358 : decode cL_law 358 = .ok (.invokestatic 106, 3) := dk_184 0 106 (dk_at dksL_law_12 20 rfl rfl)
theorem dL_law_361 : decode cL_law 361 = .ok (.istore 5, 2) := dk_54 5 (dk_at dksL_law_13 0 rfl rfl)
theorem dL_law_363 : decode cL_law 363 = .ok (.aload_n 2, 1) := dk_44 (dk_at dksL_law_13 2 rfl rfl)
theorem dL_law_364 : decode cL_law 364 = .ok (.aload_n 0, 1) := dk_42 (dk_at dksL_law_13 3 rfl rfl)
theorem dL_law_365 : decode cL_law 365 = .ok (.iload 4, 2) := dk_21 4 (dk_at dksL_law_13 4 rfl rfl)
theorem dL_law_367 : decode cL_law 367 = .ok (.iconst 1, 1) := dk_4 (dk_at dksL_law_13 6 rfl rfl)
theorem dL_law_368 : decode cL_law 368 = .ok (.iadd, 1) := dk_96 (dk_at dksL_law_13 7 rfl rfl)
theorem dL_law_369 : decode cL_law 369 = .ok (.iaload, 1) := dk_46 (dk_at dksL_law_13 8 rfl rfl)
theorem dL_law_370 : decode cL_law 370 = .ok (.invokevirtual 108, 3) := dk_182 0 108 (dk_at dksL_law_13 9 rfl rfl)
theorem dL_law_373 : decode cL_law 373 = .ok (.istore 6, 2) := dk_54 6 (dk_at dksL_law_13 12 rfl rfl)
theorem dL_law_375 : decode cL_law 375 = .ok (.aload_n 2, 1) := dk_44 (dk_at dksL_law_13 14 rfl rfl)
theorem dL_law_376 : decode cL_law 376 = .ok (.invokevirtual 87, 3) := dk_182 0 87 (dk_at dksL_law_13 15 rfl rfl)
theorem dL_law_379 : decode cL_law 379 = .ok (.iload 5, 2) := dk_21 5 (dk_at dksL_law_13 18 rfl rfl)
theorem dL_law_381 : decode cL_law 381 = .ok (.if_icmp .eq 5, 3) := dk_159 0 5 (dk_at dksL_law_13 20 rfl rfl)
theorem dL_law_384 : decode cL_law 384 = .ok (.iconst 0, 1) := dk_3 (dk_at dksL_law_13 23 rfl rfl)
theorem dL_law_385 : decode cL_law 385 = .ok (.ireturn, 1) := dk_172 (dk_at dksL_law_14 0 rfl rfl)
theorem dL_law_386 : decode cL_law 386 = .ok (.iload 5, 2) := dk_21 5 (dk_at dksL_law_14 1 rfl rfl)
theorem dL_law_388 : decode cL_law 388 = .ok (.ifCond .ne 15, 3) := dk_154 0 15 (dk_at dksL_law_14 3 rfl rfl)
theorem dL_law_391 : decode cL_law 391 = .ok (.aload_n 3, 1) := dk_45 (dk_at dksL_law_14 6 rfl rfl)
theorem dL_law_392 : decode cL_law 392 = .ok (.iconst 0, 1) := dk_3 (dk_at dksL_law_14 7 rfl rfl)
theorem dL_law_393 : decode cL_law 393 = .ok (.laload, 1) := dk_47 (dk_at dksL_law_14 8 rfl rfl)
theorem dL_law_394 : decode cL_law 394 = .ok (.iload 6, 2) := dk_21 6 (dk_at dksL_law_14 9 rfl rfl)
theorem dL_law_396 : decode cL_law 396 = .ok (.i2l, 1) := dk_133 (dk_at dksL_law_14 11 rfl rfl)
theorem dL_law_397 : decode cL_law 397 = .ok (.lcmp, 1) := dk_148 (dk_at dksL_law_14 12 rfl rfl)
theorem dL_law_398 : decode cL_law 398 = .ok (.ifCond .eq 5, 3) := dk_153 0 5 (dk_at dksL_law_14 13 rfl rfl)
theorem dL_law_401 : decode cL_law 401 = .ok (.iconst 0, 1) := dk_3 (dk_at dksL_law_14 16 rfl rfl)
theorem dL_law_402 : decode cL_law 402 = .ok (.ireturn, 1) := dk_172 (dk_at dksL_law_14 17 rfl rfl)
theorem dL_law_403 : decode cL_law 403 = .ok (.goto 953, 3) := dk_167 3 185 (dk_at dksL_law_14 18 rfl rfl)
theorem dL_law_406 : decode cL_law 406 = .ok (.aload_n 1, 1) := dk_43 (dk_at dksL_law_14 21 rfl rfl)
theorem dL_law_407 : decode cL_law 407 = .ok (.aload_n 0, 1) := dk_42 (dk_at dksL_law_14 22 rfl rfl)
theorem dL_law_408 : decode cL_law 408 = .ok (.iload 4, 2) := dk_21 4 (dk_at dksL_law_15 0 rfl rfl)
theorem dL_law_410 : decode cL_law 410 = .ok (.iconst 1, 1) := dk_4 (dk_at dksL_law_15 2 rfl rfl)
theorem dL_law_411 : decode cL_law 411 = .ok (.iadd, 1) := dk_96 (dk_at dksL_law_15 3 rfl rfl)
theorem dL_law_412 : decode cL_law 412 = .ok (.iaload, 1) := dk_46 (dk_at dksL_law_15 4 rfl rfl)
theorem dL_law_413 : decode cL_law 413 = .ok (.aload_n 3, 1) := dk_45 (dk_at dksL_law_15 5 rfl rfl)
theorem dL_law_414 : decode cL_law 414 = .ok (.invokestatic 109, 3) := dk_184 0 109 (dk_at dksL_law_15 6 rfl rfl)
theorem dL_law_417 : decode cL_law 417 = .ok (.istore 5, 2) := dk_54 5 (dk_at dksL_law_15 9 rfl rfl)
theorem dL_law_419 : decode cL_law 419 = .ok (.aload_n 2, 1) := dk_44 (dk_at dksL_law_15 11 rfl rfl)
theorem dL_law_420 : decode cL_law 420 = .ok (.aload_n 0, 1) := dk_42 (dk_at dksL_law_15 12 rfl rfl)
theorem dL_law_421 : decode cL_law 421 = .ok (.iload 4, 2) := dk_21 4 (dk_at dksL_law_15 13 rfl rfl)
theorem dL_law_423 : decode cL_law 423 = .ok (.iconst 1, 1) := dk_4 (dk_at dksL_law_15 15 rfl rfl)
theorem dL_law_424 : decode cL_law 424 = .ok (.iadd, 1) := dk_96 (dk_at dksL_law_15 16 rfl rfl)
theorem dL_law_425 : decode cL_law 425 = .ok (.iaload, 1) := dk_46 (dk_at dksL_law_15 17 rfl rfl)
theorem dL_law_426 : decode cL_law 426 = .ok (.invokevirtual 111, 3) := dk_182 0 111 (dk_at dksL_law_15 18 rfl rfl)
theorem dL_law_429 : decode cL_law 429 = .ok (.istore 6, 2) := dk_54 6 (dk_at dksL_law_15 21 rfl rfl)
theorem dL_law_431 : decode cL_law 431 = .ok (.aload_n 2, 1) := dk_44 (dk_at dksL_law_15 23 rfl rfl)
theorem dL_law_432 : decode cL_law 432 = .ok (.invokevirtual 87, 3) := dk_182 0 87 (dk_at dksL_law_16 0 rfl rfl)
theorem dL_law_435 : decode cL_law 435 = .ok (.iload 5, 2) := dk_21 5 (dk_at dksL_law_16 3 rfl rfl)
theorem dL_law_437 : decode cL_law 437 = .ok (.if_icmp .eq 5, 3) := dk_159 0 5 (dk_at dksL_law_16 5 rfl rfl)
theorem dL_law_440 : decode cL_law 440 = .ok (.iconst 0, 1) := dk_3 (dk_at dksL_law_16 8 rfl rfl)
theorem dL_law_441 : decode cL_law 441 = .ok (.ireturn, 1) := dk_172 (dk_at dksL_law_16 9 rfl rfl)
theorem dL_law_442 : decode cL_law 442 = .ok (.iload 5, 2) := dk_21 5 (dk_at dksL_law_16 10 rfl rfl)
theorem dL_law_444 : decode cL_law 444 = .ok (.ifCond .ne 22, 3) := dk_154 0 22 (dk_at dksL_law_16 12 rfl rfl)
theorem dL_law_447 : decode cL_law 447 = .ok (.aload_n 3, 1) := dk_45 (dk_at dksL_law_16 15 rfl rfl)
theorem dL_law_448 : decode cL_law 448 = .ok (.iconst 0, 1) := dk_3 (dk_at dksL_law_16 16 rfl rfl)
theorem dL_law_449 : decode cL_law 449 = .ok (.laload, 1) := dk_47 (dk_at dksL_law_16 17 rfl rfl)
theorem dL_law_450 : decode cL_law 450 = .ok (.iload 6, 2) := dk_21 6 (dk_at dksL_law_16 18 rfl rfl)
theorem dL_law_452 : decode cL_law 452 = .ok (.ifCond .eq 7, 3) := dk_153 0 7 (dk_at dksL_law_16 20 rfl rfl)
theorem dL_law_455 : decode cL_law 455 = .ok (.lconst 1, 1) := dk_10 (dk_at dksL_law_16 23 rfl rfl)
theorem dL_law_456 : decode cL_law 456 = .ok (.goto 4, 3) := dk_167 0 4 (dk_at dksL_law_17 0 rfl rfl)
theorem dL_law_459 : decode cL_law 459 = .ok (.lconst 0, 1) := dk_9 (dk_at dksL_law_17 3 rfl rfl)
theorem dL_law_460 : decode cL_law 460 = .ok (.lcmp, 1) := dk_148 (dk_at dksL_law_17 4 rfl rfl)
theorem dL_law_461 : decode cL_law 461 = .ok (.ifCond .eq 5, 3) := dk_153 0 5 (dk_at dksL_law_17 5 rfl rfl)
theorem dL_law_464 : decode cL_law 464 = .ok (.iconst 0, 1) := dk_3 (dk_at dksL_law_17 8 rfl rfl)
theorem dL_law_465 : decode cL_law 465 = .ok (.ireturn, 1) := dk_172 (dk_at dksL_law_17 9 rfl rfl)
theorem dL_law_466 : decode cL_law 466 = .ok (.goto 890, 3) := dk_167 3 122 (dk_at dksL_law_17 10 rfl rfl)
theorem dL_law_469 : decode cL_law 469 = .ok (.aload_n 1, 1) := dk_43 (dk_at dksL_law_17 13 rfl rfl)
theorem dL_law_470 : decode cL_law 470 = .ok (.aload_n 0, 1) := dk_42 (dk_at dksL_law_17 14 rfl rfl)
theorem dL_law_471 : decode cL_law 471 = .ok (.iload 4, 2) := dk_21 4 (dk_at dksL_law_17 15 rfl rfl)
theorem dL_law_473 : decode cL_law 473 = .ok (.iconst 1, 1) := dk_4 (dk_at dksL_law_17 17 rfl rfl)
theorem dL_law_474 : decode cL_law 474 = .ok (.iadd, 1) := dk_96 (dk_at dksL_law_17 18 rfl rfl)
theorem dL_law_475 : decode cL_law 475 = .ok (.iaload, 1) := dk_46 (dk_at dksL_law_17 19 rfl rfl)
theorem dL_law_476 : decode cL_law 476 = .ok (.aload_n 0, 1) := dk_42 (dk_at dksL_law_17 20 rfl rfl)
theorem dL_law_477 : decode cL_law 477 = .ok (.iload 4, 2) := dk_21 4 (dk_at dksL_law_17 21 rfl rfl)
theorem dL_law_479 : decode cL_law 479 = .ok (.iconst 2, 1) := dk_5 (dk_at dksL_law_17 23 rfl rfl)
theorem dL_law_480 : decode cL_law 480 = .ok (.iadd, 1) := dk_96 (dk_at dksL_law_18 0 rfl rfl)
theorem dL_law_481 : decode cL_law 481 = .ok (.iaload, 1) := dk_46 (dk_at dksL_law_18 1 rfl rfl)
theorem dL_law_482 : decode cL_law 482 = .ok (.aload_n 3, 1) := dk_45 (dk_at dksL_law_18 2 rfl rfl)
theorem dL_law_483 : decode cL_law 483 = .ok (.invokestatic 112, 3) := dk_184 0 112 (dk_at dksL_law_18 3 rfl rfl)
theorem dL_law_486 : decode cL_law 486 = .ok (.istore 5, 2) := dk_54 5 (dk_at dksL_law_18 6 rfl rfl)
theorem dL_law_488 : decode cL_law 488 = .ok (.aload_n 2, 1) := dk_44 (dk_at dksL_law_18 8 rfl rfl)
theorem dL_law_489 : decode cL_law 489 = .ok (.aload_n 0, 1) := dk_42 (dk_at dksL_law_18 9 rfl rfl)
theorem dL_law_490 : decode cL_law 490 = .ok (.iload 4, 2) := dk_21 4 (dk_at dksL_law_18 10 rfl rfl)
theorem dL_law_492 : decode cL_law 492 = .ok (.iconst 1, 1) := dk_4 (dk_at dksL_law_18 12 rfl rfl)
theorem dL_law_493 : decode cL_law 493 = .ok (.iadd, 1) := dk_96 (dk_at dksL_law_18 13 rfl rfl)
theorem dL_law_494 : decode cL_law 494 = .ok (.iaload, 1) := dk_46 (dk_at dksL_law_18 14 rfl rfl)
theorem dL_law_495 : decode cL_law 495 = .ok (.aload_n 0, 1) := dk_42 (dk_at dksL_law_18 15 rfl rfl)
theorem dL_law_496 : decode cL_law 496 = .ok (.iload 4, 2) := dk_21 4 (dk_at dksL_law_18 16 rfl rfl)
theorem dL_law_498 : decode cL_law 498 = .ok (.iconst 2, 1) := dk_5 (dk_at dksL_law_18 18 rfl rfl)
theorem dL_law_499 : decode cL_law 499 = .ok (.iadd, 1) := dk_96 (dk_at dksL_law_18 19 rfl rfl)
theorem dL_law_500 : decode cL_law 500 = .ok (.iaload, 1) := dk_46 (dk_at dksL_law_18 20 rfl rfl)
theorem dL_law_501 : decode cL_law 501 = .ok (.invokevirtual 115, 3) := dk_182 0 115 (dk_at dksL_law_18 21 rfl rfl)
theorem dL_law_504 : decode cL_law 504 = .ok (.istore 6, 2) := dk_54 6 (dk_at dksL_law_19 0 rfl rfl)
theorem dL_law_506 : decode cL_law 506 = .ok (.aload_n 2, 1) := dk_44 (dk_at dksL_law_19 2 rfl rfl)
theorem dL_law_507 : decode cL_law 507 = .ok (.invokevirtual 87, 3) := dk_182 0 87 (dk_at dksL_law_19 3 rfl rfl)
theorem dL_law_510 : decode cL_law 510 = .ok (.iload 5, 2) := dk_21 5 (dk_at dksL_law_19 6 rfl rfl)
theorem dL_law_512 : decode cL_law 512 = .ok (.if_icmp .eq 5, 3) := dk_159 0 5 (dk_at dksL_law_19 8 rfl rfl)
theorem dL_law_515 : decode cL_law 515 = .ok (.iconst 0, 1) := dk_3 (dk_at dksL_law_19 11 rfl rfl)
theorem dL_law_516 : decode cL_law 516 = .ok (.ireturn, 1) := dk_172 (dk_at dksL_law_19 12 rfl rfl)
theorem dL_law_517 : decode cL_law 517 = .ok (.iload 5, 2) := dk_21 5 (dk_at dksL_law_19 13 rfl rfl)
theorem dL_law_519 : decode cL_law 519 = .ok (.ifCond .ne 15, 3) := dk_154 0 15 (dk_at dksL_law_19 15 rfl rfl)
theorem dL_law_522 : decode cL_law 522 = .ok (.aload_n 3, 1) := dk_45 (dk_at dksL_law_19 18 rfl rfl)
theorem dL_law_523 : decode cL_law 523 = .ok (.iconst 0, 1) := dk_3 (dk_at dksL_law_19 19 rfl rfl)
theorem dL_law_524 : decode cL_law 524 = .ok (.laload, 1) := dk_47 (dk_at dksL_law_19 20 rfl rfl)
theorem dL_law_525 : decode cL_law 525 = .ok (.iload 6, 2) := dk_21 6 (dk_at dksL_law_19 21 rfl rfl)
theorem dL_law_527 : decode cL_law 527 = .ok (.i2l, 1) := dk_133 (dk_at dksL_law_19 23 rfl rfl)
theorem dL_law_528 : decode cL_law 528 = .ok (.lcmp, 1) := dk_148 (dk_at dksL_law_20 0 rfl rfl)
theorem dL_law_529 : decode cL_law 529 = .ok (.ifCond .eq 5, 3) := dk_153 0 5 (dk_at dksL_law_20 1 rfl rfl)
theorem dL_law_532 : decode cL_law 532 = .ok (.iconst 0, 1) := dk_3 (dk_at dksL_law_20 4 rfl rfl)
theorem dL_law_533 : decode cL_law 533 = .ok (.ireturn, 1) := dk_172 (dk_at dksL_law_20 5 rfl rfl)
theorem dL_law_534 : decode cL_law 534 = .ok (.goto 822, 3) := dk_167 3 54 (dk_at dksL_law_20 6 rfl rfl)
theorem dL_law_537 : decode cL_law 537 = .ok (.aload_n 1, 1) := dk_43 (dk_at dksL_law_20 9 rfl rfl)
theorem dL_law_538 : decode cL_law 538 = .ok (.aload_n 0, 1) := dk_42 (dk_at dksL_law_20 10 rfl rfl)
theorem dL_law_539 : decode cL_law 539 = .ok (.iload 4, 2) := dk_21 4 (dk_at dksL_law_20 11 rfl rfl)
theorem dL_law_541 : decode cL_law 541 = .ok (.iconst 1, 1) := dk_4 (dk_at dksL_law_20 13 rfl rfl)
theorem dL_law_542 : decode cL_law 542 = .ok (.iadd, 1) := dk_96 (dk_at dksL_law_20 14 rfl rfl)
theorem dL_law_543 : decode cL_law 543 = .ok (.iaload, 1) := dk_46 (dk_at dksL_law_20 15 rfl rfl)
theorem dL_law_544 : decode cL_law 544 = .ok (.aload_n 0, 1) := dk_42 (dk_at dksL_law_20 16 rfl rfl)
theorem dL_law_545 : decode cL_law 545 = .ok (.iload 4, 2) := dk_21 4 (dk_at dksL_law_20 17 rfl rfl)
theorem dL_law_547 : decode cL_law 547 = .ok (.iconst 2, 1) := dk_5 (dk_at dksL_law_20 19 rfl rfl)
theorem dL_law_548 : decode cL_law 548 = .ok (.iadd, 1) := dk_96 (dk_at dksL_law_20 20 rfl rfl)
theorem dL_law_549 : decode cL_law 549 = .ok (.iaload, 1) := dk_46 (dk_at dksL_law_20 21 rfl rfl)
theorem dL_law_550 : decode cL_law 550 = .ok (.aload_n 3, 1) := dk_45 (dk_at dksL_law_20 22 rfl rfl)
theorem dL_law_551 : decode cL_law 551 = .ok (.invokestatic 116, 3) := dk_184 0 116 (dk_at dksL_law_21 0 rfl rfl)
theorem dL_law_554 : decode cL_law 554 = .ok (.istore 5, 2) := dk_54 5 (dk_at dksL_law_21 3 rfl rfl)
theorem dL_law_556 : decode cL_law 556 = .ok (.aload_n 2, 1) := dk_44 (dk_at dksL_law_21 5 rfl rfl)
theorem dL_law_557 : decode cL_law 557 = .ok (.aload_n 0, 1) := dk_42 (dk_at dksL_law_21 6 rfl rfl)
theorem dL_law_558 : decode cL_law 558 = .ok (.iload 4, 2) := dk_21 4 (dk_at dksL_law_21 7 rfl rfl)
theorem dL_law_560 : decode cL_law 560 = .ok (.iconst 1, 1) := dk_4 (dk_at dksL_law_21 9 rfl rfl)
theorem dL_law_561 : decode cL_law 561 = .ok (.iadd, 1) := dk_96 (dk_at dksL_law_21 10 rfl rfl)
theorem dL_law_562 : decode cL_law 562 = .ok (.iaload, 1) := dk_46 (dk_at dksL_law_21 11 rfl rfl)
theorem dL_law_563 : decode cL_law 563 = .ok (.aload_n 0, 1) := dk_42 (dk_at dksL_law_21 12 rfl rfl)
theorem dL_law_564 : decode cL_law 564 = .ok (.iload 4, 2) := dk_21 4 (dk_at dksL_law_21 13 rfl rfl)
theorem dL_law_566 : decode cL_law 566 = .ok (.iconst 2, 1) := dk_5 (dk_at dksL_law_21 15 rfl rfl)
theorem dL_law_567 : decode cL_law 567 = .ok (.iadd, 1) := dk_96 (dk_at dksL_law_21 16 rfl rfl)
theorem dL_law_568 : decode cL_law 568 = .ok (.iaload, 1) := dk_46 (dk_at dksL_law_21 17 rfl rfl)
theorem dL_law_569 : decode cL_law 569 = .ok (.invokevirtual 118, 3) := dk_182 0 118 (dk_at dksL_law_21 18 rfl rfl)
theorem dL_law_572 : decode cL_law 572 = .ok (.istore 6, 2) := dk_54 6 (dk_at dksL_law_21 21 rfl rfl)
theorem dL_law_574 : decode cL_law 574 = .ok (.aload_n 2, 1) := dk_44 (dk_at dksL_law_21 23 rfl rfl)
theorem dL_law_575 : decode cL_law 575 = .ok (.invokevirtual 87, 3) := dk_182 0 87 (dk_at dksL_law_22 0 rfl rfl)
theorem dL_law_578 : decode cL_law 578 = .ok (.iload 5, 2) := dk_21 5 (dk_at dksL_law_22 3 rfl rfl)
theorem dL_law_580 : decode cL_law 580 = .ok (.if_icmp .eq 5, 3) := dk_159 0 5 (dk_at dksL_law_22 5 rfl rfl)
theorem dL_law_583 : decode cL_law 583 = .ok (.iconst 0, 1) := dk_3 (dk_at dksL_law_22 8 rfl rfl)
theorem dL_law_584 : decode cL_law 584 = .ok (.ireturn, 1) := dk_172 (dk_at dksL_law_22 9 rfl rfl)
theorem dL_law_585 : decode cL_law 585 = .ok (.iload 5, 2) := dk_21 5 (dk_at dksL_law_22 10 rfl rfl)
theorem dL_law_587 : decode cL_law 587 = .ok (.ifCond .ne 15, 3) := dk_154 0 15 (dk_at dksL_law_22 12 rfl rfl)
theorem dL_law_590 : decode cL_law 590 = .ok (.aload_n 3, 1) := dk_45 (dk_at dksL_law_22 15 rfl rfl)
theorem dL_law_591 : decode cL_law 591 = .ok (.iconst 0, 1) := dk_3 (dk_at dksL_law_22 16 rfl rfl)
theorem dL_law_592 : decode cL_law 592 = .ok (.laload, 1) := dk_47 (dk_at dksL_law_22 17 rfl rfl)
theorem dL_law_593 : decode cL_law 593 = .ok (.iload 6, 2) := dk_21 6 (dk_at dksL_law_22 18 rfl rfl)
theorem dL_law_595 : decode cL_law 595 = .ok (.i2l, 1) := dk_133 (dk_at dksL_law_22 20 rfl rfl)
theorem dL_law_596 : decode cL_law 596 = .ok (.lcmp, 1) := dk_148 (dk_at dksL_law_22 21 rfl rfl)
theorem dL_law_597 : decode cL_law 597 = .ok (.ifCond .eq 5, 3) := dk_153 0 5 (dk_at dksL_law_23 0 rfl rfl)
theorem dL_law_600 : decode cL_law 600 = .ok (.iconst 0, 1) := dk_3 (dk_at dksL_law_23 3 rfl rfl)
theorem dL_law_601 : decode cL_law 601 = .ok (.ireturn, 1) := dk_172 (dk_at dksL_law_23 4 rfl rfl)
theorem dL_law_602 : decode cL_law 602 = .ok (.goto 754, 3) := dk_167 2 242 (dk_at dksL_law_23 5 rfl rfl)
theorem dL_law_605 : decode cL_law 605 = .ok (.aload_n 1, 1) := dk_43 (dk_at dksL_law_23 8 rfl rfl)
theorem dL_law_606 : decode cL_law 606 = .ok (.aload_n 0, 1) := dk_42 (dk_at dksL_law_23 9 rfl rfl)
theorem dL_law_607 : decode cL_law 607 = .ok (.iload 4, 2) := dk_21 4 (dk_at dksL_law_23 10 rfl rfl)
theorem dL_law_609 : decode cL_law 609 = .ok (.iconst 1, 1) := dk_4 (dk_at dksL_law_23 12 rfl rfl)
theorem dL_law_610 : decode cL_law 610 = .ok (.iadd, 1) := dk_96 (dk_at dksL_law_23 13 rfl rfl)
theorem dL_law_611 : decode cL_law 611 = .ok (.iaload, 1) := dk_46 (dk_at dksL_law_23 14 rfl rfl)
theorem dL_law_612 : decode cL_law 612 = .ok (.aload_n 0, 1) := dk_42 (dk_at dksL_law_23 15 rfl rfl)
theorem dL_law_613 : decode cL_law 613 = .ok (.iload 4, 2) := dk_21 4 (dk_at dksL_law_23 16 rfl rfl)
theorem dL_law_615 : decode cL_law 615 = .ok (.iconst 2, 1) := dk_5 (dk_at dksL_law_23 18 rfl rfl)
theorem dL_law_616 : decode cL_law 616 = .ok (.iadd, 1) := dk_96 (dk_at dksL_law_23 19 rfl rfl)
theorem dL_law_617 : decode cL_law 617 = .ok (.iaload, 1) := dk_46 (dk_at dksL_law_23 20 rfl rfl)
theorem dL_law_618 : decode cL_law 618 = .ok (.invokestatic 119, 3) := dk_184 0 119 (dk_at dksL_law_23 21 rfl rfl)
theorem dL_law_621 : decode cL_law 621 = .ok (.istore 5, 2) := dk_54 5 (dk_at dksL_law_24 0 rfl rfl)
theorem dL_law_623 : decode cL_law 623 = .ok (.aload_n 2, 1) := dk_44 (dk_at dksL_law_24 2 rfl rfl)
theorem dL_law_624 : decode cL_law 624 = .ok (.aload_n 0, 1) := dk_42 (dk_at dksL_law_24 3 rfl rfl)
theorem dL_law_625 : decode cL_law 625 = .ok (.iload 4, 2) := dk_21 4 (dk_at dksL_law_24 4 rfl rfl)
theorem dL_law_627 : decode cL_law 627 = .ok (.iconst 1, 1) := dk_4 (dk_at dksL_law_24 6 rfl rfl)
theorem dL_law_628 : decode cL_law 628 = .ok (.iadd, 1) := dk_96 (dk_at dksL_law_24 7 rfl rfl)
theorem dL_law_629 : decode cL_law 629 = .ok (.iaload, 1) := dk_46 (dk_at dksL_law_24 8 rfl rfl)
theorem dL_law_630 : decode cL_law 630 = .ok (.aload_n 0, 1) := dk_42 (dk_at dksL_law_24 9 rfl rfl)
theorem dL_law_631 : decode cL_law 631 = .ok (.iload 4, 2) := dk_21 4 (dk_at dksL_law_24 10 rfl rfl)
theorem dL_law_633 : decode cL_law 633 = .ok (.iconst 2, 1) := dk_5 (dk_at dksL_law_24 12 rfl rfl)
theorem dL_law_634 : decode cL_law 634 = .ok (.iadd, 1) := dk_96 (dk_at dksL_law_24 13 rfl rfl)
theorem dL_law_635 : decode cL_law 635 = .ok (.iaload, 1) := dk_46 (dk_at dksL_law_24 14 rfl rfl)
theorem dL_law_636 : decode cL_law 636 = .ok (.invokevirtual 122, 3) := dk_182 0 122 (dk_at dksL_law_24 15 rfl rfl)
theorem dL_law_639 : decode cL_law 639 = .ok (.aload_n 2, 1) := dk_44 (dk_at dksL_law_24 18 rfl rfl)
theorem dL_law_640 : decode cL_law 640 = .ok (.invokevirtual 87, 3) := dk_182 0 87 (dk_at dksL_law_24 19 rfl rfl)
theorem dL_law_643 : decode cL_law 643 = .ok (.iload 5, 2) := dk_21 5 (dk_at dksL_law_24 22 rfl rfl)
theorem dL_law_645 : decode cL_law 645 = .ok (.if_icmp .eq 5, 3) := dk_159 0 5 (dk_at dksL_law_25 0 rfl rfl)
theorem dL_law_648 : decode cL_law 648 = .ok (.iconst 0, 1) := dk_3 (dk_at dksL_law_25 3 rfl rfl)
theorem dL_law_649 : decode cL_law 649 = .ok (.ireturn, 1) := dk_172 (dk_at dksL_law_25 4 rfl rfl)
theorem dL_law_650 : decode cL_law 650 = .ok (.goto 706, 3) := dk_167 2 194 (dk_at dksL_law_25 5 rfl rfl)
theorem dL_law_653 : decode cL_law 653 = .ok (.aload_n 1, 1) := dk_43 (dk_at dksL_law_25 8 rfl rfl)
theorem dL_law_654 : decode cL_law 654 = .ok (.aload_n 0, 1) := dk_42 (dk_at dksL_law_25 9 rfl rfl)
theorem dL_law_655 : decode cL_law 655 = .ok (.iload 4, 2) := dk_21 4 (dk_at dksL_law_25 10 rfl rfl)
theorem dL_law_657 : decode cL_law 657 = .ok (.iconst 1, 1) := dk_4 (dk_at dksL_law_25 12 rfl rfl)
theorem dL_law_658 : decode cL_law 658 = .ok (.iadd, 1) := dk_96 (dk_at dksL_law_25 13 rfl rfl)
theorem dL_law_659 : decode cL_law 659 = .ok (.iaload, 1) := dk_46 (dk_at dksL_law_25 14 rfl rfl)
theorem dL_law_660 : decode cL_law 660 = .ok (.aload_n 0, 1) := dk_42 (dk_at dksL_law_25 15 rfl rfl)
theorem dL_law_661 : decode cL_law 661 = .ok (.iload 4, 2) := dk_21 4 (dk_at dksL_law_25 16 rfl rfl)
theorem dL_law_663 : decode cL_law 663 = .ok (.iconst 2, 1) := dk_5 (dk_at dksL_law_25 18 rfl rfl)
theorem dL_law_664 : decode cL_law 664 = .ok (.iadd, 1) := dk_96 (dk_at dksL_law_25 19 rfl rfl)
theorem dL_law_665 : decode cL_law 665 = .ok (.iaload, 1) := dk_46 (dk_at dksL_law_25 20 rfl rfl)
theorem dL_law_666 : decode cL_law 666 = .ok (.aload_n 0, 1) := dk_42 (dk_at dksL_law_25 21 rfl rfl)
theorem dL_law_667 : decode cL_law 667 = .ok (.iload 4, 2) := dk_21 4 (dk_at dksL_law_25 22 rfl rfl)
theorem dL_law_669 : decode cL_law 669 = .ok (.iconst 3, 1) := dk_6 (dk_at dksL_law_26 0 rfl rfl)
theorem dL_law_670 : decode cL_law 670 = .ok (.iadd, 1) := dk_96 (dk_at dksL_law_26 1 rfl rfl)
theorem dL_law_671 : decode cL_law 671 = .ok (.iaload, 1) := dk_46 (dk_at dksL_law_26 2 rfl rfl)
theorem dL_law_672 : decode cL_law 672 = .ok (.aload_n 0, 1) := dk_42 (dk_at dksL_law_26 3 rfl rfl)
theorem dL_law_673 : decode cL_law 673 = .ok (.iload 4, 2) := dk_21 4 (dk_at dksL_law_26 4 rfl rfl)
theorem dL_law_675 : decode cL_law 675 = .ok (.iconst 4, 1) := dk_7 (dk_at dksL_law_26 6 rfl rfl)
theorem dL_law_676 : decode cL_law 676 = .ok (.iadd, 1) := dk_96 (dk_at dksL_law_26 7 rfl rfl)
theorem dL_law_677 : decode cL_law 677 = .ok (.iaload, 1) := dk_46 (dk_at dksL_law_26 8 rfl rfl)
theorem dL_law_678 : decode cL_law 678 = .ok (.ifCond .eq 7, 3) := dk_153 0 7 (dk_at dksL_law_26 9 rfl rfl)
theorem dL_law_681 : decode cL_law 681 = .ok (.iconst 1, 1) := dk_4 (dk_at dksL_law_26 12 rfl rfl)
theorem dL_law_682 : decode cL_law 682 = .ok (.goto 4, 3) := dk_167 0 4 (dk_at dksL_law_26 13 rfl rfl)
theorem dL_law_685 : decode cL_law 685 = .ok (.iconst 0, 1) := dk_3 (dk_at dksL_law_26 16 rfl rfl)
theorem dL_law_686 : decode cL_law 686 = .ok (.aload_n 3, 1) := dk_45 (dk_at dksL_law_26 17 rfl rfl)
theorem dL_law_687 : decode cL_law 687 = .ok (.invokestatic 123, 3) := dk_184 0 123 (dk_at dksL_law_26 18 rfl rfl)
theorem dL_law_690 : decode cL_law 690 = .ok (.istore 5, 2) := dk_54 5 (dk_at dksL_law_26 21 rfl rfl)
theorem dL_law_692 : decode cL_law 692 = .ok (.aload_n 2, 1) := dk_44 (dk_at dksL_law_26 23 rfl rfl)
theorem dL_law_693 : decode cL_law 693 = .ok (.aload_n 0, 1) := dk_42 (dk_at dksL_law_27 0 rfl rfl)
theorem dL_law_694 : decode cL_law 694 = .ok (.iload 4, 2) := dk_21 4 (dk_at dksL_law_27 1 rfl rfl)
theorem dL_law_696 : decode cL_law 696 = .ok (.iconst 1, 1) := dk_4 (dk_at dksL_law_27 3 rfl rfl)
theorem dL_law_697 : decode cL_law 697 = .ok (.iadd, 1) := dk_96 (dk_at dksL_law_27 4 rfl rfl)
theorem dL_law_698 : decode cL_law 698 = .ok (.iaload, 1) := dk_46 (dk_at dksL_law_27 5 rfl rfl)
theorem dL_law_699 : decode cL_law 699 = .ok (.aload_n 0, 1) := dk_42 (dk_at dksL_law_27 6 rfl rfl)
theorem dL_law_700 : decode cL_law 700 = .ok (.iload 4, 2) := dk_21 4 (dk_at dksL_law_27 7 rfl rfl)
theorem dL_law_702 : decode cL_law 702 = .ok (.iconst 2, 1) := dk_5 (dk_at dksL_law_27 9 rfl rfl)
theorem dL_law_703 : decode cL_law 703 = .ok (.iadd, 1) := dk_96 (dk_at dksL_law_27 10 rfl rfl)
theorem dL_law_704 : decode cL_law 704 = .ok (.iaload, 1) := dk_46 (dk_at dksL_law_27 11 rfl rfl)
theorem dL_law_705 : decode cL_law 705 = .ok (.aload_n 0, 1) := dk_42 (dk_at dksL_law_27 12 rfl rfl)
theorem dL_law_706 : decode cL_law 706 = .ok (.iload 4, 2) := dk_21 4 (dk_at dksL_law_27 13 rfl rfl)
theorem dL_law_708 : decode cL_law 708 = .ok (.iconst 3, 1) := dk_6 (dk_at dksL_law_27 15 rfl rfl)
theorem dL_law_709 : decode cL_law 709 = .ok (.iadd, 1) := dk_96 (dk_at dksL_law_27 16 rfl rfl)
theorem dL_law_710 : decode cL_law 710 = .ok (.iaload, 1) := dk_46 (dk_at dksL_law_27 17 rfl rfl)
theorem dL_law_711 : decode cL_law 711 = .ok (.aload_n 0, 1) := dk_42 (dk_at dksL_law_27 18 rfl rfl)
theorem dL_law_712 : decode cL_law 712 = .ok (.iload 4, 2) := dk_21 4 (dk_at dksL_law_27 19 rfl rfl)
theorem dL_law_714 : decode cL_law 714 = .ok (.iconst 4, 1) := dk_7 (dk_at dksL_law_27 21 rfl rfl)
theorem dL_law_715 : decode cL_law 715 = .ok (.iadd, 1) := dk_96 (dk_at dksL_law_27 22 rfl rfl)
theorem dL_law_716 : decode cL_law 716 = .ok (.iaload, 1) := dk_46 (dk_at dksL_law_27 23 rfl rfl)
theorem dL_law_717 : decode cL_law 717 = .ok (.ifCond .eq 7, 3) := dk_153 0 7 (dk_at dksL_law_28 0 rfl rfl)
theorem dL_law_720 : decode cL_law 720 = .ok (.iconst 1, 1) := dk_4 (dk_at dksL_law_28 3 rfl rfl)
theorem dL_law_721 : decode cL_law 721 = .ok (.goto 4, 3) := dk_167 0 4 (dk_at dksL_law_28 4 rfl rfl)
theorem dL_law_724 : decode cL_law 724 = .ok (.iconst 0, 1) := dk_3 (dk_at dksL_law_28 7 rfl rfl)
theorem dL_law_725 : decode cL_law 725 = .ok (.invokevirtual 126, 3) := dk_182 0 126 (dk_at dksL_law_28 8 rfl rfl)
theorem dL_law_728 : decode cL_law 728 = .ok (.istore 6, 2) := dk_54 6 (dk_at dksL_law_28 11 rfl rfl)
theorem dL_law_730 : decode cL_law 730 = .ok (.aload_n 2, 1) := dk_44 (dk_at dksL_law_28 13 rfl rfl)
theorem dL_law_731 : decode cL_law 731 = .ok (.invokevirtual 87, 3) := dk_182 0 87 (dk_at dksL_law_28 14 rfl rfl)
theorem dL_law_734 : decode cL_law 734 = .ok (.iload 5, 2) := dk_21 5 (dk_at dksL_law_28 17 rfl rfl)
theorem dL_law_736 : decode cL_law 736 = .ok (.if_icmp .eq 5, 3) := dk_159 0 5 (dk_at dksL_law_28 19 rfl rfl)
theorem dL_law_739 : decode cL_law 739 = .ok (.iconst 0, 1) := dk_3 (dk_at dksL_law_28 22 rfl rfl)
theorem dL_law_740 : decode cL_law 740 = .ok (.ireturn, 1) := dk_172 (dk_at dksL_law_28 23 rfl rfl)
theorem dL_law_741 : decode cL_law 741 = .ok (.iload 5, 2) := dk_21 5 (dk_at dksL_law_29 0 rfl rfl)
theorem dL_law_743 : decode cL_law 743 = .ok (.ifCond .ne 15, 3) := dk_154 0 15 (dk_at dksL_law_29 2 rfl rfl)
theorem dL_law_746 : decode cL_law 746 = .ok (.aload_n 3, 1) := dk_45 (dk_at dksL_law_29 5 rfl rfl)
theorem dL_law_747 : decode cL_law 747 = .ok (.iconst 0, 1) := dk_3 (dk_at dksL_law_29 6 rfl rfl)
theorem dL_law_748 : decode cL_law 748 = .ok (.laload, 1) := dk_47 (dk_at dksL_law_29 7 rfl rfl)
theorem dL_law_749 : decode cL_law 749 = .ok (.iload 6, 2) := dk_21 6 (dk_at dksL_law_29 8 rfl rfl)
theorem dL_law_751 : decode cL_law 751 = .ok (.i2l, 1) := dk_133 (dk_at dksL_law_29 10 rfl rfl)
theorem dL_law_752 : decode cL_law 752 = .ok (.lcmp, 1) := dk_148 (dk_at dksL_law_29 11 rfl rfl)
theorem dL_law_753 : decode cL_law 753 = .ok (.ifCond .eq 5, 3) := dk_153 0 5 (dk_at dksL_law_29 12 rfl rfl)
theorem dL_law_756 : decode cL_law 756 = .ok (.iconst 0, 1) := dk_3 (dk_at dksL_law_29 15 rfl rfl)
theorem dL_law_757 : decode cL_law 757 = .ok (.ireturn, 1) := dk_172 (dk_at dksL_law_29 16 rfl rfl)
theorem dL_law_758 : decode cL_law 758 = .ok (.goto 598, 3) := dk_167 2 86 (dk_at dksL_law_29 17 rfl rfl)
theorem dL_law_761 : decode cL_law 761 = .ok (.aload_n 1, 1) := dk_43 (dk_at dksL_law_29 20 rfl rfl)
theorem dL_law_762 : decode cL_law 762 = .ok (.aload_n 0, 1) := dk_42 (dk_at dksL_law_29 21 rfl rfl)
theorem dL_law_763 : decode cL_law 763 = .ok (.iload 4, 2) := dk_21 4 (dk_at dksL_law_29 22 rfl rfl)
theorem dL_law_765 : decode cL_law 765 = .ok (.iconst 1, 1) := dk_4 (dk_at dksL_law_30 0 rfl rfl)
theorem dL_law_766 : decode cL_law 766 = .ok (.iadd, 1) := dk_96 (dk_at dksL_law_30 1 rfl rfl)
theorem dL_law_767 : decode cL_law 767 = .ok (.iaload, 1) := dk_46 (dk_at dksL_law_30 2 rfl rfl)
theorem dL_law_768 : decode cL_law 768 = .ok (.aload_n 3, 1) := dk_45 (dk_at dksL_law_30 3 rfl rfl)
theorem dL_law_769 : decode cL_law 769 = .ok (.invokestatic 127, 3) := dk_184 0 127 (dk_at dksL_law_30 4 rfl rfl)
theorem dL_law_772 : decode cL_law 772 = .ok (.istore 5, 2) := dk_54 5 (dk_at dksL_law_30 7 rfl rfl)
theorem dL_law_774 : decode cL_law 774 = .ok (.aload_n 2, 1) := dk_44 (dk_at dksL_law_30 9 rfl rfl)
theorem dL_law_775 : decode cL_law 775 = .ok (.aload_n 0, 1) := dk_42 (dk_at dksL_law_30 10 rfl rfl)
theorem dL_law_776 : decode cL_law 776 = .ok (.iload 4, 2) := dk_21 4 (dk_at dksL_law_30 11 rfl rfl)
theorem dL_law_778 : decode cL_law 778 = .ok (.iconst 1, 1) := dk_4 (dk_at dksL_law_30 13 rfl rfl)
theorem dL_law_779 : decode cL_law 779 = .ok (.iadd, 1) := dk_96 (dk_at dksL_law_30 14 rfl rfl)
theorem dL_law_780 : decode cL_law 780 = .ok (.iaload, 1) := dk_46 (dk_at dksL_law_30 15 rfl rfl)
theorem dL_law_781 : decode cL_law 781 = .ok (.invokevirtual 129, 3) := dk_182 0 129 (dk_at dksL_law_30 16 rfl rfl)
theorem dL_law_784 : decode cL_law 784 = .ok (.istore 6, 2) := dk_54 6 (dk_at dksL_law_30 19 rfl rfl)
theorem dL_law_786 : decode cL_law 786 = .ok (.aload_n 2, 1) := dk_44 (dk_at dksL_law_30 21 rfl rfl)
theorem dL_law_787 : decode cL_law 787 = .ok (.invokevirtual 87, 3) := dk_182 0 87 (dk_at dksL_law_31 0 rfl rfl)
theorem dL_law_790 : decode cL_law 790 = .ok (.iload 5, 2) := dk_21 5 (dk_at dksL_law_31 3 rfl rfl)
theorem dL_law_792 : decode cL_law 792 = .ok (.if_icmp .eq 5, 3) := dk_159 0 5 (dk_at dksL_law_31 5 rfl rfl)
theorem dL_law_795 : decode cL_law 795 = .ok (.iconst 0, 1) := dk_3 (dk_at dksL_law_31 8 rfl rfl)
theorem dL_law_796 : decode cL_law 796 = .ok (.ireturn, 1) := dk_172 (dk_at dksL_law_31 9 rfl rfl)
theorem dL_law_797 : decode cL_law 797 = .ok (.iload 5, 2) := dk_21 5 (dk_at dksL_law_31 10 rfl rfl)
theorem dL_law_799 : decode cL_law 799 = .ok (.ifCond .ne 15, 3) := dk_154 0 15 (dk_at dksL_law_31 12 rfl rfl)
theorem dL_law_802 : decode cL_law 802 = .ok (.aload_n 3, 1) := dk_45 (dk_at dksL_law_31 15 rfl rfl)
theorem dL_law_803 : decode cL_law 803 = .ok (.iconst 0, 1) := dk_3 (dk_at dksL_law_31 16 rfl rfl)
theorem dL_law_804 : decode cL_law 804 = .ok (.laload, 1) := dk_47 (dk_at dksL_law_31 17 rfl rfl)
theorem dL_law_805 : decode cL_law 805 = .ok (.iload 6, 2) := dk_21 6 (dk_at dksL_law_31 18 rfl rfl)
theorem dL_law_807 : decode cL_law 807 = .ok (.i2l, 1) := dk_133 (dk_at dksL_law_31 20 rfl rfl)
theorem dL_law_808 : decode cL_law 808 = .ok (.lcmp, 1) := dk_148 (dk_at dksL_law_31 21 rfl rfl)
theorem dL_law_809 : decode cL_law 809 = .ok (.ifCond .eq 5, 3) := dk_153 0 5 (dk_at dksL_law_32 0 rfl rfl)
theorem dL_law_812 : decode cL_law 812 = .ok (.iconst 0, 1) := dk_3 (dk_at dksL_law_32 3 rfl rfl)
theorem dL_law_813 : decode cL_law 813 = .ok (.ireturn, 1) := dk_172 (dk_at dksL_law_32 4 rfl rfl)
theorem dL_law_814 : decode cL_law 814 = .ok (.goto 542, 3) := dk_167 2 30 (dk_at dksL_law_32 5 rfl rfl)
theorem dL_law_817 : decode cL_law 817 = .ok (.aload_n 1, 1) := dk_43 (dk_at dksL_law_32 8 rfl rfl)
theorem dL_law_818 : decode cL_law 818 = .ok (.aload_n 0, 1) := dk_42 (dk_at dksL_law_32 9 rfl rfl)
theorem dL_law_819 : decode cL_law 819 = .ok (.iload 4, 2) := dk_21 4 (dk_at dksL_law_32 10 rfl rfl)
theorem dL_law_821 : decode cL_law 821 = .ok (.iconst 1, 1) := dk_4 (dk_at dksL_law_32 12 rfl rfl)
theorem dL_law_822 : decode cL_law 822 = .ok (.iadd, 1) := dk_96 (dk_at dksL_law_32 13 rfl rfl)
theorem dL_law_823 : decode cL_law 823 = .ok (.iaload, 1) := dk_46 (dk_at dksL_law_32 14 rfl rfl)
theorem dL_law_824 : decode cL_law 824 = .ok (.aload_n 3, 1) := dk_45 (dk_at dksL_law_32 15 rfl rfl)
theorem dL_law_825 : decode cL_law 825 = .ok (.invokestatic 130, 3) := dk_184 0 130 (dk_at dksL_law_32 16 rfl rfl)
theorem dL_law_828 : decode cL_law 828 = .ok (.istore 5, 2) := dk_54 5 (dk_at dksL_law_32 19 rfl rfl)
theorem dL_law_830 : decode cL_law 830 = .ok (.aload_n 2, 1) := dk_44 (dk_at dksL_law_32 21 rfl rfl)
theorem dL_law_831 : decode cL_law 831 = .ok (.aload_n 0, 1) := dk_42 (dk_at dksL_law_32 22 rfl rfl)
theorem dL_law_832 : decode cL_law 832 = .ok (.iload 4, 2) := dk_21 4 (dk_at dksL_law_33 0 rfl rfl)
theorem dL_law_834 : decode cL_law 834 = .ok (.iconst 1, 1) := dk_4 (dk_at dksL_law_33 2 rfl rfl)
theorem dL_law_835 : decode cL_law 835 = .ok (.iadd, 1) := dk_96 (dk_at dksL_law_33 3 rfl rfl)
theorem dL_law_836 : decode cL_law 836 = .ok (.iaload, 1) := dk_46 (dk_at dksL_law_33 4 rfl rfl)
theorem dL_law_837 : decode cL_law 837 = .ok (.invokevirtual 132, 3) := dk_182 0 132 (dk_at dksL_law_33 5 rfl rfl)
theorem dL_law_840 : decode cL_law 840 = .ok (.istore 6, 2) := dk_54 6 (dk_at dksL_law_33 8 rfl rfl)
theorem dL_law_842 : decode cL_law 842 = .ok (.aload_n 2, 1) := dk_44 (dk_at dksL_law_33 10 rfl rfl)
theorem dL_law_843 : decode cL_law 843 = .ok (.invokevirtual 87, 3) := dk_182 0 87 (dk_at dksL_law_33 11 rfl rfl)
theorem dL_law_846 : decode cL_law 846 = .ok (.iload 5, 2) := dk_21 5 (dk_at dksL_law_33 14 rfl rfl)
theorem dL_law_848 : decode cL_law 848 = .ok (.if_icmp .eq 5, 3) := dk_159 0 5 (dk_at dksL_law_33 16 rfl rfl)
theorem dL_law_851 : decode cL_law 851 = .ok (.iconst 0, 1) := dk_3 (dk_at dksL_law_33 19 rfl rfl)
theorem dL_law_852 : decode cL_law 852 = .ok (.ireturn, 1) := dk_172 (dk_at dksL_law_33 20 rfl rfl)
theorem dL_law_853 : decode cL_law 853 = .ok (.iload 5, 2) := dk_21 5 (dk_at dksL_law_33 21 rfl rfl)
theorem dL_law_855 : decode cL_law 855 = .ok (.ifCond .ne 15, 3) := dk_154 0 15 (dk_at dksL_law_34 0 rfl rfl)
theorem dL_law_858 : decode cL_law 858 = .ok (.aload_n 3, 1) := dk_45 (dk_at dksL_law_34 3 rfl rfl)
theorem dL_law_859 : decode cL_law 859 = .ok (.iconst 0, 1) := dk_3 (dk_at dksL_law_34 4 rfl rfl)
theorem dL_law_860 : decode cL_law 860 = .ok (.laload, 1) := dk_47 (dk_at dksL_law_34 5 rfl rfl)
theorem dL_law_861 : decode cL_law 861 = .ok (.iload 6, 2) := dk_21 6 (dk_at dksL_law_34 6 rfl rfl)
theorem dL_law_863 : decode cL_law 863 = .ok (.i2l, 1) := dk_133 (dk_at dksL_law_34 8 rfl rfl)
theorem dL_law_864 : decode cL_law 864 = .ok (.lcmp, 1) := dk_148 (dk_at dksL_law_34 9 rfl rfl)
theorem dL_law_865 : decode cL_law 865 = .ok (.ifCond .eq 5, 3) := dk_153 0 5 (dk_at dksL_law_34 10 rfl rfl)
theorem dL_law_868 : decode cL_law 868 = .ok (.iconst 0, 1) := dk_3 (dk_at dksL_law_34 13 rfl rfl)
theorem dL_law_869 : decode cL_law 869 = .ok (.ireturn, 1) := dk_172 (dk_at dksL_law_34 14 rfl rfl)
theorem dL_law_870 : decode cL_law 870 = .ok (.goto 486, 3) := dk_167 1 230 (dk_at dksL_law_34 15 rfl rfl)
theorem dL_law_873 : decode cL_law 873 = .ok (.aload_n 1, 1) := dk_43 (dk_at dksL_law_34 18 rfl rfl)
theorem dL_law_874 : decode cL_law 874 = .ok (.aload_n 0, 1) := dk_42 (dk_at dksL_law_34 19 rfl rfl)
theorem dL_law_875 : decode cL_law 875 = .ok (.iload 4, 2) := dk_21 4 (dk_at dksL_law_34 20 rfl rfl)
theorem dL_law_877 : decode cL_law 877 = .ok (.iconst 1, 1) := dk_4 (dk_at dksL_law_34 22 rfl rfl)
theorem dL_law_878 : decode cL_law 878 = .ok (.iadd, 1) := dk_96 (dk_at dksL_law_34 23 rfl rfl)
theorem dL_law_879 : decode cL_law 879 = .ok (.iaload, 1) := dk_46 (dk_at dksL_law_35 0 rfl rfl)
theorem dL_law_880 : decode cL_law 880 = .ok (.aload_n 0, 1) := dk_42 (dk_at dksL_law_35 1 rfl rfl)
theorem dL_law_881 : decode cL_law 881 = .ok (.iload 4, 2) := dk_21 4 (dk_at dksL_law_35 2 rfl rfl)
theorem dL_law_883 : decode cL_law 883 = .ok (.iconst 2, 1) := dk_5 (dk_at dksL_law_35 4 rfl rfl)
theorem dL_law_884 : decode cL_law 884 = .ok (.iadd, 1) := dk_96 (dk_at dksL_law_35 5 rfl rfl)
theorem dL_law_885 : decode cL_law 885 = .ok (.iaload, 1) := dk_46 (dk_at dksL_law_35 6 rfl rfl)
theorem dL_law_886 : decode cL_law 886 = .ok (.aload_n 0, 1) := dk_42 (dk_at dksL_law_35 7 rfl rfl)
theorem dL_law_887 : decode cL_law 887 = .ok (.iload 4, 2) := dk_21 4 (dk_at dksL_law_35 8 rfl rfl)
theorem dL_law_889 : decode cL_law 889 = .ok (.iconst 3, 1) := dk_6 (dk_at dksL_law_35 10 rfl rfl)
theorem dL_law_890 : decode cL_law 890 = .ok (.iadd, 1) := dk_96 (dk_at dksL_law_35 11 rfl rfl)
theorem dL_law_891 : decode cL_law 891 = .ok (.iaload, 1) := dk_46 (dk_at dksL_law_35 12 rfl rfl)
theorem dL_law_892 : decode cL_law 892 = .ok (.aload_n 0, 1) := dk_42 (dk_at dksL_law_35 13 rfl rfl)
theorem dL_law_893 : decode cL_law 893 = .ok (.iload 4, 2) := dk_21 4 (dk_at dksL_law_35 14 rfl rfl)
theorem dL_law_895 : decode cL_law 895 = .ok (.iconst 4, 1) := dk_7 (dk_at dksL_law_35 16 rfl rfl)
theorem dL_law_896 : decode cL_law 896 = .ok (.iadd, 1) := dk_96 (dk_at dksL_law_35 17 rfl rfl)
theorem dL_law_897 : decode cL_law 897 = .ok (.iaload, 1) := dk_46 (dk_at dksL_law_35 18 rfl rfl)
theorem dL_law_898 : decode cL_law 898 = .ok (.aload_n 3, 1) := dk_45 (dk_at dksL_law_35 19 rfl rfl)
theorem dL_law_899 : decode cL_law 899 = .ok (.invokestatic 133, 3) := dk_184 0 133 (dk_at dksL_law_35 20 rfl rfl)
theorem dL_law_902 : decode cL_law 902 = .ok (.istore 5, 2) := dk_54 5 (dk_at dksL_law_36 0 rfl rfl)
theorem dL_law_904 : decode cL_law 904 = .ok (.aload_n 2, 1) := dk_44 (dk_at dksL_law_36 2 rfl rfl)
theorem dL_law_905 : decode cL_law 905 = .ok (.aload_n 0, 1) := dk_42 (dk_at dksL_law_36 3 rfl rfl)
theorem dL_law_906 : decode cL_law 906 = .ok (.iload 4, 2) := dk_21 4 (dk_at dksL_law_36 4 rfl rfl)
theorem dL_law_908 : decode cL_law 908 = .ok (.iconst 1, 1) := dk_4 (dk_at dksL_law_36 6 rfl rfl)
theorem dL_law_909 : decode cL_law 909 = .ok (.iadd, 1) := dk_96 (dk_at dksL_law_36 7 rfl rfl)
theorem dL_law_910 : decode cL_law 910 = .ok (.iaload, 1) := dk_46 (dk_at dksL_law_36 8 rfl rfl)
theorem dL_law_911 : decode cL_law 911 = .ok (.aload_n 0, 1) := dk_42 (dk_at dksL_law_36 9 rfl rfl)
theorem dL_law_912 : decode cL_law 912 = .ok (.iload 4, 2) := dk_21 4 (dk_at dksL_law_36 10 rfl rfl)
theorem dL_law_914 : decode cL_law 914 = .ok (.iconst 2, 1) := dk_5 (dk_at dksL_law_36 12 rfl rfl)
theorem dL_law_915 : decode cL_law 915 = .ok (.iadd, 1) := dk_96 (dk_at dksL_law_36 13 rfl rfl)
theorem dL_law_916 : decode cL_law 916 = .ok (.iaload, 1) := dk_46 (dk_at dksL_law_36 14 rfl rfl)
theorem dL_law_917 : decode cL_law 917 = .ok (.aload_n 0, 1) := dk_42 (dk_at dksL_law_36 15 rfl rfl)
theorem dL_law_918 : decode cL_law 918 = .ok (.iload 4, 2) := dk_21 4 (dk_at dksL_law_36 16 rfl rfl)
theorem dL_law_920 : decode cL_law 920 = .ok (.iconst 3, 1) := dk_6 (dk_at dksL_law_36 18 rfl rfl)
theorem dL_law_921 : decode cL_law 921 = .ok (.iadd, 1) := dk_96 (dk_at dksL_law_36 19 rfl rfl)
theorem dL_law_922 : decode cL_law 922 = .ok (.iaload, 1) := dk_46 (dk_at dksL_law_36 20 rfl rfl)
theorem dL_law_923 : decode cL_law 923 = .ok (.aload_n 0, 1) := dk_42 (dk_at dksL_law_36 21 rfl rfl)
theorem dL_law_924 : decode cL_law 924 = .ok (.iload 4, 2) := dk_21 4 (dk_at dksL_law_36 22 rfl rfl)
theorem dL_law_926 : decode cL_law 926 = .ok (.iconst 4, 1) := dk_7 (dk_at dksL_law_37 0 rfl rfl)
theorem dL_law_927 : decode cL_law 927 = .ok (.iadd, 1) := dk_96 (dk_at dksL_law_37 1 rfl rfl)
theorem dL_law_928 : decode cL_law 928 = .ok (.iaload, 1) := dk_46 (dk_at dksL_law_37 2 rfl rfl)
theorem dL_law_929 : decode cL_law 929 = .ok (.invokevirtual 135, 3) := dk_182 0 135 (dk_at dksL_law_37 3 rfl rfl)
theorem dL_law_932 : decode cL_law 932 = .ok (.istore 6, 2) := dk_54 6 (dk_at dksL_law_37 6 rfl rfl)
theorem dL_law_934 : decode cL_law 934 = .ok (.aload_n 2, 1) := dk_44 (dk_at dksL_law_37 8 rfl rfl)
theorem dL_law_935 : decode cL_law 935 = .ok (.invokevirtual 87, 3) := dk_182 0 87 (dk_at dksL_law_37 9 rfl rfl)
theorem dL_law_938 : decode cL_law 938 = .ok (.iload 5, 2) := dk_21 5 (dk_at dksL_law_37 12 rfl rfl)
theorem dL_law_940 : decode cL_law 940 = .ok (.if_icmp .eq 5, 3) := dk_159 0 5 (dk_at dksL_law_37 14 rfl rfl)
theorem dL_law_943 : decode cL_law 943 = .ok (.iconst 0, 1) := dk_3 (dk_at dksL_law_37 17 rfl rfl)
theorem dL_law_944 : decode cL_law 944 = .ok (.ireturn, 1) := dk_172 (dk_at dksL_law_37 18 rfl rfl)
theorem dL_law_945 : decode cL_law 945 = .ok (.iload 5, 2) := dk_21 5 (dk_at dksL_law_37 19 rfl rfl)
theorem dL_law_947 : decode cL_law 947 = .ok (.ifCond .ne 15, 3) := dk_154 0 15 (dk_at dksL_law_37 21 rfl rfl)
theorem dL_law_950 : decode cL_law 950 = .ok (.aload_n 3, 1) := dk_45 (dk_at dksL_law_38 0 rfl rfl)
theorem dL_law_951 : decode cL_law 951 = .ok (.iconst 0, 1) := dk_3 (dk_at dksL_law_38 1 rfl rfl)
theorem dL_law_952 : decode cL_law 952 = .ok (.laload, 1) := dk_47 (dk_at dksL_law_38 2 rfl rfl)
theorem dL_law_953 : decode cL_law 953 = .ok (.iload 6, 2) := dk_21 6 (dk_at dksL_law_38 3 rfl rfl)
theorem dL_law_955 : decode cL_law 955 = .ok (.i2l, 1) := dk_133 (dk_at dksL_law_38 5 rfl rfl)
theorem dL_law_956 : decode cL_law 956 = .ok (.lcmp, 1) := dk_148 (dk_at dksL_law_38 6 rfl rfl)
theorem dL_law_957 : decode cL_law 957 = .ok (.ifCond .eq 5, 3) := dk_153 0 5 (dk_at dksL_law_38 7 rfl rfl)
theorem dL_law_960 : decode cL_law 960 = .ok (.iconst 0, 1) := dk_3 (dk_at dksL_law_38 10 rfl rfl)
theorem dL_law_961 : decode cL_law 961 = .ok (.ireturn, 1) := dk_172 (dk_at dksL_law_38 11 rfl rfl)
theorem dL_law_962 : decode cL_law 962 = .ok (.goto 394, 3) := dk_167 1 138 (dk_at dksL_law_38 12 rfl rfl)
theorem dL_law_965 : decode cL_law 965 = .ok (.aload_n 1, 1) := dk_43 (dk_at dksL_law_38 15 rfl rfl)
theorem dL_law_966 : decode cL_law 966 = .ok (.aload_n 0, 1) := dk_42 (dk_at dksL_law_38 16 rfl rfl)
theorem dL_law_967 : decode cL_law 967 = .ok (.iload 4, 2) := dk_21 4 (dk_at dksL_law_38 17 rfl rfl)
theorem dL_law_969 : decode cL_law 969 = .ok (.iconst 1, 1) := dk_4 (dk_at dksL_law_38 19 rfl rfl)
theorem dL_law_970 : decode cL_law 970 = .ok (.iadd, 1) := dk_96 (dk_at dksL_law_38 20 rfl rfl)
theorem dL_law_971 : decode cL_law 971 = .ok (.iaload, 1) := dk_46 (dk_at dksL_law_38 21 rfl rfl)
theorem dL_law_972 : decode cL_law 972 = .ok (.aload_n 0, 1) := dk_42 (dk_at dksL_law_38 22 rfl rfl)
theorem dL_law_973 : decode cL_law 973 = .ok (.iload 4, 2) := dk_21 4 (dk_at dksL_law_39 0 rfl rfl)
theorem dL_law_975 : decode cL_law 975 = .ok (.iconst 2, 1) := dk_5 (dk_at dksL_law_39 2 rfl rfl)
theorem dL_law_976 : decode cL_law 976 = .ok (.iadd, 1) := dk_96 (dk_at dksL_law_39 3 rfl rfl)
theorem dL_law_977 : decode cL_law 977 = .ok (.iaload, 1) := dk_46 (dk_at dksL_law_39 4 rfl rfl)
theorem dL_law_978 : decode cL_law 978 = .ok (.aload_n 3, 1) := dk_45 (dk_at dksL_law_39 5 rfl rfl)
theorem dL_law_979 : decode cL_law 979 = .ok (.invokestatic 136, 3) := dk_184 0 136 (dk_at dksL_law_39 6 rfl rfl)
theorem dL_law_982 : decode cL_law 982 = .ok (.istore 5, 2) := dk_54 5 (dk_at dksL_law_39 9 rfl rfl)
theorem dL_law_984 : decode cL_law 984 = .ok (.aload_n 2, 1) := dk_44 (dk_at dksL_law_39 11 rfl rfl)
theorem dL_law_985 : decode cL_law 985 = .ok (.aload_n 0, 1) := dk_42 (dk_at dksL_law_39 12 rfl rfl)
theorem dL_law_986 : decode cL_law 986 = .ok (.iload 4, 2) := dk_21 4 (dk_at dksL_law_39 13 rfl rfl)
theorem dL_law_988 : decode cL_law 988 = .ok (.iconst 1, 1) := dk_4 (dk_at dksL_law_39 15 rfl rfl)
theorem dL_law_989 : decode cL_law 989 = .ok (.iadd, 1) := dk_96 (dk_at dksL_law_39 16 rfl rfl)
theorem dL_law_990 : decode cL_law 990 = .ok (.iaload, 1) := dk_46 (dk_at dksL_law_39 17 rfl rfl)
theorem dL_law_991 : decode cL_law 991 = .ok (.aload_n 0, 1) := dk_42 (dk_at dksL_law_39 18 rfl rfl)
theorem dL_law_992 : decode cL_law 992 = .ok (.iload 4, 2) := dk_21 4 (dk_at dksL_law_39 19 rfl rfl)
theorem dL_law_994 : decode cL_law 994 = .ok (.iconst 2, 1) := dk_5 (dk_at dksL_law_39 21 rfl rfl)
theorem dL_law_995 : decode cL_law 995 = .ok (.iadd, 1) := dk_96 (dk_at dksL_law_39 22 rfl rfl)
theorem dL_law_996 : decode cL_law 996 = .ok (.iaload, 1) := dk_46 (dk_at dksL_law_39 23 rfl rfl)
theorem dL_law_997 : decode cL_law 997 = .ok (.invokevirtual 138, 3) := dk_182 0 138 (dk_at dksL_law_40 0 rfl rfl)
theorem dL_law_1000 : decode cL_law 1000 = .ok (.istore 6, 2) := dk_54 6 (dk_at dksL_law_40 3 rfl rfl)
theorem dL_law_1002 : decode cL_law 1002 = .ok (.aload_n 2, 1) := dk_44 (dk_at dksL_law_40 5 rfl rfl)
theorem dL_law_1003 : decode cL_law 1003 = .ok (.invokevirtual 87, 3) := dk_182 0 87 (dk_at dksL_law_40 6 rfl rfl)
theorem dL_law_1006 : decode cL_law 1006 = .ok (.iload 5, 2) := dk_21 5 (dk_at dksL_law_40 9 rfl rfl)
theorem dL_law_1008 : decode cL_law 1008 = .ok (.if_icmp .eq 5, 3) := dk_159 0 5 (dk_at dksL_law_40 11 rfl rfl)
theorem dL_law_1011 : decode cL_law 1011 = .ok (.iconst 0, 1) := dk_3 (dk_at dksL_law_40 14 rfl rfl)
theorem dL_law_1012 : decode cL_law 1012 = .ok (.ireturn, 1) := dk_172 (dk_at dksL_law_40 15 rfl rfl)
theorem dL_law_1013 : decode cL_law 1013 = .ok (.iload 5, 2) := dk_21 5 (dk_at dksL_law_40 16 rfl rfl)
theorem dL_law_1015 : decode cL_law 1015 = .ok (.ifCond .ne 15, 3) := dk_154 0 15 (dk_at dksL_law_40 18 rfl rfl)
theorem dL_law_1018 : decode cL_law 1018 = .ok (.aload_n 3, 1) := dk_45 (dk_at dksL_law_40 21 rfl rfl)
theorem dL_law_1019 : decode cL_law 1019 = .ok (.iconst 0, 1) := dk_3 (dk_at dksL_law_40 22 rfl rfl)
theorem dL_law_1020 : decode cL_law 1020 = .ok (.laload, 1) := dk_47 (dk_at dksL_law_40 23 rfl rfl)
theorem dL_law_1021 : decode cL_law 1021 = .ok (.iload 6, 2) := dk_21 6 (dk_at dksL_law_41 0 rfl rfl)
theorem dL_law_1023 : decode cL_law 1023 = .ok (.i2l, 1) := dk_133 (dk_at dksL_law_41 2 rfl rfl)
theorem dL_law_1024 : decode cL_law 1024 = .ok (.lcmp, 1) := dk_148 (dk_at dksL_law_41 3 rfl rfl)
theorem dL_law_1025 : decode cL_law 1025 = .ok (.ifCond .eq 5, 3) := dk_153 0 5 (dk_at dksL_law_41 4 rfl rfl)
theorem dL_law_1028 : decode cL_law 1028 = .ok (.iconst 0, 1) := dk_3 (dk_at dksL_law_41 7 rfl rfl)
theorem dL_law_1029 : decode cL_law 1029 = .ok (.ireturn, 1) := dk_172 (dk_at dksL_law_41 8 rfl rfl)
theorem dL_law_1030 : decode cL_law 1030 = .ok (.goto 326, 3) := dk_167 1 70 (dk_at dksL_law_41 9 rfl rfl)
theorem dL_law_1033 : decode cL_law 1033 = .ok (.aload_n 1, 1) := dk_43 (dk_at dksL_law_41 12 rfl rfl)
theorem dL_law_1034 : decode cL_law 1034 = .ok (.aload_n 0, 1) := dk_42 (dk_at dksL_law_41 13 rfl rfl)
theorem dL_law_1035 : decode cL_law 1035 = .ok (.iload 4, 2) := dk_21 4 (dk_at dksL_law_41 14 rfl rfl)
theorem dL_law_1037 : decode cL_law 1037 = .ok (.iconst 1, 1) := dk_4 (dk_at dksL_law_41 16 rfl rfl)
theorem dL_law_1038 : decode cL_law 1038 = .ok (.iadd, 1) := dk_96 (dk_at dksL_law_41 17 rfl rfl)
theorem dL_law_1039 : decode cL_law 1039 = .ok (.iaload, 1) := dk_46 (dk_at dksL_law_41 18 rfl rfl)
theorem dL_law_1040 : decode cL_law 1040 = .ok (.aload_n 3, 1) := dk_45 (dk_at dksL_law_41 19 rfl rfl)
theorem dL_law_1041 : decode cL_law 1041 = .ok (.invokestatic 139, 3) := dk_184 0 139 (dk_at dksL_law_41 20 rfl rfl)
theorem dL_law_1044 : decode cL_law 1044 = .ok (.istore 5, 2) := dk_54 5 (dk_at dksL_law_42 0 rfl rfl)
theorem dL_law_1046 : decode cL_law 1046 = .ok (.aload_n 2, 1) := dk_44 (dk_at dksL_law_42 2 rfl rfl)
theorem dL_law_1047 : decode cL_law 1047 = .ok (.aload_n 0, 1) := dk_42 (dk_at dksL_law_42 3 rfl rfl)
theorem dL_law_1048 : decode cL_law 1048 = .ok (.iload 4, 2) := dk_21 4 (dk_at dksL_law_42 4 rfl rfl)
theorem dL_law_1050 : decode cL_law 1050 = .ok (.iconst 1, 1) := dk_4 (dk_at dksL_law_42 6 rfl rfl)
theorem dL_law_1051 : decode cL_law 1051 = .ok (.iadd, 1) := dk_96 (dk_at dksL_law_42 7 rfl rfl)
theorem dL_law_1052 : decode cL_law 1052 = .ok (.iaload, 1) := dk_46 (dk_at dksL_law_42 8 rfl rfl)
theorem dL_law_1053 : decode cL_law 1053 = .ok (.invokevirtual 141, 3) := dk_182 0 141 (dk_at dksL_law_42 9 rfl rfl)
theorem dL_law_1056 : decode cL_law 1056 = .ok (.istore 6, 2) := dk_54 6 (dk_at dksL_law_42 12 rfl rfl)
theorem dL_law_1058 : decode cL_law 1058 = .ok (.aload_n 2, 1) := dk_44 (dk_at dksL_law_42 14 rfl rfl)
theorem dL_law_1059 : decode cL_law 1059 = .ok (.invokevirtual 87, 3) := dk_182 0 87 (dk_at dksL_law_42 15 rfl rfl)
theorem dL_law_1062 : decode cL_law 1062 = .ok (.iload 5, 2) := dk_21 5 (dk_at dksL_law_42 18 rfl rfl)
theorem dL_law_1064 : decode cL_law 1064 = .ok (.if_icmp .eq 5, 3) := dk_159 0 5 (dk_at dksL_law_42 20 rfl rfl)
theorem dL_law_1067 : decode cL_law 1067 = .ok (.iconst 0, 1) := dk_3 (dk_at dksL_law_42 23 rfl rfl)
theorem dL_law_1068 : decode cL_law 1068 = .ok (.ireturn, 1) := dk_172 (dk_at dksL_law_43 0 rfl rfl)
theorem dL_law_1069 : decode cL_law 1069 = .ok (.iload 5, 2) := dk_21 5 (dk_at dksL_law_43 1 rfl rfl)
theorem dL_law_1071 : decode cL_law 1071 = .ok (.ifCond .ne 15, 3) := dk_154 0 15 (dk_at dksL_law_43 3 rfl rfl)
theorem dL_law_1074 : decode cL_law 1074 = .ok (.aload_n 3, 1) := dk_45 (dk_at dksL_law_43 6 rfl rfl)
theorem dL_law_1075 : decode cL_law 1075 = .ok (.iconst 0, 1) := dk_3 (dk_at dksL_law_43 7 rfl rfl)
theorem dL_law_1076 : decode cL_law 1076 = .ok (.laload, 1) := dk_47 (dk_at dksL_law_43 8 rfl rfl)
theorem dL_law_1077 : decode cL_law 1077 = .ok (.iload 6, 2) := dk_21 6 (dk_at dksL_law_43 9 rfl rfl)
theorem dL_law_1079 : decode cL_law 1079 = .ok (.i2l, 1) := dk_133 (dk_at dksL_law_43 11 rfl rfl)
theorem dL_law_1080 : decode cL_law 1080 = .ok (.lcmp, 1) := dk_148 (dk_at dksL_law_43 12 rfl rfl)
theorem dL_law_1081 : decode cL_law 1081 = .ok (.ifCond .eq 5, 3) := dk_153 0 5 (dk_at dksL_law_43 13 rfl rfl)
theorem dL_law_1084 : decode cL_law 1084 = .ok (.iconst 0, 1) := dk_3 (dk_at dksL_law_43 16 rfl rfl)
theorem dL_law_1085 : decode cL_law 1085 = .ok (.ireturn, 1) := dk_172 (dk_at dksL_law_43 17 rfl rfl)
theorem dL_law_1086 : decode cL_law 1086 = .ok (.goto 270, 3) := dk_167 1 14 (dk_at dksL_law_43 18 rfl rfl)
theorem dL_law_1089 : decode cL_law 1089 = .ok (.aload_n 1, 1) := dk_43 (dk_at dksL_law_43 21 rfl rfl)
theorem dL_law_1090 : decode cL_law 1090 = .ok (.aload_n 0, 1) := dk_42 (dk_at dksL_law_43 22 rfl rfl)
theorem dL_law_1091 : decode cL_law 1091 = .ok (.iload 4, 2) := dk_21 4 (dk_at dksL_law_44 0 rfl rfl)
theorem dL_law_1093 : decode cL_law 1093 = .ok (.iconst 1, 1) := dk_4 (dk_at dksL_law_44 2 rfl rfl)
theorem dL_law_1094 : decode cL_law 1094 = .ok (.iadd, 1) := dk_96 (dk_at dksL_law_44 3 rfl rfl)
theorem dL_law_1095 : decode cL_law 1095 = .ok (.iaload, 1) := dk_46 (dk_at dksL_law_44 4 rfl rfl)
theorem dL_law_1096 : decode cL_law 1096 = .ok (.aload_n 3, 1) := dk_45 (dk_at dksL_law_44 5 rfl rfl)
theorem dL_law_1097 : decode cL_law 1097 = .ok (.invokestatic 142, 3) := dk_184 0 142 (dk_at dksL_law_44 6 rfl rfl)
theorem dL_law_1100 : decode cL_law 1100 = .ok (.istore 5, 2) := dk_54 5 (dk_at dksL_law_44 9 rfl rfl)
theorem dL_law_1102 : decode cL_law 1102 = .ok (.aload_n 2, 1) := dk_44 (dk_at dksL_law_44 11 rfl rfl)
theorem dL_law_1103 : decode cL_law 1103 = .ok (.aload_n 0, 1) := dk_42 (dk_at dksL_law_44 12 rfl rfl)
theorem dL_law_1104 : decode cL_law 1104 = .ok (.iload 4, 2) := dk_21 4 (dk_at dksL_law_44 13 rfl rfl)
theorem dL_law_1106 : decode cL_law 1106 = .ok (.iconst 1, 1) := dk_4 (dk_at dksL_law_44 15 rfl rfl)
theorem dL_law_1107 : decode cL_law 1107 = .ok (.iadd, 1) := dk_96 (dk_at dksL_law_44 16 rfl rfl)
theorem dL_law_1108 : decode cL_law 1108 = .ok (.iaload, 1) := dk_46 (dk_at dksL_law_44 17 rfl rfl)
theorem dL_law_1109 : decode cL_law 1109 = .ok (.invokevirtual 144, 3) := dk_182 0 144 (dk_at dksL_law_44 18 rfl rfl)
theorem dL_law_1112 : decode cL_law 1112 = .ok (.istore 6, 2) := dk_54 6 (dk_at dksL_law_44 21 rfl rfl)
theorem dL_law_1114 : decode cL_law 1114 = .ok (.aload_n 2, 1) := dk_44 (dk_at dksL_law_44 23 rfl rfl)
theorem dL_law_1115 : decode cL_law 1115 = .ok (.invokevirtual 87, 3) := dk_182 0 87 (dk_at dksL_law_45 0 rfl rfl)
theorem dL_law_1118 : decode cL_law 1118 = .ok (.iload 5, 2) := dk_21 5 (dk_at dksL_law_45 3 rfl rfl)
theorem dL_law_1120 : decode cL_law 1120 = .ok (.if_icmp .eq 5, 3) := dk_159 0 5 (dk_at dksL_law_45 5 rfl rfl)
theorem dL_law_1123 : decode cL_law 1123 = .ok (.iconst 0, 1) := dk_3 (dk_at dksL_law_45 8 rfl rfl)
theorem dL_law_1124 : decode cL_law 1124 = .ok (.ireturn, 1) := dk_172 (dk_at dksL_law_45 9 rfl rfl)
theorem dL_law_1125 : decode cL_law 1125 = .ok (.iload 5, 2) := dk_21 5 (dk_at dksL_law_45 10 rfl rfl)
theorem dL_law_1127 : decode cL_law 1127 = .ok (.ifCond .ne 15, 3) := dk_154 0 15 (dk_at dksL_law_45 12 rfl rfl)
theorem dL_law_1130 : decode cL_law 1130 = .ok (.aload_n 3, 1) := dk_45 (dk_at dksL_law_45 15 rfl rfl)
theorem dL_law_1131 : decode cL_law 1131 = .ok (.iconst 0, 1) := dk_3 (dk_at dksL_law_45 16 rfl rfl)
theorem dL_law_1132 : decode cL_law 1132 = .ok (.laload, 1) := dk_47 (dk_at dksL_law_45 17 rfl rfl)
theorem dL_law_1133 : decode cL_law 1133 = .ok (.iload 6, 2) := dk_21 6 (dk_at dksL_law_45 18 rfl rfl)
theorem dL_law_1135 : decode cL_law 1135 = .ok (.i2l, 1) := dk_133 (dk_at dksL_law_45 20 rfl rfl)
theorem dL_law_1136 : decode cL_law 1136 = .ok (.lcmp, 1) := dk_148 (dk_at dksL_law_45 21 rfl rfl)
theorem dL_law_1137 : decode cL_law 1137 = .ok (.ifCond .eq 5, 3) := dk_153 0 5 (dk_at dksL_law_46 0 rfl rfl)
theorem dL_law_1140 : decode cL_law 1140 = .ok (.iconst 0, 1) := dk_3 (dk_at dksL_law_46 3 rfl rfl)
theorem dL_law_1141 : decode cL_law 1141 = .ok (.ireturn, 1) := dk_172 (dk_at dksL_law_46 4 rfl rfl)
theorem dL_law_1142 : decode cL_law 1142 = .ok (.goto 214, 3) := dk_167 0 214 (dk_at dksL_law_46 5 rfl rfl)
theorem dL_law_1145 : decode cL_law 1145 = .ok (.aload_n 1, 1) := dk_43 (dk_at dksL_law_46 8 rfl rfl)
theorem dL_law_1146 : decode cL_law 1146 = .ok (.aload_n 0, 1) := dk_42 (dk_at dksL_law_46 9 rfl rfl)
theorem dL_law_1147 : decode cL_law 1147 = .ok (.iload 4, 2) := dk_21 4 (dk_at dksL_law_46 10 rfl rfl)
theorem dL_law_1149 : decode cL_law 1149 = .ok (.iconst 1, 1) := dk_4 (dk_at dksL_law_46 12 rfl rfl)
theorem dL_law_1150 : decode cL_law 1150 = .ok (.iadd, 1) := dk_96 (dk_at dksL_law_46 13 rfl rfl)
theorem dL_law_1151 : decode cL_law 1151 = .ok (.iaload, 1) := dk_46 (dk_at dksL_law_46 14 rfl rfl)
theorem dL_law_1152 : decode cL_law 1152 = .ok (.aload_n 3, 1) := dk_45 (dk_at dksL_law_46 15 rfl rfl)
theorem dL_law_1153 : decode cL_law 1153 = .ok (.invokestatic 145, 3) := dk_184 0 145 (dk_at dksL_law_46 16 rfl rfl)
theorem dL_law_1156 : decode cL_law 1156 = .ok (.istore 5, 2) := dk_54 5 (dk_at dksL_law_46 19 rfl rfl)
theorem dL_law_1158 : decode cL_law 1158 = .ok (.aload_n 2, 1) := dk_44 (dk_at dksL_law_46 21 rfl rfl)
theorem dL_law_1159 : decode cL_law 1159 = .ok (.aload_n 0, 1) := dk_42 (dk_at dksL_law_46 22 rfl rfl)
theorem dL_law_1160 : decode cL_law 1160 = .ok (.iload 4, 2) := dk_21 4 (dk_at dksL_law_47 0 rfl rfl)
theorem dL_law_1162 : decode cL_law 1162 = .ok (.iconst 1, 1) := dk_4 (dk_at dksL_law_47 2 rfl rfl)
theorem dL_law_1163 : decode cL_law 1163 = .ok (.iadd, 1) := dk_96 (dk_at dksL_law_47 3 rfl rfl)
theorem dL_law_1164 : decode cL_law 1164 = .ok (.iaload, 1) := dk_46 (dk_at dksL_law_47 4 rfl rfl)
theorem dL_law_1165 : decode cL_law 1165 = .ok (.invokevirtual 147, 3) := dk_182 0 147 (dk_at dksL_law_47 5 rfl rfl)
theorem dL_law_1168 : decode cL_law 1168 = .ok (.istore 6, 2) := dk_54 6 (dk_at dksL_law_47 8 rfl rfl)
theorem dL_law_1170 : decode cL_law 1170 = .ok (.aload_n 2, 1) := dk_44 (dk_at dksL_law_47 10 rfl rfl)
theorem dL_law_1171 : decode cL_law 1171 = .ok (.invokevirtual 87, 3) := dk_182 0 87 (dk_at dksL_law_47 11 rfl rfl)
theorem dL_law_1174 : decode cL_law 1174 = .ok (.iload 5, 2) := dk_21 5 (dk_at dksL_law_47 14 rfl rfl)
theorem dL_law_1176 : decode cL_law 1176 = .ok (.if_icmp .eq 5, 3) := dk_159 0 5 (dk_at dksL_law_47 16 rfl rfl)
theorem dL_law_1179 : decode cL_law 1179 = .ok (.iconst 0, 1) := dk_3 (dk_at dksL_law_47 19 rfl rfl)
theorem dL_law_1180 : decode cL_law 1180 = .ok (.ireturn, 1) := dk_172 (dk_at dksL_law_47 20 rfl rfl)
theorem dL_law_1181 : decode cL_law 1181 = .ok (.iload 5, 2) := dk_21 5 (dk_at dksL_law_47 21 rfl rfl)
theorem dL_law_1183 : decode cL_law 1183 = .ok (.ifCond .ne 22, 3) := dk_154 0 22 (dk_at dksL_law_48 0 rfl rfl)
theorem dL_law_1186 : decode cL_law 1186 = .ok (.aload_n 3, 1) := dk_45 (dk_at dksL_law_48 3 rfl rfl)
theorem dL_law_1187 : decode cL_law 1187 = .ok (.iconst 0, 1) := dk_3 (dk_at dksL_law_48 4 rfl rfl)
theorem dL_law_1188 : decode cL_law 1188 = .ok (.laload, 1) := dk_47 (dk_at dksL_law_48 5 rfl rfl)
theorem dL_law_1189 : decode cL_law 1189 = .ok (.iload 6, 2) := dk_21 6 (dk_at dksL_law_48 6 rfl rfl)
theorem dL_law_1191 : decode cL_law 1191 = .ok (.ifCond .eq 7, 3) := dk_153 0 7 (dk_at dksL_law_48 8 rfl rfl)
theorem dL_law_1194 : decode cL_law 1194 = .ok (.lconst 1, 1) := dk_10 (dk_at dksL_law_48 11 rfl rfl)
theorem dL_law_1195 : decode cL_law 1195 = .ok (.goto 4, 3) := dk_167 0 4 (dk_at dksL_law_48 12 rfl rfl)
theorem dL_law_1198 : decode cL_law 1198 = .ok (.lconst 0, 1) := dk_9 (dk_at dksL_law_48 15 rfl rfl)
theorem dL_law_1199 : decode cL_law 1199 = .ok (.lcmp, 1) := dk_148 (dk_at dksL_law_48 16 rfl rfl)
theorem dL_law_1200 : decode cL_law 1200 = .ok (.ifCond .eq 5, 3) := dk_153 0 5 (dk_at dksL_law_48 17 rfl rfl)
theorem dL_law_1203 : decode cL_law 1203 = .ok (.iconst 0, 1) := dk_3 (dk_at dksL_law_48 20 rfl rfl)
theorem dL_law_1204 : decode cL_law 1204 = .ok (.ireturn, 1) := dk_172 (dk_at dksL_law_48 21 rfl rfl)
theorem dL_law_1205 : decode cL_law 1205 = .ok (.goto 151, 3) := dk_167 0 151 (dk_at dksL_law_49 0 rfl rfl)
theorem dL_law_1208 : decode cL_law 1208 = .ok (.aload_n 1, 1) := dk_43 (dk_at dksL_law_49 3 rfl rfl)
theorem dL_law_1209 : decode cL_law 1209 = .ok (.aload_n 0, 1) := dk_42 (dk_at dksL_law_49 4 rfl rfl)
theorem dL_law_1210 : decode cL_law 1210 = .ok (.iload 4, 2) := dk_21 4 (dk_at dksL_law_49 5 rfl rfl)
theorem dL_law_1212 : decode cL_law 1212 = .ok (.iconst 1, 1) := dk_4 (dk_at dksL_law_49 7 rfl rfl)
theorem dL_law_1213 : decode cL_law 1213 = .ok (.iadd, 1) := dk_96 (dk_at dksL_law_49 8 rfl rfl)
theorem dL_law_1214 : decode cL_law 1214 = .ok (.iaload, 1) := dk_46 (dk_at dksL_law_49 9 rfl rfl)
theorem dL_law_1215 : decode cL_law 1215 = .ok (.aload_n 0, 1) := dk_42 (dk_at dksL_law_49 10 rfl rfl)
theorem dL_law_1216 : decode cL_law 1216 = .ok (.iload 4, 2) := dk_21 4 (dk_at dksL_law_49 11 rfl rfl)
theorem dL_law_1218 : decode cL_law 1218 = .ok (.iconst 2, 1) := dk_5 (dk_at dksL_law_49 13 rfl rfl)
theorem dL_law_1219 : decode cL_law 1219 = .ok (.iadd, 1) := dk_96 (dk_at dksL_law_49 14 rfl rfl)
theorem dL_law_1220 : decode cL_law 1220 = .ok (.iaload, 1) := dk_46 (dk_at dksL_law_49 15 rfl rfl)
theorem dL_law_1221 : decode cL_law 1221 = .ok (.aload_n 3, 1) := dk_45 (dk_at dksL_law_49 16 rfl rfl)
theorem dL_law_1222 : decode cL_law 1222 = .ok (.invokestatic 148, 3) := dk_184 0 148 (dk_at dksL_law_49 17 rfl rfl)
theorem dL_law_1225 : decode cL_law 1225 = .ok (.istore 5, 2) := dk_54 5 (dk_at dksL_law_49 20 rfl rfl)
theorem dL_law_1227 : decode cL_law 1227 = .ok (.aload_n 2, 1) := dk_44 (dk_at dksL_law_49 22 rfl rfl)
theorem dL_law_1228 : decode cL_law 1228 = .ok (.aload_n 0, 1) := dk_42 (dk_at dksL_law_49 23 rfl rfl)
theorem dL_law_1229 : decode cL_law 1229 = .ok (.iload 4, 2) := dk_21 4 (dk_at dksL_law_50 0 rfl rfl)
theorem dL_law_1231 : decode cL_law 1231 = .ok (.iconst 1, 1) := dk_4 (dk_at dksL_law_50 2 rfl rfl)
theorem dL_law_1232 : decode cL_law 1232 = .ok (.iadd, 1) := dk_96 (dk_at dksL_law_50 3 rfl rfl)
theorem dL_law_1233 : decode cL_law 1233 = .ok (.iaload, 1) := dk_46 (dk_at dksL_law_50 4 rfl rfl)
theorem dL_law_1234 : decode cL_law 1234 = .ok (.aload_n 0, 1) := dk_42 (dk_at dksL_law_50 5 rfl rfl)
theorem dL_law_1235 : decode cL_law 1235 = .ok (.iload 4, 2) := dk_21 4 (dk_at dksL_law_50 6 rfl rfl)
theorem dL_law_1237 : decode cL_law 1237 = .ok (.iconst 2, 1) := dk_5 (dk_at dksL_law_50 8 rfl rfl)
theorem dL_law_1238 : decode cL_law 1238 = .ok (.iadd, 1) := dk_96 (dk_at dksL_law_50 9 rfl rfl)
theorem dL_law_1239 : decode cL_law 1239 = .ok (.iaload, 1) := dk_46 (dk_at dksL_law_50 10 rfl rfl)
theorem dL_law_1240 : decode cL_law 1240 = .ok (.invokevirtual 150, 3) := dk_182 0 150 (dk_at dksL_law_50 11 rfl rfl)
theorem dL_law_1243 : decode cL_law 1243 = .ok (.istore 6, 2) := dk_54 6 (dk_at dksL_law_50 14 rfl rfl)
theorem dL_law_1245 : decode cL_law 1245 = .ok (.aload_n 2, 1) := dk_44 (dk_at dksL_law_50 16 rfl rfl)
theorem dL_law_1246 : decode cL_law 1246 = .ok (.invokevirtual 87, 3) := dk_182 0 87 (dk_at dksL_law_50 17 rfl rfl)
theorem dL_law_1249 : decode cL_law 1249 = .ok (.iload 5, 2) := dk_21 5 (dk_at dksL_law_50 20 rfl rfl)
theorem dL_law_1251 : decode cL_law 1251 = .ok (.if_icmp .eq 5, 3) := dk_159 0 5 (dk_at dksL_law_51 0 rfl rfl)
theorem dL_law_1254 : decode cL_law 1254 = .ok (.iconst 0, 1) := dk_3 (dk_at dksL_law_51 3 rfl rfl)
theorem dL_law_1255 : decode cL_law 1255 = .ok (.ireturn, 1) := dk_172 (dk_at dksL_law_51 4 rfl rfl)
theorem dL_law_1256 : decode cL_law 1256 = .ok (.iload 5, 2) := dk_21 5 (dk_at dksL_law_51 5 rfl rfl)
theorem dL_law_1258 : decode cL_law 1258 = .ok (.ifCond .ne 15, 3) := dk_154 0 15 (dk_at dksL_law_51 7 rfl rfl)
theorem dL_law_1261 : decode cL_law 1261 = .ok (.aload_n 3, 1) := dk_45 (dk_at dksL_law_51 10 rfl rfl)
theorem dL_law_1262 : decode cL_law 1262 = .ok (.iconst 0, 1) := dk_3 (dk_at dksL_law_51 11 rfl rfl)
theorem dL_law_1263 : decode cL_law 1263 = .ok (.laload, 1) := dk_47 (dk_at dksL_law_51 12 rfl rfl)
theorem dL_law_1264 : decode cL_law 1264 = .ok (.iload 6, 2) := dk_21 6 (dk_at dksL_law_51 13 rfl rfl)
theorem dL_law_1266 : decode cL_law 1266 = .ok (.i2l, 1) := dk_133 (dk_at dksL_law_51 15 rfl rfl)
theorem dL_law_1267 : decode cL_law 1267 = .ok (.lcmp, 1) := dk_148 (dk_at dksL_law_51 16 rfl rfl)
theorem dL_law_1268 : decode cL_law 1268 = .ok (.ifCond .eq 5, 3) := dk_153 0 5 (dk_at dksL_law_51 17 rfl rfl)
theorem dL_law_1271 : decode cL_law 1271 = .ok (.iconst 0, 1) := dk_3 (dk_at dksL_law_51 20 rfl rfl)
theorem dL_law_1272 : decode cL_law 1272 = .ok (.ireturn, 1) := dk_172 (dk_at dksL_law_51 21 rfl rfl)
theorem dL_law_1273 : decode cL_law 1273 = .ok (.goto 83, 3) := dk_167 0 83 (dk_at dksL_law_52 0 rfl rfl)
theorem dL_law_1276 : decode cL_law 1276 = .ok (.aload_n 1, 1) := dk_43 (dk_at dksL_law_52 3 rfl rfl)
theorem dL_law_1277 : decode cL_law 1277 = .ok (.aload_n 0, 1) := dk_42 (dk_at dksL_law_52 4 rfl rfl)
theorem dL_law_1278 : decode cL_law 1278 = .ok (.iload 4, 2) := dk_21 4 (dk_at dksL_law_52 5 rfl rfl)
theorem dL_law_1280 : decode cL_law 1280 = .ok (.iconst 1, 1) := dk_4 (dk_at dksL_law_52 7 rfl rfl)
theorem dL_law_1281 : decode cL_law 1281 = .ok (.iadd, 1) := dk_96 (dk_at dksL_law_52 8 rfl rfl)
theorem dL_law_1282 : decode cL_law 1282 = .ok (.iaload, 1) := dk_46 (dk_at dksL_law_52 9 rfl rfl)
theorem dL_law_1283 : decode cL_law 1283 = .ok (.aload_n 0, 1) := dk_42 (dk_at dksL_law_52 10 rfl rfl)
theorem dL_law_1284 : decode cL_law 1284 = .ok (.iload 4, 2) := dk_21 4 (dk_at dksL_law_52 11 rfl rfl)
theorem dL_law_1286 : decode cL_law 1286 = .ok (.iconst 2, 1) := dk_5 (dk_at dksL_law_52 13 rfl rfl)
theorem dL_law_1287 : decode cL_law 1287 = .ok (.iadd, 1) := dk_96 (dk_at dksL_law_52 14 rfl rfl)
theorem dL_law_1288 : decode cL_law 1288 = .ok (.iaload, 1) := dk_46 (dk_at dksL_law_52 15 rfl rfl)
theorem dL_law_1289 : decode cL_law 1289 = .ok (.aload_n 0, 1) := dk_42 (dk_at dksL_law_52 16 rfl rfl)
theorem dL_law_1290 : decode cL_law 1290 = .ok (.iload 4, 2) := dk_21 4 (dk_at dksL_law_52 17 rfl rfl)
theorem dL_law_1292 : decode cL_law 1292 = .ok (.iconst 3, 1) := dk_6 (dk_at dksL_law_52 19 rfl rfl)
theorem dL_law_1293 : decode cL_law 1293 = .ok (.iadd, 1) := dk_96 (dk_at dksL_law_52 20 rfl rfl)
theorem dL_law_1294 : decode cL_law 1294 = .ok (.iaload, 1) := dk_46 (dk_at dksL_law_52 21 rfl rfl)
theorem dL_law_1295 : decode cL_law 1295 = .ok (.aload_n 3, 1) := dk_45 (dk_at dksL_law_52 22 rfl rfl)
theorem dL_law_1296 : decode cL_law 1296 = .ok (.invokestatic 151, 3) := dk_184 0 151 (dk_at dksL_law_53 0 rfl rfl)
theorem dL_law_1299 : decode cL_law 1299 = .ok (.istore 5, 2) := dk_54 5 (dk_at dksL_law_53 3 rfl rfl)
theorem dL_law_1301 : decode cL_law 1301 = .ok (.aload_n 2, 1) := dk_44 (dk_at dksL_law_53 5 rfl rfl)
theorem dL_law_1302 : decode cL_law 1302 = .ok (.aload_n 0, 1) := dk_42 (dk_at dksL_law_53 6 rfl rfl)
theorem dL_law_1303 : decode cL_law 1303 = .ok (.iload 4, 2) := dk_21 4 (dk_at dksL_law_53 7 rfl rfl)
theorem dL_law_1305 : decode cL_law 1305 = .ok (.iconst 1, 1) := dk_4 (dk_at dksL_law_53 9 rfl rfl)
theorem dL_law_1306 : decode cL_law 1306 = .ok (.iadd, 1) := dk_96 (dk_at dksL_law_53 10 rfl rfl)
theorem dL_law_1307 : decode cL_law 1307 = .ok (.iaload, 1) := dk_46 (dk_at dksL_law_53 11 rfl rfl)
theorem dL_law_1308 : decode cL_law 1308 = .ok (.aload_n 0, 1) := dk_42 (dk_at dksL_law_53 12 rfl rfl)
theorem dL_law_1309 : decode cL_law 1309 = .ok (.iload 4, 2) := dk_21 4 (dk_at dksL_law_53 13 rfl rfl)
theorem dL_law_1311 : decode cL_law 1311 = .ok (.iconst 2, 1) := dk_5 (dk_at dksL_law_53 15 rfl rfl)
theorem dL_law_1312 : decode cL_law 1312 = .ok (.iadd, 1) := dk_96 (dk_at dksL_law_53 16 rfl rfl)
theorem dL_law_1313 : decode cL_law 1313 = .ok (.iaload, 1) := dk_46 (dk_at dksL_law_53 17 rfl rfl)
theorem dL_law_1314 : decode cL_law 1314 = .ok (.aload_n 0, 1) := dk_42 (dk_at dksL_law_53 18 rfl rfl)
theorem dL_law_1315 : decode cL_law 1315 = .ok (.iload 4, 2) := dk_21 4 (dk_at dksL_law_53 19 rfl rfl)
theorem dL_law_1317 : decode cL_law 1317 = .ok (.iconst 3, 1) := dk_6 (dk_at dksL_law_53 21 rfl rfl)
theorem dL_law_1318 : decode cL_law 1318 = .ok (.iadd, 1) := dk_96 (dk_at dksL_law_53 22 rfl rfl)
theorem dL_law_1319 : decode cL_law 1319 = .ok (.iaload, 1) := dk_46 (dk_at dksL_law_53 23 rfl rfl)
theorem dL_law_1320 : decode cL_law 1320 = .ok (.invokevirtual 154, 3) := dk_182 0 154 (dk_at dksL_law_54 0 rfl rfl)
theorem dL_law_1323 : decode cL_law 1323 = .ok (.istore 6, 2) := dk_54 6 (dk_at dksL_law_54 3 rfl rfl)
theorem dL_law_1325 : decode cL_law 1325 = .ok (.aload_n 2, 1) := dk_44 (dk_at dksL_law_54 5 rfl rfl)
theorem dL_law_1326 : decode cL_law 1326 = .ok (.invokevirtual 87, 3) := dk_182 0 87 (dk_at dksL_law_54 6 rfl rfl)
theorem dL_law_1329 : decode cL_law 1329 = .ok (.iload 5, 2) := dk_21 5 (dk_at dksL_law_54 9 rfl rfl)
theorem dL_law_1331 : decode cL_law 1331 = .ok (.if_icmp .eq 5, 3) := dk_159 0 5 (dk_at dksL_law_54 11 rfl rfl)
theorem dL_law_1334 : decode cL_law 1334 = .ok (.iconst 0, 1) := dk_3 (dk_at dksL_law_54 14 rfl rfl)
theorem dL_law_1335 : decode cL_law 1335 = .ok (.ireturn, 1) := dk_172 (dk_at dksL_law_54 15 rfl rfl)
theorem dL_law_1336 : decode cL_law 1336 = .ok (.iload 5, 2) := dk_21 5 (dk_at dksL_law_54 16 rfl rfl)
theorem dL_law_1338 : decode cL_law 1338 = .ok (.ifCond .ne 15, 3) := dk_154 0 15 (dk_at dksL_law_54 18 rfl rfl)
theorem dL_law_1341 : decode cL_law 1341 = .ok (.aload_n 3, 1) := dk_45 (dk_at dksL_law_54 21 rfl rfl)
theorem dL_law_1342 : decode cL_law 1342 = .ok (.iconst 0, 1) := dk_3 (dk_at dksL_law_54 22 rfl rfl)
theorem dL_law_1343 : decode cL_law 1343 = .ok (.laload, 1) := dk_47 (dk_at dksL_law_54 23 rfl rfl)
theorem dL_law_1344 : decode cL_law 1344 = .ok (.iload 6, 2) := dk_21 6 (dk_at dksL_law_55 0 rfl rfl)
theorem dL_law_1346 : decode cL_law 1346 = .ok (.i2l, 1) := dk_133 (dk_at dksL_law_55 2 rfl rfl)
theorem dL_law_1347 : decode cL_law 1347 = .ok (.lcmp, 1) := dk_148 (dk_at dksL_law_55 3 rfl rfl)
theorem dL_law_1348 : decode cL_law 1348 = .ok (.ifCond .eq 5, 3) := dk_153 0 5 (dk_at dksL_law_55 4 rfl rfl)
theorem dL_law_1351 : decode cL_law 1351 = .ok (.iconst 0, 1) := dk_3 (dk_at dksL_law_55 7 rfl rfl)
theorem dL_law_1352 : decode cL_law 1352 = .ok (.ireturn, 1) := dk_172 (dk_at dksL_law_55 8 rfl rfl)
theorem dL_law_1353 : decode cL_law 1353 = .ok (.goto 3, 3) := dk_167 0 3 (dk_at dksL_law_55 9 rfl rfl)
theorem dL_law_1356 : decode cL_law 1356 = .ok (.iinc 4 5, 3) := dk_132 4 5 (dk_at dksL_law_55 12 rfl rfl)
theorem dL_law_1359 : decode cL_law 1359 = .ok (.goto (-1336), 3) := dk_167 250 200 (dk_at dksL_law_55 15 rfl rfl)
theorem dL_law_1362 : decode cL_law 1362 = .ok (.iconst 1, 1) := dk_4 (dk_at dksL_law_55 18 rfl rfl)
theorem dL_law_1363 : decode cL_law 1363 = .ok (.ireturn, 1) := dk_172 (dk_at dksL_law_55 19 rfl rfl)

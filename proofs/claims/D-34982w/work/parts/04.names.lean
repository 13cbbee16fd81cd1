/-! TownPurse -/
set_option maxRecDepth 100000
def RX1 : String := "TownPurse"
def TX1 : u_T := fun k => match k with
  | 0 => ("TownPurse", "accounts", "Ljava/util/ArrayList;", true)
  | 1 => ("TownPurse", "entries", "Ljava/util/ArrayList;", true)
  | 2 => ("TownPurse", "payments", "Ljava/util/ArrayList;", true)
  | 3 => ("TownPurse", "advances", "Ljava/util/ArrayList;", true)
  | 4 => ("TownPurse", "limit", "I", false)
  | _ => ("TownPurse", "open", "I", false)
def tyX1 : Nat → FieldType := fun k => match k with
  | 0 => .object "java/util/ArrayList"
  | 1 => .object "java/util/ArrayList"
  | 2 => .object "java/util/ArrayList"
  | 3 => .object "java/util/ArrayList"
  | 4 => .int
  | _ => .int
abbrev wsX10 : List Cond := u_ws RX1 TX1 6
theorem nmX1 : ∀ a, a < 6 → ∀ b, b < 6 → a ≠ b → (TX1 a).2.1 ≠ (TX1 b).2.1 := by decide +kernel
theorem tyX1_ok : ∀ k, k < 6 → parseFieldDescriptor (TX1 k).2.2.1 = some (tyX1 k) := by decide +kernel
abbrev cX1_init : ByteArray := prog_1_method_1_code
def yX1_init : MethodName := ⟨RX1, "<init>", "()V"⟩
def dkwX1_init_3 : List UInt8 := [182, 0, 34, 87, 42, 180, 0, 10, 187, 0, 29, 89, 1, 183, 0, 31, 182, 0, 34, 87, 177]
abbrev dktX1_init_3 : List UInt8 := dkwX1_init_3 ++ []
def dkwX1_init_2 : List UInt8 := [181, 0, 22, 42, 17, 19, 136, 181, 0, 25, 42, 180, 0, 10, 187, 0, 29, 89, 1, 183, 0, 31]
abbrev dktX1_init_2 : List UInt8 := dkwX1_init_2 ++ dktX1_init_3
def dkwX1_init_1 : List UInt8 := [181, 0, 16, 42, 187, 0, 7, 89, 183, 0, 9, 181, 0, 19, 42, 187, 0, 7, 89, 183, 0, 9]
abbrev dktX1_init_1 : List UInt8 := dkwX1_init_1 ++ dktX1_init_2
def dkwX1_init_0 : List UInt8 := [42, 183, 0, 1, 42, 187, 0, 7, 89, 183, 0, 9, 181, 0, 10, 42, 187, 0, 7, 89, 183, 0, 9]
abbrev dktX1_init_0 : List UInt8 := dkwX1_init_0 ++ dktX1_init_1
theorem dksX1_init_0 : cX1_init.data.toList.drop 0 = dktX1_init_0 := by decide +kernel
theorem dksX1_init_1 : cX1_init.data.toList.drop 23 = dktX1_init_1 := dk_seg dksX1_init_0 23 rfl rfl
theorem dksX1_init_2 : cX1_init.data.toList.drop 45 = dktX1_init_2 := dk_seg dksX1_init_1 22 rfl rfl
theorem dksX1_init_3 : cX1_init.data.toList.drop 67 = dktX1_init_3 := dk_seg dksX1_init_2 22 rfl rfl
theorem dX1_init_0 : decode cX1_init 0 = .ok (.aload_n 0, 1) := dk_42 (dk_at dksX1_init_0 0 rfl rfl)
theorem dX1_init_1 : decode cX1_init 1 = .ok (.invokespecial 1, 3) := dk_183 0 1 (dk_at dksX1_init_0 1 rfl rfl)
theorem dX1_init_4 : decode cX1_init 4 = .ok (.aload_n 0, 1) := dk_42 (dk_at dksX1_init_0 4 rfl rfl)
theorem dX1_init_5 : decode cX1_init 5 = .ok (.new 7, 3) := dk_187 0 7 (dk_at dksX1_init_0 5 rfl rfl)
theorem dX1_init_8 : decode cX1_init 8 = .ok (.dup, 1) := dk_89 (dk_at dksX1_init_0 8 rfl rfl)
theorem dX1_init_9 : decode cX1_init 9 = .ok (.invokespecial 9, 3) := dk_183 0 9 (dk_at dksX1_init_0 9 rfl rfl)
theorem dX1_init_12 : decode cX1_init 12 = .ok (.putfield 10, 3) := dk_181 0 10 (dk_at dksX1_init_0 12 rfl rfl)
theorem dX1_init_15 : decode cX1_init 15 = .ok (.aload_n 0, 1) := dk_42 (dk_at dksX1_init_0 15 rfl rfl)
theorem dX1_init_16 : decode cX1_init 16 = .ok (.new 7, 3) := dk_187 0 7 (dk_at dksX1_init_0 16 rfl rfl)
theorem dX1_init_19 : decode cX1_init 19 = .ok (.dup, 1) := dk_89 (dk_at dksX1_init_0 19 rfl rfl)
theorem dX1_init_20 : decode cX1_init 20 = .ok (.invokespecial 9, 3) := dk_183 0 9 (dk_at dksX1_init_0 20 rfl rfl)
theorem dX1_init_23 : decode cX1_init 23 = .ok (.putfield 16, 3) := dk_181 0 16 (dk_at dksX1_init_1 0 rfl rfl)
theorem dX1_init_26 : decode cX1_init 26 = .ok (.aload_n 0, 1) := dk_42 (dk_at dksX1_init_1 3 rfl rfl)
theorem dX1_init_27 : decode cX1_init 27 = .ok (.new 7, 3) := dk_187 0 7 (dk_at dksX1_init_1 4 rfl rfl)
theorem dX1_init_30 : decode cX1_init 30 = .ok (.dup, 1) := dk_89 (dk_at dksX1_init_1 7 rfl rfl)
theorem dX1_init_31 : decode cX1_init 31 = .ok (.invokespecial 9, 3) := dk_183 0 9 (dk_at dksX1_init_1 8 rfl rfl)
theorem dX1_init_34 : decode cX1_init 34 = .ok (.putfield 19, 3) := dk_181 0 19 (dk_at dksX1_init_1 11 rfl rfl)
theorem dX1_init_37 : decode cX1_init 37 = .ok (.aload_n 0, 1) := dk_42 (dk_at dksX1_init_1 14 rfl rfl)
theorem dX1_init_38 : decode cX1_init 38 = .ok (.new 7, 3) := dk_187 0 7 (dk_at dksX1_init_1 15 rfl rfl)
theorem dX1_init_41 : decode cX1_init 41 = .ok (.dup, 1) := dk_89 (dk_at dksX1_init_1 18 rfl rfl)
theorem dX1_init_42 : decode cX1_init 42 = .ok (.invokespecial 9, 3) := dk_183 0 9 (dk_at dksX1_init_1 19 rfl rfl)
theorem dX1_init_45 : decode cX1_init 45 = .ok (.putfield 22, 3) := dk_181 0 22 (dk_at dksX1_init_2 0 rfl rfl)
theorem dX1_init_48 : decode cX1_init 48 = .ok (.aload_n 0, 1) := dk_42 (dk_at dksX1_init_2 3 rfl rfl)
theorem dX1_init_49 : decode cX1_init 49 = .ok (.sipush 5000, 3) := dk_17 19 136 (dk_at dksX1_init_2 4 rfl rfl)
theorem dX1_init_52 : decode cX1_init 52 = .ok (.putfield 25, 3) := dk_181 0 25 (dk_at dksX1_init_2 7 rfl rfl)
theorem dX1_init_55 : decode cX1_init 55 = .ok (.aload_n 0, 1) := dk_42 (dk_at dksX1_init_2 10 rfl rfl)
theorem dX1_init_56 : decode cX1_init 56 = .ok (.getfield 10, 3) := dk_180 0 10 (dk_at dksX1_init_2 11 rfl rfl)
theorem dX1_init_59 : decode cX1_init 59 = .ok (.new 29, 3) := dk_187 0 29 (dk_at dksX1_init_2 14 rfl rfl)
theorem dX1_init_62 : decode cX1_init 62 = .ok (.dup, 1) := dk_89 (dk_at dksX1_init_2 17 rfl rfl)
theorem dX1_init_63 : decode cX1_init 63 = .ok (.aconst_null, 1) := dk_1 (dk_at dksX1_init_2 18 rfl rfl)
theorem dX1_init_64 : decode cX1_init 64 = .ok (.invokespecial 31, 3) := dk_183 0 31 (dk_at dksX1_init_2 19 rfl rfl)
theorem dX1_init_67 : decode cX1_init 67 = .ok (.invokevirtual 34, 3) := dk_182 0 34 (dk_at dksX1_init_3 0 rfl rfl)
theorem dX1_init_70 : decode cX1_init 70 = .ok (.pop, 1) := dk_87 (dk_at dksX1_init_3 3 rfl rfl)
theorem dX1_init_71 : decode cX1_init 71 = .ok (.aload_n 0, 1) := dk_42 (dk_at dksX1_init_3 4 rfl rfl)
theorem dX1_init_72 : decode cX1_init 72 = .ok (.getfield 10, 3) := dk_180 0 10 (dk_at dksX1_init_3 5 rfl rfl)
theorem dX1_init_75 : decode cX1_init 75 = .ok (.new 29, 3) := dk_187 0 29 (dk_at dksX1_init_3 8 rfl rfl)
theorem dX1_init_78 : decode cX1_init 78 = .ok (.dup, 1) := dk_89 (dk_at dksX1_init_3 11 rfl rfl)
theorem dX1_init_79 : decode cX1_init 79 = .ok (.aconst_null, 1) := dk_1 (dk_at dksX1_init_3 12 rfl rfl)
theorem dX1_init_80 : decode cX1_init 80 = .ok (.invokespecial 31, 3) := dk_183 0 31 (dk_at dksX1_init_3 13 rfl rfl)
theorem dX1_init_83 : decode cX1_init 83 = .ok (.invokevirtual 34, 3) := dk_182 0 34 (dk_at dksX1_init_3 16 rfl rfl)
theorem dX1_init_86 : decode cX1_init 86 = .ok (.pop, 1) := dk_87 (dk_at dksX1_init_3 19 rfl rfl)
theorem dX1_init_87 : decode cX1_init 87 = .ok (.return_, 1) := dk_177 (dk_at dksX1_init_3 20 rfl rfl)
abbrev cX1_period : ByteArray := prog_1_method_14_code
def yX1_period : MethodName := ⟨RX1, "period", "()I"⟩
theorem dX1_period_0 : decode cX1_period 0 = .ok (.aload_n 0, 1) := by decide +kernel
theorem dX1_period_1 : decode cX1_period 1 = .ok (.getfield 67, 3) := by decide +kernel
theorem dX1_period_4 : decode cX1_period 4 = .ok (.ireturn, 1) := by decide +kernel
abbrev cX1_entries : ByteArray := prog_1_method_15_code
def yX1_entries : MethodName := ⟨RX1, "entries", "()I"⟩
def dkwX1_entries_0 : List UInt8 := [42, 180, 0, 16, 182, 0, 47, 172]
abbrev dktX1_entries_0 : List UInt8 := dkwX1_entries_0 ++ []
theorem dksX1_entries_0 : cX1_entries.data.toList.drop 0 = dktX1_entries_0 := by decide +kernel
theorem dX1_entries_0 : decode cX1_entries 0 = .ok (.aload_n 0, 1) := dk_42 (dk_at dksX1_entries_0 0 rfl rfl)
theorem dX1_entries_1 : decode cX1_entries 1 = .ok (.getfield 16, 3) := dk_180 0 16 (dk_at dksX1_entries_0 1 rfl rfl)
theorem dX1_entries_4 : decode cX1_entries 4 = .ok (.invokevirtual 47, 3) := dk_182 0 47 (dk_at dksX1_entries_0 4 rfl rfl)
theorem dX1_entries_7 : decode cX1_entries 7 = .ok (.ireturn, 1) := dk_172 (dk_at dksX1_entries_0 7 rfl rfl)
abbrev cX1_addAccount : ByteArray := prog_1_method_10_code
def yX1_addAccount : MethodName := ⟨RX1, "addAccount", "(I)I"⟩
def dkwX1_addAccount_2 : List UInt8 := [187, 0, 29, 89, 44, 183, 0, 31, 182, 0, 34, 87, 42, 180, 0, 10, 182, 0, 47, 4, 100, 172]
abbrev dktX1_addAccount_2 : List UInt8 := dkwX1_addAccount_2 ++ []
def dkwX1_addAccount_1 : List UInt8 := [180, 0, 10, 182, 0, 47, 16, 14, 162, 0, 7, 4, 167, 0, 4, 3, 184, 0, 74, 42, 180, 0, 10]
abbrev dktX1_addAccount_1 : List UInt8 := dkwX1_addAccount_1 ++ dktX1_addAccount_2
def dkwX1_addAccount_0 : List UInt8 := [27, 2, 160, 0, 7, 1, 167, 0, 14, 42, 180, 0, 10, 27, 184, 0, 70, 192, 0, 29, 77, 42]
abbrev dktX1_addAccount_0 : List UInt8 := dkwX1_addAccount_0 ++ dktX1_addAccount_1
theorem dksX1_addAccount_0 : cX1_addAccount.data.toList.drop 0 = dktX1_addAccount_0 := by decide +kernel
theorem dksX1_addAccount_1 : cX1_addAccount.data.toList.drop 22 = dktX1_addAccount_1 := dk_seg dksX1_addAccount_0 22 rfl rfl
theorem dksX1_addAccount_2 : cX1_addAccount.data.toList.drop 45 = dktX1_addAccount_2 := dk_seg dksX1_addAccount_1 23 rfl rfl
theorem dX1_addAccount_0 : decode cX1_addAccount 0 = .ok (.iload_n 1, 1) := dk_27 (dk_at dksX1_addAccount_0 0 rfl rfl)
theorem dX1_addAccount_1 : decode cX1_addAccount 1 = .ok (.iconst (-1), 1) := dk_2 (dk_at dksX1_addAccount_0 1 rfl rfl)
theorem dX1_addAccount_2 : decode cX1_addAccount 2 = .ok (.if_icmp .ne 7, 3) := dk_160 0 7 (dk_at dksX1_addAccount_0 2 rfl rfl)
theorem dX1_addAccount_5 : decode cX1_addAccount 5 = .ok (.aconst_null, 1) := dk_1 (dk_at dksX1_addAccount_0 5 rfl rfl)
theorem dX1_addAccount_6 : decode cX1_addAccount 6 = .ok (.goto 14, 3) := dk_167 0 14 (dk_at dksX1_addAccount_0 6 rfl rfl)
theorem dX1_addAccount_9 : decode cX1_addAccount 9 = .ok (.aload_n 0, 1) := dk_42 (dk_at dksX1_addAccount_0 9 rfl rfl)
theorem dX1_addAccount_10 : decode cX1_addAccount 10 = .ok (.getfield 10, 3) := dk_180 0 10 (dk_at dksX1_addAccount_0 10 rfl rfl)
theorem dX1_addAccount_13 : decode cX1_addAccount 13 = .ok (.iload_n 1, 1) := dk_27 (dk_at dksX1_addAccount_0 13 rfl rfl)
theorem dX1_addAccount_14 : decode cX1_addAccount 14 = .ok (.invokestatic 70, 3) := dk_184 0 70 (dk_at dksX1_addAccount_0 14 rfl rfl)
theorem dX1_addAccount_17 : decode cX1_addAccount 17 = .ok (.checkcast 29, 3) := dk_192 0 29 (dk_at dksX1_addAccount_0 17 rfl rfl)
theorem dX1_addAccount_20 : decode cX1_addAccount 20 = .ok (.astore_n 2, 1) := dk_77 (dk_at dksX1_addAccount_0 20 rfl rfl)
theorem dX1_addAccount_21 : decode cX1_addAccount 21 = .ok (.aload_n 0, 1) := dk_42 (dk_at dksX1_addAccount_0 21 rfl rfl)
theorem dX1_addAccount_22 : decode cX1_addAccount 22 = .ok (.getfield 10, 3) := dk_180 0 10 (dk_at dksX1_addAccount_1 0 rfl rfl)
theorem dX1_addAccount_25 : decode cX1_addAccount 25 = .ok (.invokevirtual 47, 3) := dk_182 0 47 (dk_at dksX1_addAccount_1 3 rfl rfl)
theorem dX1_addAccount_28 : decode cX1_addAccount 28 = .ok (.bipush 14, 2) := dk_16 14 (dk_at dksX1_addAccount_1 6 rfl rfl)
theorem dX1_addAccount_30 : decode cX1_addAccount 30 = .ok (.if_icmp .ge 7, 3) := dk_162 0 7 (dk_at dksX1_addAccount_1 8 rfl rfl)
theorem dX1_addAccount_33 : decode cX1_addAccount 33 = .ok (.iconst 1, 1) := dk_4 (dk_at dksX1_addAccount_1 11 rfl rfl)
theorem dX1_addAccount_34 : decode cX1_addAccount 34 = .ok (.goto 4, 3) := dk_167 0 4 (dk_at dksX1_addAccount_1 12 rfl rfl)
theorem dX1_addAccount_37 : decode cX1_addAccount 37 = .ok (.iconst 0, 1) := dk_3 (dk_at dksX1_addAccount_1 15 rfl rfl)
theorem dX1_addAccount_38 : decode cX1_addAccount 38 = .ok (.invokestatic 74, 3) := dk_184 0 74 (dk_at dksX1_addAccount_1 16 rfl rfl)
theorem dX1_addAccount_41 : decode cX1_addAccount 41 = .ok (.aload_n 0, 1) := dk_42 (dk_at dksX1_addAccount_1 19 rfl rfl)
theorem dX1_addAccount_42 : decode cX1_addAccount 42 = .ok (.getfield 10, 3) := dk_180 0 10 (dk_at dksX1_addAccount_1 20 rfl rfl)
theorem dX1_addAccount_45 : decode cX1_addAccount 45 = .ok (.new 29, 3) := dk_187 0 29 (dk_at dksX1_addAccount_2 0 rfl rfl)
theorem dX1_addAccount_48 : decode cX1_addAccount 48 = .ok (.dup, 1) := dk_89 (dk_at dksX1_addAccount_2 3 rfl rfl)
theorem dX1_addAccount_49 : decode cX1_addAccount 49 = .ok (.aload_n 2, 1) := dk_44 (dk_at dksX1_addAccount_2 4 rfl rfl)
theorem dX1_addAccount_50 : decode cX1_addAccount 50 = .ok (.invokespecial 31, 3) := dk_183 0 31 (dk_at dksX1_addAccount_2 5 rfl rfl)
theorem dX1_addAccount_53 : decode cX1_addAccount 53 = .ok (.invokevirtual 34, 3) := dk_182 0 34 (dk_at dksX1_addAccount_2 8 rfl rfl)
theorem dX1_addAccount_56 : decode cX1_addAccount 56 = .ok (.pop, 1) := dk_87 (dk_at dksX1_addAccount_2 11 rfl rfl)
theorem dX1_addAccount_57 : decode cX1_addAccount 57 = .ok (.aload_n 0, 1) := dk_42 (dk_at dksX1_addAccount_2 12 rfl rfl)
theorem dX1_addAccount_58 : decode cX1_addAccount 58 = .ok (.getfield 10, 3) := dk_180 0 10 (dk_at dksX1_addAccount_2 13 rfl rfl)
theorem dX1_addAccount_61 : decode cX1_addAccount 61 = .ok (.invokevirtual 47, 3) := dk_182 0 47 (dk_at dksX1_addAccount_2 16 rfl rfl)
theorem dX1_addAccount_64 : decode cX1_addAccount 64 = .ok (.iconst 1, 1) := dk_4 (dk_at dksX1_addAccount_2 19 rfl rfl)
theorem dX1_addAccount_65 : decode cX1_addAccount 65 = .ok (.isub, 1) := dk_100 (dk_at dksX1_addAccount_2 20 rfl rfl)
theorem dX1_addAccount_66 : decode cX1_addAccount 66 = .ok (.ireturn, 1) := dk_172 (dk_at dksX1_addAccount_2 21 rfl rfl)
abbrev cX1_at : ByteArray := prog_1_method_6_code
def yX1_at : MethodName := ⟨RX1, "at", "(Ljava/util/ArrayList;I)Ljava/lang/Object;"⟩
def dkwX1_at_1 : List UInt8 := [182, 0, 55, 176]
abbrev dktX1_at_1 : List UInt8 := dkwX1_at_1 ++ []
def dkwX1_at_0 : List UInt8 := [27, 155, 0, 15, 27, 42, 182, 0, 47, 162, 0, 7, 4, 167, 0, 4, 3, 184, 0, 51, 42, 27]
abbrev dktX1_at_0 : List UInt8 := dkwX1_at_0 ++ dktX1_at_1
theorem dksX1_at_0 : cX1_at.data.toList.drop 0 = dktX1_at_0 := by decide +kernel
theorem dksX1_at_1 : cX1_at.data.toList.drop 22 = dktX1_at_1 := dk_seg dksX1_at_0 22 rfl rfl
theorem dX1_at_0 : decode cX1_at 0 = .ok (.iload_n 1, 1) := dk_27 (dk_at dksX1_at_0 0 rfl rfl)
theorem dX1_at_1 : decode cX1_at 1 = .ok (.ifCond .lt 15, 3) := dk_155 0 15 (dk_at dksX1_at_0 1 rfl rfl)
theorem dX1_at_4 : decode cX1_at 4 = .ok (.iload_n 1, 1) := dk_27 (dk_at dksX1_at_0 4 rfl rfl)
theorem dX1_at_5 : decode cX1_at 5 = .ok (.aload_n 0, 1) := dk_42 (dk_at dksX1_at_0 5 rfl rfl)
theorem dX1_at_6 : decode cX1_at 6 = .ok (.invokevirtual 47, 3) := dk_182 0 47 (dk_at dksX1_at_0 6 rfl rfl)
theorem dX1_at_9 : decode cX1_at 9 = .ok (.if_icmp .ge 7, 3) := dk_162 0 7 (dk_at dksX1_at_0 9 rfl rfl)
theorem dX1_at_12 : decode cX1_at 12 = .ok (.iconst 1, 1) := dk_4 (dk_at dksX1_at_0 12 rfl rfl)
theorem dX1_at_13 : decode cX1_at 13 = .ok (.goto 4, 3) := dk_167 0 4 (dk_at dksX1_at_0 13 rfl rfl)
theorem dX1_at_16 : decode cX1_at 16 = .ok (.iconst 0, 1) := dk_3 (dk_at dksX1_at_0 16 rfl rfl)
theorem dX1_at_17 : decode cX1_at 17 = .ok (.invokestatic 51, 3) := dk_184 0 51 (dk_at dksX1_at_0 17 rfl rfl)
theorem dX1_at_20 : decode cX1_at 20 = .ok (.aload_n 0, 1) := dk_42 (dk_at dksX1_at_0 20 rfl rfl)
theorem dX1_at_21 : decode cX1_at 21 = .ok (.iload_n 1, 1) := dk_27 (dk_at dksX1_at_0 21 rfl rfl)
theorem dX1_at_22 : decode cX1_at 22 = .ok (.invokevirtual 55, 3) := dk_182 0 55 (dk_at dksX1_at_1 0 rfl rfl)
theorem dX1_at_25 : decode cX1_at 25 = .ok (.areturn, 1) := dk_176 (dk_at dksX1_at_1 3 rfl rfl)
abbrev cX1_known : ByteArray := prog_1_method_2_code
def yX1_known : MethodName := ⟨RX1, "known", "(Z)V"⟩
def dkwX1_known_0 : List UInt8 := [26, 154, 0, 11, 187, 0, 38, 89, 183, 0, 40, 191, 177]
abbrev dktX1_known_0 : List UInt8 := dkwX1_known_0 ++ []
theorem dksX1_known_0 : cX1_known.data.toList.drop 0 = dktX1_known_0 := by decide +kernel
theorem dX1_known_0 : decode cX1_known 0 = .ok (.iload_n 0, 1) := dk_26 (dk_at dksX1_known_0 0 rfl rfl)
theorem dX1_known_1 : decode cX1_known 1 = .ok (.ifCond .ne 11, 3) := dk_154 0 11 (dk_at dksX1_known_0 1 rfl rfl)
theorem dX1_known_4 : decode cX1_known 4 = .ok (.new 38, 3) := dk_187 0 38 (dk_at dksX1_known_0 4 rfl rfl)
theorem dX1_known_7 : decode cX1_known 7 = .ok (.dup, 1) := dk_89 (dk_at dksX1_known_0 7 rfl rfl)
theorem dX1_known_8 : decode cX1_known 8 = .ok (.invokespecial 40, 3) := dk_183 0 40 (dk_at dksX1_known_0 8 rfl rfl)
theorem dX1_known_11 : decode cX1_known 11 = .ok (.athrow, 1) := dk_191 (dk_at dksX1_known_0 11 rfl rfl)
theorem dX1_known_12 : decode cX1_known 12 = .ok (.return_, 1) := dk_177 (dk_at dksX1_known_0 12 rfl rfl)
abbrev cX1_checkState : ByteArray := prog_1_method_4_code
def yX1_checkState : MethodName := ⟨RX1, "checkState", "(Z)V"⟩
def dkwX1_checkState_0 : List UInt8 := [26, 154, 0, 11, 187, 0, 44, 89, 183, 0, 46, 191, 177]
abbrev dktX1_checkState_0 : List UInt8 := dkwX1_checkState_0 ++ []
theorem dksX1_checkState_0 : cX1_checkState.data.toList.drop 0 = dktX1_checkState_0 := by decide +kernel
theorem dX1_checkState_0 : decode cX1_checkState 0 = .ok (.iload_n 0, 1) := dk_26 (dk_at dksX1_checkState_0 0 rfl rfl)
theorem dX1_checkState_1 : decode cX1_checkState 1 = .ok (.ifCond .ne 11, 3) := dk_154 0 11 (dk_at dksX1_checkState_0 1 rfl rfl)
theorem dX1_checkState_4 : decode cX1_checkState 4 = .ok (.new 44, 3) := dk_187 0 44 (dk_at dksX1_checkState_0 4 rfl rfl)
theorem dX1_checkState_7 : decode cX1_checkState 7 = .ok (.dup, 1) := dk_89 (dk_at dksX1_checkState_0 7 rfl rfl)
theorem dX1_checkState_8 : decode cX1_checkState 8 = .ok (.invokespecial 46, 3) := dk_183 0 46 (dk_at dksX1_checkState_0 8 rfl rfl)
theorem dX1_checkState_11 : decode cX1_checkState 11 = .ok (.athrow, 1) := dk_191 (dk_at dksX1_checkState_0 11 rfl rfl)
theorem dX1_checkState_12 : decode cX1_checkState 12 = .ok (.return_, 1) := dk_177 (dk_at dksX1_checkState_0 12 rfl rfl)
abbrev cX1_enter : ByteArray := prog_1_method_12_code
def yX1_enter : MethodName := ⟨RX1, "enter", "(IIII)I"⟩
def dkwX1_enter_5 : List UInt8 := [180, 0, 16, 182, 0, 47, 4, 100, 172]
abbrev dktX1_enter_5 : List UInt8 := dkwX1_enter_5 ++ []
def dkwX1_enter_4 : List UInt8 := [167, 0, 20, 187, 0, 114, 89, 42, 180, 0, 67, 25, 5, 25, 6, 21, 4, 183, 0, 116, 182, 0, 117, 42]
abbrev dktX1_enter_4 : List UInt8 := dkwX1_enter_4 ++ dktX1_enter_5
def dkwX1_enter_3 : List UInt8 := [180, 0, 67, 162, 0, 23, 187, 0, 109, 89, 42, 180, 0, 67, 25, 5, 25, 6, 21, 4, 183, 0, 111]
abbrev dktX1_enter_3 : List UInt8 := dkwX1_enter_3 ++ dktX1_enter_4
def dkwX1_enter_2 : List UInt8 := [4, 167, 0, 4, 3, 184, 0, 64, 21, 4, 184, 0, 101, 42, 4, 182, 0, 105, 184, 0, 74, 42, 27, 42]
abbrev dktX1_enter_2 : List UInt8 := dkwX1_enter_2 ++ dktX1_enter_3
def dkwX1_enter_1 : List UInt8 := [58, 6, 27, 3, 42, 180, 0, 67, 16, 12, 184, 0, 95, 184, 0, 59, 153, 0, 12, 28, 29, 159, 0, 7]
abbrev dktX1_enter_1 : List UInt8 := dkwX1_enter_1 ++ dktX1_enter_2
def dkwX1_enter_0 : List UInt8 := [42, 180, 0, 10, 28, 184, 0, 70, 192, 0, 29, 58, 5, 42, 180, 0, 10, 29, 184, 0, 70, 192, 0, 29]
abbrev dktX1_enter_0 : List UInt8 := dkwX1_enter_0 ++ dktX1_enter_1
theorem dksX1_enter_0 : cX1_enter.data.toList.drop 0 = dktX1_enter_0 := by decide +kernel
theorem dksX1_enter_1 : cX1_enter.data.toList.drop 24 = dktX1_enter_1 := dk_seg dksX1_enter_0 24 rfl rfl
theorem dksX1_enter_2 : cX1_enter.data.toList.drop 48 = dktX1_enter_2 := dk_seg dksX1_enter_1 24 rfl rfl
theorem dksX1_enter_3 : cX1_enter.data.toList.drop 72 = dktX1_enter_3 := dk_seg dksX1_enter_2 24 rfl rfl
theorem dksX1_enter_4 : cX1_enter.data.toList.drop 95 = dktX1_enter_4 := dk_seg dksX1_enter_3 23 rfl rfl
theorem dksX1_enter_5 : cX1_enter.data.toList.drop 119 = dktX1_enter_5 := dk_seg dksX1_enter_4 24 rfl rfl
theorem dX1_enter_0 : decode cX1_enter 0 = .ok (.aload_n 0, 1) := dk_42 (dk_at dksX1_enter_0 0 rfl rfl)
theorem dX1_enter_1 : decode cX1_enter 1 = .ok (.getfield 10, 3) := dk_180 0 10 (dk_at dksX1_enter_0 1 rfl rfl)
theorem dX1_enter_4 : decode cX1_enter 4 = .ok (.iload_n 2, 1) := dk_28 (dk_at dksX1_enter_0 4 rfl rfl)
theorem dX1_enter_5 : decode cX1_enter 5 = .ok (.invokestatic 70, 3) := dk_184 0 70 (dk_at dksX1_enter_0 5 rfl rfl)
theorem dX1_enter_8 : decode cX1_enter 8 = .ok (.checkcast 29, 3) := dk_192 0 29 (dk_at dksX1_enter_0 8 rfl rfl)
theorem dX1_enter_11 : decode cX1_enter 11 = .ok (.astore 5, 2) := dk_58 5 (dk_at dksX1_enter_0 11 rfl rfl)
theorem dX1_enter_13 : decode cX1_enter 13 = .ok (.aload_n 0, 1) := dk_42 (dk_at dksX1_enter_0 13 rfl rfl)
theorem dX1_enter_14 : decode cX1_enter 14 = .ok (.getfield 10, 3) := dk_180 0 10 (dk_at dksX1_enter_0 14 rfl rfl)
theorem dX1_enter_17 : decode cX1_enter 17 = .ok (.iload_n 3, 1) := dk_29 (dk_at dksX1_enter_0 17 rfl rfl)
theorem dX1_enter_18 : decode cX1_enter 18 = .ok (.invokestatic 70, 3) := dk_184 0 70 (dk_at dksX1_enter_0 18 rfl rfl)
theorem dX1_enter_21 : decode cX1_enter 21 = .ok (.checkcast 29, 3) := dk_192 0 29 (dk_at dksX1_enter_0 21 rfl rfl)
theorem dX1_enter_24 : decode cX1_enter 24 = .ok (.astore 6, 2) := dk_58 6 (dk_at dksX1_enter_1 0 rfl rfl)
theorem dX1_enter_26 : decode cX1_enter 26 = .ok (.iload_n 1, 1) := dk_27 (dk_at dksX1_enter_1 2 rfl rfl)
theorem dX1_enter_27 : decode cX1_enter 27 = .ok (.iconst 0, 1) := dk_3 (dk_at dksX1_enter_1 3 rfl rfl)
theorem dX1_enter_28 : decode cX1_enter 28 = .ok (.aload_n 0, 1) := dk_42 (dk_at dksX1_enter_1 4 rfl rfl)
theorem dX1_enter_29 : decode cX1_enter 29 = .ok (.getfield 67, 3) := dk_180 0 67 (dk_at dksX1_enter_1 5 rfl rfl)
theorem dX1_enter_32 : decode cX1_enter 32 = .ok (.bipush 12, 2) := dk_16 12 (dk_at dksX1_enter_1 8 rfl rfl)
theorem dX1_enter_34 : decode cX1_enter 34 = .ok (.invokestatic 95, 3) := dk_184 0 95 (dk_at dksX1_enter_1 10 rfl rfl)
theorem dX1_enter_37 : decode cX1_enter 37 = .ok (.invokestatic 59, 3) := dk_184 0 59 (dk_at dksX1_enter_1 13 rfl rfl)
theorem dX1_enter_40 : decode cX1_enter 40 = .ok (.ifCond .eq 12, 3) := dk_153 0 12 (dk_at dksX1_enter_1 16 rfl rfl)
theorem dX1_enter_43 : decode cX1_enter 43 = .ok (.iload_n 2, 1) := dk_28 (dk_at dksX1_enter_1 19 rfl rfl)
theorem dX1_enter_44 : decode cX1_enter 44 = .ok (.iload_n 3, 1) := dk_29 (dk_at dksX1_enter_1 20 rfl rfl)
theorem dX1_enter_45 : decode cX1_enter 45 = .ok (.if_icmp .eq 7, 3) := dk_159 0 7 (dk_at dksX1_enter_1 21 rfl rfl)
theorem dX1_enter_48 : decode cX1_enter 48 = .ok (.iconst 1, 1) := dk_4 (dk_at dksX1_enter_2 0 rfl rfl)
theorem dX1_enter_49 : decode cX1_enter 49 = .ok (.goto 4, 3) := dk_167 0 4 (dk_at dksX1_enter_2 1 rfl rfl)
theorem dX1_enter_52 : decode cX1_enter 52 = .ok (.iconst 0, 1) := dk_3 (dk_at dksX1_enter_2 4 rfl rfl)
theorem dX1_enter_53 : decode cX1_enter 53 = .ok (.invokestatic 64, 3) := dk_184 0 64 (dk_at dksX1_enter_2 5 rfl rfl)
theorem dX1_enter_56 : decode cX1_enter 56 = .ok (.iload 4, 2) := dk_21 4 (dk_at dksX1_enter_2 8 rfl rfl)
theorem dX1_enter_58 : decode cX1_enter 58 = .ok (.invokestatic 101, 3) := dk_184 0 101 (dk_at dksX1_enter_2 10 rfl rfl)
theorem dX1_enter_61 : decode cX1_enter 61 = .ok (.aload_n 0, 1) := dk_42 (dk_at dksX1_enter_2 13 rfl rfl)
theorem dX1_enter_62 : decode cX1_enter 62 = .ok (.iconst 1, 1) := dk_4 (dk_at dksX1_enter_2 14 rfl rfl)
theorem dX1_enter_63 : decode cX1_enter 63 = .ok (.invokevirtual 105, 3) := dk_182 0 105 (dk_at dksX1_enter_2 15 rfl rfl)
theorem dX1_enter_66 : decode cX1_enter 66 = .ok (.invokestatic 74, 3) := dk_184 0 74 (dk_at dksX1_enter_2 18 rfl rfl)
theorem dX1_enter_69 : decode cX1_enter 69 = .ok (.aload_n 0, 1) := dk_42 (dk_at dksX1_enter_2 21 rfl rfl)
theorem dX1_enter_70 : decode cX1_enter 70 = .ok (.iload_n 1, 1) := dk_27 (dk_at dksX1_enter_2 22 rfl rfl)
theorem dX1_enter_71 : decode cX1_enter 71 = .ok (.aload_n 0, 1) := dk_42 (dk_at dksX1_enter_2 23 rfl rfl)
theorem dX1_enter_72 : decode cX1_enter 72 = .ok (.getfield 67, 3) := dk_180 0 67 (dk_at dksX1_enter_3 0 rfl rfl)
theorem dX1_enter_75 : decode cX1_enter 75 = .ok (.if_icmp .ge 23, 3) := dk_162 0 23 (dk_at dksX1_enter_3 3 rfl rfl)
theorem dX1_enter_78 : decode cX1_enter 78 = .ok (.new 109, 3) := dk_187 0 109 (dk_at dksX1_enter_3 6 rfl rfl)
theorem dX1_enter_81 : decode cX1_enter 81 = .ok (.dup, 1) := dk_89 (dk_at dksX1_enter_3 9 rfl rfl)
theorem dX1_enter_82 : decode cX1_enter 82 = .ok (.aload_n 0, 1) := dk_42 (dk_at dksX1_enter_3 10 rfl rfl)
theorem dX1_enter_83 : decode cX1_enter 83 = .ok (.getfield 67, 3) := dk_180 0 67 (dk_at dksX1_enter_3 11 rfl rfl)
theorem dX1_enter_86 : decode cX1_enter 86 = .ok (.aload 5, 2) := dk_25 5 (dk_at dksX1_enter_3 14 rfl rfl)
theorem dX1_enter_88 : decode cX1_enter 88 = .ok (.aload 6, 2) := dk_25 6 (dk_at dksX1_enter_3 16 rfl rfl)
theorem dX1_enter_90 : decode cX1_enter 90 = .ok (.iload 4, 2) := dk_21 4 (dk_at dksX1_enter_3 18 rfl rfl)
theorem dX1_enter_92 : decode cX1_enter 92 = .ok (.invokespecial 111, 3) := dk_183 0 111 (dk_at dksX1_enter_3 20 rfl rfl)
theorem dX1_enter_95 : decode cX1_enter 95 = .ok (.goto 20, 3) := dk_167 0 20 (dk_at dksX1_enter_4 0 rfl rfl)
theorem dX1_enter_98 : decode cX1_enter 98 = .ok (.new 114, 3) := dk_187 0 114 (dk_at dksX1_enter_4 3 rfl rfl)
theorem dX1_enter_101 : decode cX1_enter 101 = .ok (.dup, 1) := dk_89 (dk_at dksX1_enter_4 6 rfl rfl)
theorem dX1_enter_102 : decode cX1_enter 102 = .ok (.aload_n 0, 1) := dk_42 (dk_at dksX1_enter_4 7 rfl rfl)
theorem dX1_enter_103 : decode cX1_enter 103 = .ok (.getfield 67, 3) := dk_180 0 67 (dk_at dksX1_enter_4 8 rfl rfl)
theorem dX1_enter_106 : decode cX1_enter 106 = .ok (.aload 5, 2) := dk_25 5 (dk_at dksX1_enter_4 11 rfl rfl)
theorem dX1_enter_108 : decode cX1_enter 108 = .ok (.aload 6, 2) := dk_25 6 (dk_at dksX1_enter_4 13 rfl rfl)
theorem dX1_enter_110 : decode cX1_enter 110 = .ok (.iload 4, 2) := dk_21 4 (dk_at dksX1_enter_4 15 rfl rfl)
theorem dX1_enter_112 : decode cX1_enter 112 = .ok (.invokespecial 116, 3) := dk_183 0 116 (dk_at dksX1_enter_4 17 rfl rfl)
theorem dX1_enter_115 : decode cX1_enter 115 = .ok (.invokevirtual 117, 3) := dk_182 0 117 (dk_at dksX1_enter_4 20 rfl rfl)
theorem dX1_enter_118 : decode cX1_enter 118 = .ok (.aload_n 0, 1) := dk_42 (dk_at dksX1_enter_4 23 rfl rfl)
theorem dX1_enter_119 : decode cX1_enter 119 = .ok (.getfield 16, 3) := dk_180 0 16 (dk_at dksX1_enter_5 0 rfl rfl)
theorem dX1_enter_122 : decode cX1_enter 122 = .ok (.invokevirtual 47, 3) := dk_182 0 47 (dk_at dksX1_enter_5 3 rfl rfl)
theorem dX1_enter_125 : decode cX1_enter 125 = .ok (.iconst 1, 1) := dk_4 (dk_at dksX1_enter_5 6 rfl rfl)
theorem dX1_enter_126 : decode cX1_enter 126 = .ok (.isub, 1) := dk_100 (dk_at dksX1_enter_5 7 rfl rfl)
theorem dX1_enter_127 : decode cX1_enter 127 = .ok (.ireturn, 1) := dk_172 (dk_at dksX1_enter_5 8 rfl rfl)
abbrev cX1_isBetween : ByteArray := prog_1_method_5_code
def yX1_isBetween : MethodName := ⟨RX1, "isBetween", "(III)Z"⟩
def dkwX1_isBetween_0 : List UInt8 := [26, 27, 161, 0, 12, 26, 28, 163, 0, 7, 4, 167, 0, 4, 3, 172]
abbrev dktX1_isBetween_0 : List UInt8 := dkwX1_isBetween_0 ++ []
theorem dksX1_isBetween_0 : cX1_isBetween.data.toList.drop 0 = dktX1_isBetween_0 := by decide +kernel
theorem dX1_isBetween_0 : decode cX1_isBetween 0 = .ok (.iload_n 0, 1) := dk_26 (dk_at dksX1_isBetween_0 0 rfl rfl)
theorem dX1_isBetween_1 : decode cX1_isBetween 1 = .ok (.iload_n 1, 1) := dk_27 (dk_at dksX1_isBetween_0 1 rfl rfl)
theorem dX1_isBetween_2 : decode cX1_isBetween 2 = .ok (.if_icmp .lt 12, 3) := dk_161 0 12 (dk_at dksX1_isBetween_0 2 rfl rfl)
theorem dX1_isBetween_5 : decode cX1_isBetween 5 = .ok (.iload_n 0, 1) := dk_26 (dk_at dksX1_isBetween_0 5 rfl rfl)
theorem dX1_isBetween_6 : decode cX1_isBetween 6 = .ok (.iload_n 2, 1) := dk_28 (dk_at dksX1_isBetween_0 6 rfl rfl)
theorem dX1_isBetween_7 : decode cX1_isBetween 7 = .ok (.if_icmp .gt 7, 3) := dk_163 0 7 (dk_at dksX1_isBetween_0 7 rfl rfl)
theorem dX1_isBetween_10 : decode cX1_isBetween 10 = .ok (.iconst 1, 1) := dk_4 (dk_at dksX1_isBetween_0 10 rfl rfl)
theorem dX1_isBetween_11 : decode cX1_isBetween 11 = .ok (.goto 4, 3) := dk_167 0 4 (dk_at dksX1_isBetween_0 11 rfl rfl)
theorem dX1_isBetween_14 : decode cX1_isBetween 14 = .ok (.iconst 0, 1) := dk_3 (dk_at dksX1_isBetween_0 14 rfl rfl)
theorem dX1_isBetween_15 : decode cX1_isBetween 15 = .ok (.ireturn, 1) := dk_172 (dk_at dksX1_isBetween_0 15 rfl rfl)
abbrev cX1_check : ByteArray := prog_1_method_3_code
def yX1_check : MethodName := ⟨RX1, "check", "(Z)V"⟩
def dkwX1_check_0 : List UInt8 := [26, 154, 0, 11, 187, 0, 41, 89, 183, 0, 43, 191, 177]
abbrev dktX1_check_0 : List UInt8 := dkwX1_check_0 ++ []
theorem dksX1_check_0 : cX1_check.data.toList.drop 0 = dktX1_check_0 := by decide +kernel
theorem dX1_check_0 : decode cX1_check 0 = .ok (.iload_n 0, 1) := dk_26 (dk_at dksX1_check_0 0 rfl rfl)
theorem dX1_check_1 : decode cX1_check 1 = .ok (.ifCond .ne 11, 3) := dk_154 0 11 (dk_at dksX1_check_0 1 rfl rfl)
theorem dX1_check_4 : decode cX1_check 4 = .ok (.new 41, 3) := dk_187 0 41 (dk_at dksX1_check_0 4 rfl rfl)
theorem dX1_check_7 : decode cX1_check 7 = .ok (.dup, 1) := dk_89 (dk_at dksX1_check_0 7 rfl rfl)
theorem dX1_check_8 : decode cX1_check 8 = .ok (.invokespecial 43, 3) := dk_183 0 43 (dk_at dksX1_check_0 8 rfl rfl)
theorem dX1_check_11 : decode cX1_check 11 = .ok (.athrow, 1) := dk_191 (dk_at dksX1_check_0 11 rfl rfl)
theorem dX1_check_12 : decode cX1_check 12 = .ok (.return_, 1) := dk_177 (dk_at dksX1_check_0 12 rfl rfl)
abbrev cX1_checkAmount : ByteArray := prog_1_method_8_code
def yX1_checkAmount : MethodName := ⟨RX1, "checkAmount", "(I)V"⟩
def dkwX1_checkAmount_0 : List UInt8 := [26, 4, 18, 63, 184, 0, 59, 184, 0, 64, 177]
abbrev dktX1_checkAmount_0 : List UInt8 := dkwX1_checkAmount_0 ++ []
theorem dksX1_checkAmount_0 : cX1_checkAmount.data.toList.drop 0 = dktX1_checkAmount_0 := by decide +kernel
theorem dX1_checkAmount_0 : decode cX1_checkAmount 0 = .ok (.iload_n 0, 1) := dk_26 (dk_at dksX1_checkAmount_0 0 rfl rfl)
theorem dX1_checkAmount_1 : decode cX1_checkAmount 1 = .ok (.iconst 1, 1) := dk_4 (dk_at dksX1_checkAmount_0 1 rfl rfl)
theorem dX1_checkAmount_2 : decode cX1_checkAmount 2 = .ok (.ldc 63, 2) := dk_18 63 (dk_at dksX1_checkAmount_0 2 rfl rfl)
theorem dX1_checkAmount_4 : decode cX1_checkAmount 4 = .ok (.invokestatic 59, 3) := dk_184 0 59 (dk_at dksX1_checkAmount_0 4 rfl rfl)
theorem dX1_checkAmount_7 : decode cX1_checkAmount 7 = .ok (.invokestatic 64, 3) := dk_184 0 64 (dk_at dksX1_checkAmount_0 7 rfl rfl)
theorem dX1_checkAmount_10 : decode cX1_checkAmount 10 = .ok (.return_, 1) := dk_177 (dk_at dksX1_checkAmount_0 10 rfl rfl)
abbrev cX1_canEnter : ByteArray := prog_1_method_9_code
def yX1_canEnter : MethodName := ⟨RX1, "canEnter", "(I)Z"⟩
def dkwX1_canEnter_1 : List UInt8 := [167, 0, 4, 3, 172]
abbrev dktX1_canEnter_1 : List UInt8 := dkwX1_canEnter_1 ++ []
def dkwX1_canEnter_0 : List UInt8 := [42, 180, 0, 67, 16, 13, 162, 0, 21, 42, 180, 0, 16, 182, 0, 47, 27, 96, 16, 120, 163, 0, 7, 4]
abbrev dktX1_canEnter_0 : List UInt8 := dkwX1_canEnter_0 ++ dktX1_canEnter_1
theorem dksX1_canEnter_0 : cX1_canEnter.data.toList.drop 0 = dktX1_canEnter_0 := by decide +kernel
theorem dksX1_canEnter_1 : cX1_canEnter.data.toList.drop 24 = dktX1_canEnter_1 := dk_seg dksX1_canEnter_0 24 rfl rfl
theorem dX1_canEnter_0 : decode cX1_canEnter 0 = .ok (.aload_n 0, 1) := dk_42 (dk_at dksX1_canEnter_0 0 rfl rfl)
theorem dX1_canEnter_1 : decode cX1_canEnter 1 = .ok (.getfield 67, 3) := dk_180 0 67 (dk_at dksX1_canEnter_0 1 rfl rfl)
theorem dX1_canEnter_4 : decode cX1_canEnter 4 = .ok (.bipush 13, 2) := dk_16 13 (dk_at dksX1_canEnter_0 4 rfl rfl)
theorem dX1_canEnter_6 : decode cX1_canEnter 6 = .ok (.if_icmp .ge 21, 3) := dk_162 0 21 (dk_at dksX1_canEnter_0 6 rfl rfl)
theorem dX1_canEnter_9 : decode cX1_canEnter 9 = .ok (.aload_n 0, 1) := dk_42 (dk_at dksX1_canEnter_0 9 rfl rfl)
theorem dX1_canEnter_10 : decode cX1_canEnter 10 = .ok (.getfield 16, 3) := dk_180 0 16 (dk_at dksX1_canEnter_0 10 rfl rfl)
theorem dX1_canEnter_13 : decode cX1_canEnter 13 = .ok (.invokevirtual 47, 3) := dk_182 0 47 (dk_at dksX1_canEnter_0 13 rfl rfl)
theorem dX1_canEnter_16 : decode cX1_canEnter 16 = .ok (.iload_n 1, 1) := dk_27 (dk_at dksX1_canEnter_0 16 rfl rfl)
theorem dX1_canEnter_17 : decode cX1_canEnter 17 = .ok (.iadd, 1) := dk_96 (dk_at dksX1_canEnter_0 17 rfl rfl)
theorem dX1_canEnter_18 : decode cX1_canEnter 18 = .ok (.bipush 120, 2) := dk_16 120 (dk_at dksX1_canEnter_0 18 rfl rfl)
theorem dX1_canEnter_20 : decode cX1_canEnter 20 = .ok (.if_icmp .gt 7, 3) := dk_163 0 7 (dk_at dksX1_canEnter_0 20 rfl rfl)
theorem dX1_canEnter_23 : decode cX1_canEnter 23 = .ok (.iconst 1, 1) := dk_4 (dk_at dksX1_canEnter_0 23 rfl rfl)
theorem dX1_canEnter_24 : decode cX1_canEnter 24 = .ok (.goto 4, 3) := dk_167 0 4 (dk_at dksX1_canEnter_1 0 rfl rfl)
theorem dX1_canEnter_27 : decode cX1_canEnter 27 = .ok (.iconst 0, 1) := dk_3 (dk_at dksX1_canEnter_1 3 rfl rfl)
theorem dX1_canEnter_28 : decode cX1_canEnter 28 = .ok (.ireturn, 1) := dk_172 (dk_at dksX1_canEnter_1 4 rfl rfl)
abbrev cX1_add : ByteArray := prog_1_method_11_code
def yX1_add : MethodName := ⟨RX1, "add", "(LTownPurse$Entry;)V"⟩
def dkwX1_add_2 : List UInt8 := [185, 0, 86, 1, 0, 116, 182, 0, 89, 177]
abbrev dktX1_add_2 : List UInt8 := dkwX1_add_2 ++ []
def dkwX1_add_1 : List UInt8 := [185, 0, 86, 1, 0, 182, 0, 89, 43, 185, 0, 92, 1, 0, 43, 185, 0, 83, 1, 0, 43]
abbrev dktX1_add_1 : List UInt8 := dkwX1_add_1 ++ dktX1_add_2
def dkwX1_add_0 : List UInt8 := [42, 180, 0, 16, 43, 182, 0, 34, 87, 43, 185, 0, 77, 1, 0, 43, 185, 0, 83, 1, 0, 43]
abbrev dktX1_add_0 : List UInt8 := dkwX1_add_0 ++ dktX1_add_1
theorem dksX1_add_0 : cX1_add.data.toList.drop 0 = dktX1_add_0 := by decide +kernel
theorem dksX1_add_1 : cX1_add.data.toList.drop 22 = dktX1_add_1 := dk_seg dksX1_add_0 22 rfl rfl
theorem dksX1_add_2 : cX1_add.data.toList.drop 43 = dktX1_add_2 := dk_seg dksX1_add_1 21 rfl rfl
theorem dX1_add_0 : decode cX1_add 0 = .ok (.aload_n 0, 1) := dk_42 (dk_at dksX1_add_0 0 rfl rfl)
theorem dX1_add_1 : decode cX1_add 1 = .ok (.getfield 16, 3) := dk_180 0 16 (dk_at dksX1_add_0 1 rfl rfl)
theorem dX1_add_4 : decode cX1_add 4 = .ok (.aload_n 1, 1) := dk_43 (dk_at dksX1_add_0 4 rfl rfl)
theorem dX1_add_5 : decode cX1_add 5 = .ok (.invokevirtual 34, 3) := dk_182 0 34 (dk_at dksX1_add_0 5 rfl rfl)
theorem dX1_add_8 : decode cX1_add 8 = .ok (.pop, 1) := dk_87 (dk_at dksX1_add_0 8 rfl rfl)
theorem dX1_add_9 : decode cX1_add 9 = .ok (.aload_n 1, 1) := dk_43 (dk_at dksX1_add_0 9 rfl rfl)
theorem dX1_add_10 : decode cX1_add 10 = .ok (.invokeinterface 77 1, 5) := by decide +kernel
theorem dX1_add_15 : decode cX1_add 15 = .ok (.aload_n 1, 1) := dk_43 (dk_at dksX1_add_0 15 rfl rfl)
theorem dX1_add_16 : decode cX1_add 16 = .ok (.invokeinterface 83 1, 5) := by decide +kernel
theorem dX1_add_21 : decode cX1_add 21 = .ok (.aload_n 1, 1) := dk_43 (dk_at dksX1_add_0 21 rfl rfl)
theorem dX1_add_22 : decode cX1_add 22 = .ok (.invokeinterface 86 1, 5) := by decide +kernel
theorem dX1_add_27 : decode cX1_add 27 = .ok (.invokevirtual 89, 3) := dk_182 0 89 (dk_at dksX1_add_1 5 rfl rfl)
theorem dX1_add_30 : decode cX1_add 30 = .ok (.aload_n 1, 1) := dk_43 (dk_at dksX1_add_1 8 rfl rfl)
theorem dX1_add_31 : decode cX1_add 31 = .ok (.invokeinterface 92 1, 5) := by decide +kernel
theorem dX1_add_36 : decode cX1_add 36 = .ok (.aload_n 1, 1) := dk_43 (dk_at dksX1_add_1 14 rfl rfl)
theorem dX1_add_37 : decode cX1_add 37 = .ok (.invokeinterface 83 1, 5) := by decide +kernel
theorem dX1_add_42 : decode cX1_add 42 = .ok (.aload_n 1, 1) := dk_43 (dk_at dksX1_add_1 20 rfl rfl)
theorem dX1_add_43 : decode cX1_add 43 = .ok (.invokeinterface 86 1, 5) := by decide +kernel
theorem dX1_add_48 : decode cX1_add 48 = .ok (.ineg, 1) := dk_116 (dk_at dksX1_add_2 5 rfl rfl)
theorem dX1_add_49 : decode cX1_add 49 = .ok (.invokevirtual 89, 3) := dk_182 0 89 (dk_at dksX1_add_2 6 rfl rfl)
theorem dX1_add_52 : decode cX1_add 52 = .ok (.return_, 1) := dk_177 (dk_at dksX1_add_2 9 rfl rfl)
abbrev cX1_close : ByteArray := prog_1_method_13_code
def yX1_close : MethodName := ⟨RX1, "close", "()I"⟩
def dkwX1_close_1 : List UInt8 := [181, 0, 67, 42, 180, 0, 67, 172]
abbrev dktX1_close_1 : List UInt8 := dkwX1_close_1 ++ []
def dkwX1_close_0 : List UInt8 := [42, 180, 0, 67, 16, 13, 162, 0, 7, 4, 167, 0, 4, 3, 184, 0, 74, 42, 89, 180, 0, 67, 4, 96]
abbrev dktX1_close_0 : List UInt8 := dkwX1_close_0 ++ dktX1_close_1
theorem dksX1_close_0 : cX1_close.data.toList.drop 0 = dktX1_close_0 := by decide +kernel
theorem dksX1_close_1 : cX1_close.data.toList.drop 24 = dktX1_close_1 := dk_seg dksX1_close_0 24 rfl rfl
theorem dX1_close_0 : decode cX1_close 0 = .ok (.aload_n 0, 1) := dk_42 (dk_at dksX1_close_0 0 rfl rfl)
theorem dX1_close_1 : decode cX1_close 1 = .ok (.getfield 67, 3) := dk_180 0 67 (dk_at dksX1_close_0 1 rfl rfl)
theorem dX1_close_4 : decode cX1_close 4 = .ok (.bipush 13, 2) := dk_16 13 (dk_at dksX1_close_0 4 rfl rfl)
theorem dX1_close_6 : decode cX1_close 6 = .ok (.if_icmp .ge 7, 3) := dk_162 0 7 (dk_at dksX1_close_0 6 rfl rfl)
theorem dX1_close_9 : decode cX1_close 9 = .ok (.iconst 1, 1) := dk_4 (dk_at dksX1_close_0 9 rfl rfl)
theorem dX1_close_10 : decode cX1_close 10 = .ok (.goto 4, 3) := dk_167 0 4 (dk_at dksX1_close_0 10 rfl rfl)
theorem dX1_close_13 : decode cX1_close 13 = .ok (.iconst 0, 1) := dk_3 (dk_at dksX1_close_0 13 rfl rfl)
theorem dX1_close_14 : decode cX1_close 14 = .ok (.invokestatic 74, 3) := dk_184 0 74 (dk_at dksX1_close_0 14 rfl rfl)
theorem dX1_close_17 : decode cX1_close 17 = .ok (.aload_n 0, 1) := dk_42 (dk_at dksX1_close_0 17 rfl rfl)
theorem dX1_close_18 : decode cX1_close 18 = .ok (.dup, 1) := dk_89 (dk_at dksX1_close_0 18 rfl rfl)
theorem dX1_close_19 : decode cX1_close 19 = .ok (.getfield 67, 3) := dk_180 0 67 (dk_at dksX1_close_0 19 rfl rfl)
theorem dX1_close_22 : decode cX1_close 22 = .ok (.iconst 1, 1) := dk_4 (dk_at dksX1_close_0 22 rfl rfl)
theorem dX1_close_23 : decode cX1_close 23 = .ok (.iadd, 1) := dk_96 (dk_at dksX1_close_0 23 rfl rfl)
theorem dX1_close_24 : decode cX1_close 24 = .ok (.putfield 67, 3) := dk_181 0 67 (dk_at dksX1_close_1 0 rfl rfl)
theorem dX1_close_27 : decode cX1_close 27 = .ok (.aload_n 0, 1) := dk_42 (dk_at dksX1_close_1 3 rfl rfl)
theorem dX1_close_28 : decode cX1_close 28 = .ok (.getfield 67, 3) := dk_180 0 67 (dk_at dksX1_close_1 4 rfl rfl)
theorem dX1_close_31 : decode cX1_close 31 = .ok (.ireturn, 1) := dk_172 (dk_at dksX1_close_1 7 rfl rfl)
abbrev cX1_periodOf : ByteArray := prog_1_method_16_code
def yX1_periodOf : MethodName := ⟨RX1, "periodOf", "(I)I"⟩
def dkwX1_periodOf_0 : List UInt8 := [42, 180, 0, 16, 27, 184, 0, 70, 192, 0, 78, 185, 0, 83, 1, 0, 172]
abbrev dktX1_periodOf_0 : List UInt8 := dkwX1_periodOf_0 ++ []
theorem dksX1_periodOf_0 : cX1_periodOf.data.toList.drop 0 = dktX1_periodOf_0 := by decide +kernel
theorem dX1_periodOf_0 : decode cX1_periodOf 0 = .ok (.aload_n 0, 1) := dk_42 (dk_at dksX1_periodOf_0 0 rfl rfl)
theorem dX1_periodOf_1 : decode cX1_periodOf 1 = .ok (.getfield 16, 3) := dk_180 0 16 (dk_at dksX1_periodOf_0 1 rfl rfl)
theorem dX1_periodOf_4 : decode cX1_periodOf 4 = .ok (.iload_n 1, 1) := dk_27 (dk_at dksX1_periodOf_0 4 rfl rfl)
theorem dX1_periodOf_5 : decode cX1_periodOf 5 = .ok (.invokestatic 70, 3) := dk_184 0 70 (dk_at dksX1_periodOf_0 5 rfl rfl)
theorem dX1_periodOf_8 : decode cX1_periodOf 8 = .ok (.checkcast 78, 3) := dk_192 0 78 (dk_at dksX1_periodOf_0 8 rfl rfl)
theorem dX1_periodOf_11 : decode cX1_periodOf 11 = .ok (.invokeinterface 83 1, 5) := by decide +kernel
theorem dX1_periodOf_16 : decode cX1_periodOf 16 = .ok (.ireturn, 1) := dk_172 (dk_at dksX1_periodOf_0 16 rfl rfl)
abbrev cX1_isLate : ByteArray := prog_1_method_17_code
def yX1_isLate : MethodName := ⟨RX1, "isLate", "(I)Z"⟩
def dkwX1_isLate_0 : List UInt8 := [42, 180, 0, 16, 27, 184, 0, 70, 192, 0, 78, 185, 0, 120, 1, 0, 172]
abbrev dktX1_isLate_0 : List UInt8 := dkwX1_isLate_0 ++ []
theorem dksX1_isLate_0 : cX1_isLate.data.toList.drop 0 = dktX1_isLate_0 := by decide +kernel
theorem dX1_isLate_0 : decode cX1_isLate 0 = .ok (.aload_n 0, 1) := dk_42 (dk_at dksX1_isLate_0 0 rfl rfl)
theorem dX1_isLate_1 : decode cX1_isLate 1 = .ok (.getfield 16, 3) := dk_180 0 16 (dk_at dksX1_isLate_0 1 rfl rfl)
theorem dX1_isLate_4 : decode cX1_isLate 4 = .ok (.iload_n 1, 1) := dk_27 (dk_at dksX1_isLate_0 4 rfl rfl)
theorem dX1_isLate_5 : decode cX1_isLate 5 = .ok (.invokestatic 70, 3) := dk_184 0 70 (dk_at dksX1_isLate_0 5 rfl rfl)
theorem dX1_isLate_8 : decode cX1_isLate 8 = .ok (.checkcast 78, 3) := dk_192 0 78 (dk_at dksX1_isLate_0 8 rfl rfl)
theorem dX1_isLate_11 : decode cX1_isLate 11 = .ok (.invokeinterface 120 1, 5) := by decide +kernel
theorem dX1_isLate_16 : decode cX1_isLate 16 = .ok (.ireturn, 1) := dk_172 (dk_at dksX1_isLate_0 16 rfl rfl)
abbrev cX1_balance : ByteArray := prog_1_method_19_code
def yX1_balance : MethodName := ⟨RX1, "balance", "(II)I"⟩
def dkwX1_balance_2 : List UInt8 := [172]
abbrev dktX1_balance_2 : List UInt8 := dkwX1_balance_2 ++ []
def dkwX1_balance_1 : List UInt8 := [28, 163, 0, 21, 21, 4, 45, 180, 0, 127, 21, 5, 46, 96, 54, 4, 132, 5, 1, 167, 255, 235, 21, 4]
abbrev dktX1_balance_1 : List UInt8 := dkwX1_balance_1 ++ dktX1_balance_2
def dkwX1_balance_0 : List UInt8 := [42, 180, 0, 10, 27, 184, 0, 70, 192, 0, 29, 78, 28, 184, 0, 124, 3, 54, 4, 3, 54, 5, 21, 5]
abbrev dktX1_balance_0 : List UInt8 := dkwX1_balance_0 ++ dktX1_balance_1
theorem dksX1_balance_0 : cX1_balance.data.toList.drop 0 = dktX1_balance_0 := by decide +kernel
theorem dksX1_balance_1 : cX1_balance.data.toList.drop 24 = dktX1_balance_1 := dk_seg dksX1_balance_0 24 rfl rfl
theorem dksX1_balance_2 : cX1_balance.data.toList.drop 48 = dktX1_balance_2 := dk_seg dksX1_balance_1 24 rfl rfl
theorem dX1_balance_0 : decode cX1_balance 0 = .ok (.aload_n 0, 1) := dk_42 (dk_at dksX1_balance_0 0 rfl rfl)
theorem dX1_balance_1 : decode cX1_balance 1 = .ok (.getfield 10, 3) := dk_180 0 10 (dk_at dksX1_balance_0 1 rfl rfl)
theorem dX1_balance_4 : decode cX1_balance 4 = .ok (.iload_n 1, 1) := dk_27 (dk_at dksX1_balance_0 4 rfl rfl)
theorem dX1_balance_5 : decode cX1_balance 5 = .ok (.invokestatic 70, 3) := dk_184 0 70 (dk_at dksX1_balance_0 5 rfl rfl)
theorem dX1_balance_8 : decode cX1_balance 8 = .ok (.checkcast 29, 3) := dk_192 0 29 (dk_at dksX1_balance_0 8 rfl rfl)
theorem dX1_balance_11 : decode cX1_balance 11 = .ok (.astore_n 3, 1) := dk_78 (dk_at dksX1_balance_0 11 rfl rfl)
theorem dX1_balance_12 : decode cX1_balance 12 = .ok (.iload_n 2, 1) := dk_28 (dk_at dksX1_balance_0 12 rfl rfl)
theorem dX1_balance_13 : decode cX1_balance 13 = .ok (.invokestatic 124, 3) := dk_184 0 124 (dk_at dksX1_balance_0 13 rfl rfl)
theorem dX1_balance_16 : decode cX1_balance 16 = .ok (.iconst 0, 1) := dk_3 (dk_at dksX1_balance_0 16 rfl rfl)
theorem dX1_balance_17 : decode cX1_balance 17 = .ok (.istore 4, 2) := dk_54 4 (dk_at dksX1_balance_0 17 rfl rfl)
theorem dX1_balance_19 : decode cX1_balance 19 = .ok (.iconst 0, 1) := dk_3 (dk_at dksX1_balance_0 19 rfl rfl)
theorem dX1_balance_20 : decode cX1_balance 20 = .ok (.istore 5, 2) := dk_54 5 (dk_at dksX1_balance_0 20 rfl rfl)
theorem dX1_balance_22 : decode cX1_balance 22 = .ok (.iload 5, 2) := dk_21 5 (dk_at dksX1_balance_0 22 rfl rfl)
theorem dX1_balance_24 : decode cX1_balance 24 = .ok (.iload_n 2, 1) := dk_28 (dk_at dksX1_balance_1 0 rfl rfl)
theorem dX1_balance_25 : decode cX1_balance 25 = .ok (.if_icmp .gt 21, 3) := dk_163 0 21 (dk_at dksX1_balance_1 1 rfl rfl)
theorem dX1_balance_28 : decode cX1_balance 28 = .ok (.iload 4, 2) := dk_21 4 (dk_at dksX1_balance_1 4 rfl rfl)
theorem dX1_balance_30 : decode cX1_balance 30 = .ok (.aload_n 3, 1) := dk_45 (dk_at dksX1_balance_1 6 rfl rfl)
theorem dX1_balance_31 : decode cX1_balance 31 = .ok (.getfield 127, 3) := dk_180 0 127 (dk_at dksX1_balance_1 7 rfl rfl)
theorem dX1_balance_34 : decode cX1_balance 34 = .ok (.iload 5, 2) := dk_21 5 (dk_at dksX1_balance_1 10 rfl rfl)
theorem dX1_balance_36 : decode cX1_balance 36 = .ok (.iaload, 1) := dk_46 (dk_at dksX1_balance_1 12 rfl rfl)
theorem dX1_balance_37 : decode cX1_balance 37 = .ok (.iadd, 1) := dk_96 (dk_at dksX1_balance_1 13 rfl rfl)
theorem dX1_balance_38 : decode cX1_balance 38 = .ok (.istore 4, 2) := dk_54 4 (dk_at dksX1_balance_1 14 rfl rfl)
theorem dX1_balance_40 : decode cX1_balance 40 = .ok (.iinc 5 1, 3) := dk_132 5 1 (dk_at dksX1_balance_1 16 rfl rfl)
theorem dX1_balance_43 : decode cX1_balance 43 = .ok (.goto (-21), 3) := dk_167 255 235 (dk_at dksX1_balance_1 19 rfl rfl)
theorem dX1_balance_46 : decode cX1_balance 46 = .ok (.iload 4, 2) := dk_21 4 (dk_at dksX1_balance_1 22 rfl rfl)
theorem dX1_balance_48 : decode cX1_balance 48 = .ok (.ireturn, 1) := dk_172 (dk_at dksX1_balance_2 0 rfl rfl)
abbrev cX1_checkPeriod : ByteArray := prog_1_method_18_code
def yX1_checkPeriod : MethodName := ⟨RX1, "checkPeriod", "(I)V"⟩
def dkwX1_checkPeriod_0 : List UInt8 := [26, 3, 16, 12, 184, 0, 59, 184, 0, 64, 177]
abbrev dktX1_checkPeriod_0 : List UInt8 := dkwX1_checkPeriod_0 ++ []
theorem dksX1_checkPeriod_0 : cX1_checkPeriod.data.toList.drop 0 = dktX1_checkPeriod_0 := by decide +kernel
theorem dX1_checkPeriod_0 : decode cX1_checkPeriod 0 = .ok (.iload_n 0, 1) := dk_26 (dk_at dksX1_checkPeriod_0 0 rfl rfl)
theorem dX1_checkPeriod_1 : decode cX1_checkPeriod 1 = .ok (.iconst 0, 1) := dk_3 (dk_at dksX1_checkPeriod_0 1 rfl rfl)
theorem dX1_checkPeriod_2 : decode cX1_checkPeriod 2 = .ok (.bipush 12, 2) := dk_16 12 (dk_at dksX1_checkPeriod_0 2 rfl rfl)
theorem dX1_checkPeriod_4 : decode cX1_checkPeriod 4 = .ok (.invokestatic 59, 3) := dk_184 0 59 (dk_at dksX1_checkPeriod_0 4 rfl rfl)
theorem dX1_checkPeriod_7 : decode cX1_checkPeriod 7 = .ok (.invokestatic 64, 3) := dk_184 0 64 (dk_at dksX1_checkPeriod_0 7 rfl rfl)
theorem dX1_checkPeriod_10 : decode cX1_checkPeriod 10 = .ok (.return_, 1) := dk_177 (dk_at dksX1_checkPeriod_0 10 rfl rfl)
abbrev cX1_balanceByEntries : ByteArray := prog_1_method_20_code
def yX1_balanceByEntries : MethodName := ⟨RX1, "balanceByEntries", "(II)I"⟩
def dkwX1_balanceByEntries_3 : List UInt8 := [3, 96, 54, 4, 132, 5, 1, 167, 255, 199, 21, 4, 172]
abbrev dktX1_balanceByEntries_3 : List UInt8 := dkwX1_balanceByEntries_3 ++ []
def dkwX1_balanceByEntries_2 : List UInt8 := [21, 4, 25, 6, 185, 0, 83, 1, 0, 28, 163, 0, 14, 25, 6, 45, 185, 0, 131, 2, 0, 167, 0, 4]
abbrev dktX1_balanceByEntries_2 : List UInt8 := dkwX1_balanceByEntries_2 ++ dktX1_balanceByEntries_3
def dkwX1_balanceByEntries_1 : List UInt8 := [42, 180, 0, 16, 182, 0, 47, 162, 0, 51, 42, 180, 0, 16, 21, 5, 182, 0, 55, 192, 0, 78, 58, 6]
abbrev dktX1_balanceByEntries_1 : List UInt8 := dkwX1_balanceByEntries_1 ++ dktX1_balanceByEntries_2
def dkwX1_balanceByEntries_0 : List UInt8 := [42, 180, 0, 10, 27, 184, 0, 70, 192, 0, 29, 78, 28, 184, 0, 124, 3, 54, 4, 3, 54, 5, 21, 5]
abbrev dktX1_balanceByEntries_0 : List UInt8 := dkwX1_balanceByEntries_0 ++ dktX1_balanceByEntries_1
theorem dksX1_balanceByEntries_0 : cX1_balanceByEntries.data.toList.drop 0 = dktX1_balanceByEntries_0 := by decide +kernel
theorem dksX1_balanceByEntries_1 : cX1_balanceByEntries.data.toList.drop 24 = dktX1_balanceByEntries_1 := dk_seg dksX1_balanceByEntries_0 24 rfl rfl
theorem dksX1_balanceByEntries_2 : cX1_balanceByEntries.data.toList.drop 48 = dktX1_balanceByEntries_2 := dk_seg dksX1_balanceByEntries_1 24 rfl rfl
theorem dksX1_balanceByEntries_3 : cX1_balanceByEntries.data.toList.drop 72 = dktX1_balanceByEntries_3 := dk_seg dksX1_balanceByEntries_2 24 rfl rfl
theorem dX1_balanceByEntries_0 : decode cX1_balanceByEntries 0 = .ok (.aload_n 0, 1) := dk_42 (dk_at dksX1_balanceByEntries_0 0 rfl rfl)
theorem dX1_balanceByEntries_1 : decode cX1_balanceByEntries 1 = .ok (.getfield 10, 3) := dk_180 0 10 (dk_at dksX1_balanceByEntries_0 1 rfl rfl)
theorem dX1_balanceByEntries_4 : decode cX1_balanceByEntries 4 = .ok (.iload_n 1, 1) := dk_27 (dk_at dksX1_balanceByEntries_0 4 rfl rfl)
theorem dX1_balanceByEntries_5 : decode cX1_balanceByEntries 5 = .ok (.invokestatic 70, 3) := dk_184 0 70 (dk_at dksX1_balanceByEntries_0 5 rfl rfl)
theorem dX1_balanceByEntries_8 : decode cX1_balanceByEntries 8 = .ok (.checkcast 29, 3) := dk_192 0 29 (dk_at dksX1_balanceByEntries_0 8 rfl rfl)
theorem dX1_balanceByEntries_11 : decode cX1_balanceByEntries 11 = .ok (.astore_n 3, 1) := dk_78 (dk_at dksX1_balanceByEntries_0 11 rfl rfl)
theorem dX1_balanceByEntries_12 : decode cX1_balanceByEntries 12 = .ok (.iload_n 2, 1) := dk_28 (dk_at dksX1_balanceByEntries_0 12 rfl rfl)
theorem dX1_balanceByEntries_13 : decode cX1_balanceByEntries 13 = .ok (.invokestatic 124, 3) := dk_184 0 124 (dk_at dksX1_balanceByEntries_0 13 rfl rfl)
theorem dX1_balanceByEntries_16 : decode cX1_balanceByEntries 16 = .ok (.iconst 0, 1) := dk_3 (dk_at dksX1_balanceByEntries_0 16 rfl rfl)
theorem dX1_balanceByEntries_17 : decode cX1_balanceByEntries 17 = .ok (.istore 4, 2) := dk_54 4 (dk_at dksX1_balanceByEntries_0 17 rfl rfl)
theorem dX1_balanceByEntries_19 : decode cX1_balanceByEntries 19 = .ok (.iconst 0, 1) := dk_3 (dk_at dksX1_balanceByEntries_0 19 rfl rfl)
theorem dX1_balanceByEntries_20 : decode cX1_balanceByEntries 20 = .ok (.istore 5, 2) := dk_54 5 (dk_at dksX1_balanceByEntries_0 20 rfl rfl)
theorem dX1_balanceByEntries_22 : decode cX1_balanceByEntries 22 = .ok (.iload 5, 2) := dk_21 5 (dk_at dksX1_balanceByEntries_0 22 rfl rfl)
theorem dX1_balanceByEntries_24 : decode cX1_balanceByEntries 24 = .ok (.aload_n 0, 1) := dk_42 (dk_at dksX1_balanceByEntries_1 0 rfl rfl)
theorem dX1_balanceByEntries_25 : decode cX1_balanceByEntries 25 = .ok (.getfield 16, 3) := dk_180 0 16 (dk_at dksX1_balanceByEntries_1 1 rfl rfl)
theorem dX1_balanceByEntries_28 : decode cX1_balanceByEntries 28 = .ok (.invokevirtual 47, 3) := dk_182 0 47 (dk_at dksX1_balanceByEntries_1 4 rfl rfl)
theorem dX1_balanceByEntries_31 : decode cX1_balanceByEntries 31 = .ok (.if_icmp .ge 51, 3) := dk_162 0 51 (dk_at dksX1_balanceByEntries_1 7 rfl rfl)
theorem dX1_balanceByEntries_34 : decode cX1_balanceByEntries 34 = .ok (.aload_n 0, 1) := dk_42 (dk_at dksX1_balanceByEntries_1 10 rfl rfl)
theorem dX1_balanceByEntries_35 : decode cX1_balanceByEntries 35 = .ok (.getfield 16, 3) := dk_180 0 16 (dk_at dksX1_balanceByEntries_1 11 rfl rfl)
theorem dX1_balanceByEntries_38 : decode cX1_balanceByEntries 38 = .ok (.iload 5, 2) := dk_21 5 (dk_at dksX1_balanceByEntries_1 14 rfl rfl)
theorem dX1_balanceByEntries_40 : decode cX1_balanceByEntries 40 = .ok (.invokevirtual 55, 3) := dk_182 0 55 (dk_at dksX1_balanceByEntries_1 16 rfl rfl)
theorem dX1_balanceByEntries_43 : decode cX1_balanceByEntries 43 = .ok (.checkcast 78, 3) := dk_192 0 78 (dk_at dksX1_balanceByEntries_1 19 rfl rfl)
theorem dX1_balanceByEntries_46 : decode cX1_balanceByEntries 46 = .ok (.astore 6, 2) := dk_58 6 (dk_at dksX1_balanceByEntries_1 22 rfl rfl)
theorem dX1_balanceByEntries_48 : decode cX1_balanceByEntries 48 = .ok (.iload 4, 2) := dk_21 4 (dk_at dksX1_balanceByEntries_2 0 rfl rfl)
theorem dX1_balanceByEntries_50 : decode cX1_balanceByEntries 50 = .ok (.aload 6, 2) := dk_25 6 (dk_at dksX1_balanceByEntries_2 2 rfl rfl)
theorem dX1_balanceByEntries_52 : decode cX1_balanceByEntries 52 = .ok (.invokeinterface 83 1, 5) := by decide +kernel
theorem dX1_balanceByEntries_57 : decode cX1_balanceByEntries 57 = .ok (.iload_n 2, 1) := dk_28 (dk_at dksX1_balanceByEntries_2 9 rfl rfl)
theorem dX1_balanceByEntries_58 : decode cX1_balanceByEntries 58 = .ok (.if_icmp .gt 14, 3) := dk_163 0 14 (dk_at dksX1_balanceByEntries_2 10 rfl rfl)
theorem dX1_balanceByEntries_61 : decode cX1_balanceByEntries 61 = .ok (.aload 6, 2) := dk_25 6 (dk_at dksX1_balanceByEntries_2 13 rfl rfl)
theorem dX1_balanceByEntries_63 : decode cX1_balanceByEntries 63 = .ok (.aload_n 3, 1) := dk_45 (dk_at dksX1_balanceByEntries_2 15 rfl rfl)
theorem dX1_balanceByEntries_64 : decode cX1_balanceByEntries 64 = .ok (.invokeinterface 131 2, 5) := by decide +kernel
theorem dX1_balanceByEntries_69 : decode cX1_balanceByEntries 69 = .ok (.goto 4, 3) := dk_167 0 4 (dk_at dksX1_balanceByEntries_2 21 rfl rfl)
theorem dX1_balanceByEntries_72 : decode cX1_balanceByEntries 72 = .ok (.iconst 0, 1) := dk_3 (dk_at dksX1_balanceByEntries_3 0 rfl rfl)
theorem dX1_balanceByEntries_73 : decode cX1_balanceByEntries 73 = .ok (.iadd, 1) := dk_96 (dk_at dksX1_balanceByEntries_3 1 rfl rfl)
theorem dX1_balanceByEntries_74 : decode cX1_balanceByEntries 74 = .ok (.istore 4, 2) := dk_54 4 (dk_at dksX1_balanceByEntries_3 2 rfl rfl)
theorem dX1_balanceByEntries_76 : decode cX1_balanceByEntries 76 = .ok (.iinc 5 1, 3) := dk_132 5 1 (dk_at dksX1_balanceByEntries_3 4 rfl rfl)
theorem dX1_balanceByEntries_79 : decode cX1_balanceByEntries 79 = .ok (.goto (-57), 3) := dk_167 255 199 (dk_at dksX1_balanceByEntries_3 7 rfl rfl)
theorem dX1_balanceByEntries_82 : decode cX1_balanceByEntries 82 = .ok (.iload 4, 2) := dk_21 4 (dk_at dksX1_balanceByEntries_3 10 rfl rfl)
theorem dX1_balanceByEntries_84 : decode cX1_balanceByEntries 84 = .ok (.ireturn, 1) := dk_172 (dk_at dksX1_balanceByEntries_3 12 rfl rfl)
abbrev cX1_grant : ByteArray := prog_1_method_21_code
def yX1_grant : MethodName := ⟨RX1, "grant", "(II)V"⟩
def dkwX1_grant_2 : List UInt8 := [184, 0, 74, 45, 4, 181, 0, 135, 45, 28, 181, 0, 139, 177]
abbrev dktX1_grant_2 : List UInt8 := dkwX1_grant_2 ++ []
def dkwX1_grant_1 : List UInt8 := [153, 0, 7, 4, 167, 0, 4, 3, 184, 0, 64, 45, 180, 0, 135, 154, 0, 7, 4, 167, 0, 4, 3]
abbrev dktX1_grant_1 : List UInt8 := dkwX1_grant_1 ++ dktX1_grant_2
def dkwX1_grant_0 : List UInt8 := [42, 180, 0, 10, 27, 184, 0, 70, 192, 0, 29, 78, 27, 5, 161, 0, 17, 28, 3, 18, 63, 184, 0, 59]
abbrev dktX1_grant_0 : List UInt8 := dkwX1_grant_0 ++ dktX1_grant_1
theorem dksX1_grant_0 : cX1_grant.data.toList.drop 0 = dktX1_grant_0 := by decide +kernel
theorem dksX1_grant_1 : cX1_grant.data.toList.drop 24 = dktX1_grant_1 := dk_seg dksX1_grant_0 24 rfl rfl
theorem dksX1_grant_2 : cX1_grant.data.toList.drop 47 = dktX1_grant_2 := dk_seg dksX1_grant_1 23 rfl rfl
theorem dX1_grant_0 : decode cX1_grant 0 = .ok (.aload_n 0, 1) := dk_42 (dk_at dksX1_grant_0 0 rfl rfl)
theorem dX1_grant_1 : decode cX1_grant 1 = .ok (.getfield 10, 3) := dk_180 0 10 (dk_at dksX1_grant_0 1 rfl rfl)
theorem dX1_grant_4 : decode cX1_grant 4 = .ok (.iload_n 1, 1) := dk_27 (dk_at dksX1_grant_0 4 rfl rfl)
theorem dX1_grant_5 : decode cX1_grant 5 = .ok (.invokestatic 70, 3) := dk_184 0 70 (dk_at dksX1_grant_0 5 rfl rfl)
theorem dX1_grant_8 : decode cX1_grant 8 = .ok (.checkcast 29, 3) := dk_192 0 29 (dk_at dksX1_grant_0 8 rfl rfl)
theorem dX1_grant_11 : decode cX1_grant 11 = .ok (.astore_n 3, 1) := dk_78 (dk_at dksX1_grant_0 11 rfl rfl)
theorem dX1_grant_12 : decode cX1_grant 12 = .ok (.iload_n 1, 1) := dk_27 (dk_at dksX1_grant_0 12 rfl rfl)
theorem dX1_grant_13 : decode cX1_grant 13 = .ok (.iconst 2, 1) := dk_5 (dk_at dksX1_grant_0 13 rfl rfl)
theorem dX1_grant_14 : decode cX1_grant 14 = .ok (.if_icmp .lt 17, 3) := dk_161 0 17 (dk_at dksX1_grant_0 14 rfl rfl)
theorem dX1_grant_17 : decode cX1_grant 17 = .ok (.iload_n 2, 1) := dk_28 (dk_at dksX1_grant_0 17 rfl rfl)
theorem dX1_grant_18 : decode cX1_grant 18 = .ok (.iconst 0, 1) := dk_3 (dk_at dksX1_grant_0 18 rfl rfl)
theorem dX1_grant_19 : decode cX1_grant 19 = .ok (.ldc 63, 2) := dk_18 63 (dk_at dksX1_grant_0 19 rfl rfl)
theorem dX1_grant_21 : decode cX1_grant 21 = .ok (.invokestatic 59, 3) := dk_184 0 59 (dk_at dksX1_grant_0 21 rfl rfl)
theorem dX1_grant_24 : decode cX1_grant 24 = .ok (.ifCond .eq 7, 3) := dk_153 0 7 (dk_at dksX1_grant_1 0 rfl rfl)
theorem dX1_grant_27 : decode cX1_grant 27 = .ok (.iconst 1, 1) := dk_4 (dk_at dksX1_grant_1 3 rfl rfl)
theorem dX1_grant_28 : decode cX1_grant 28 = .ok (.goto 4, 3) := dk_167 0 4 (dk_at dksX1_grant_1 4 rfl rfl)
theorem dX1_grant_31 : decode cX1_grant 31 = .ok (.iconst 0, 1) := dk_3 (dk_at dksX1_grant_1 7 rfl rfl)
theorem dX1_grant_32 : decode cX1_grant 32 = .ok (.invokestatic 64, 3) := dk_184 0 64 (dk_at dksX1_grant_1 8 rfl rfl)
theorem dX1_grant_35 : decode cX1_grant 35 = .ok (.aload_n 3, 1) := dk_45 (dk_at dksX1_grant_1 11 rfl rfl)
theorem dX1_grant_36 : decode cX1_grant 36 = .ok (.getfield 135, 3) := dk_180 0 135 (dk_at dksX1_grant_1 12 rfl rfl)
theorem dX1_grant_39 : decode cX1_grant 39 = .ok (.ifCond .ne 7, 3) := dk_154 0 7 (dk_at dksX1_grant_1 15 rfl rfl)
theorem dX1_grant_42 : decode cX1_grant 42 = .ok (.iconst 1, 1) := dk_4 (dk_at dksX1_grant_1 18 rfl rfl)
theorem dX1_grant_43 : decode cX1_grant 43 = .ok (.goto 4, 3) := dk_167 0 4 (dk_at dksX1_grant_1 19 rfl rfl)
theorem dX1_grant_46 : decode cX1_grant 46 = .ok (.iconst 0, 1) := dk_3 (dk_at dksX1_grant_1 22 rfl rfl)
theorem dX1_grant_47 : decode cX1_grant 47 = .ok (.invokestatic 74, 3) := dk_184 0 74 (dk_at dksX1_grant_2 0 rfl rfl)
theorem dX1_grant_50 : decode cX1_grant 50 = .ok (.aload_n 3, 1) := dk_45 (dk_at dksX1_grant_2 3 rfl rfl)
theorem dX1_grant_51 : decode cX1_grant 51 = .ok (.iconst 1, 1) := dk_4 (dk_at dksX1_grant_2 4 rfl rfl)
theorem dX1_grant_52 : decode cX1_grant 52 = .ok (.putfield 135, 3) := dk_181 0 135 (dk_at dksX1_grant_2 5 rfl rfl)
theorem dX1_grant_55 : decode cX1_grant 55 = .ok (.aload_n 3, 1) := dk_45 (dk_at dksX1_grant_2 8 rfl rfl)
theorem dX1_grant_56 : decode cX1_grant 56 = .ok (.iload_n 2, 1) := dk_28 (dk_at dksX1_grant_2 9 rfl rfl)
theorem dX1_grant_57 : decode cX1_grant 57 = .ok (.putfield 139, 3) := dk_181 0 139 (dk_at dksX1_grant_2 10 rfl rfl)
theorem dX1_grant_60 : decode cX1_grant 60 = .ok (.return_, 1) := dk_177 (dk_at dksX1_grant_2 13 rfl rfl)
abbrev cX1_amend : ByteArray := prog_1_method_22_code
def yX1_amend : MethodName := ⟨RX1, "amend", "(IIIZ)I"⟩
def dkwX1_amend_6 : List UInt8 := [181, 0, 148, 25, 5, 182, 0, 142, 172]
abbrev dktX1_amend_6 : List UInt8 := dkwX1_amend_6 ++ []
def dkwX1_amend_5 : List UInt8 := [181, 0, 145, 25, 5, 89, 180, 0, 148, 29, 100, 181, 0, 148, 25, 6, 89, 180, 0, 148, 29, 96]
abbrev dktX1_amend_5 : List UInt8 := dkwX1_amend_5 ++ dktX1_amend_6
def dkwX1_amend_4 : List UInt8 := [167, 0, 4, 3, 184, 0, 74, 25, 5, 89, 180, 0, 145, 21, 4, 153, 0, 7, 3, 167, 0, 4, 29, 96]
abbrev dktX1_amend_4 : List UInt8 := dkwX1_amend_4 ++ dktX1_amend_5
def dkwX1_amend_3 : List UInt8 := [154, 0, 21, 25, 5, 180, 0, 145, 29, 96, 25, 5, 180, 0, 139, 16, 10, 108, 163, 0, 7, 4]
abbrev dktX1_amend_3 : List UInt8 := dkwX1_amend_3 ++ dktX1_amend_4
def dkwX1_amend_2 : List UInt8 := [153, 0, 47, 25, 6, 180, 0, 135, 153, 0, 39, 25, 5, 182, 0, 142, 29, 161, 0, 30, 21, 4]
abbrev dktX1_amend_2 : List UInt8 := dkwX1_amend_2 ++ dktX1_amend_3
def dkwX1_amend_1 : List UInt8 := [58, 6, 29, 184, 0, 101, 27, 28, 159, 0, 7, 4, 167, 0, 4, 3, 184, 0, 64, 25, 5, 180, 0, 135]
abbrev dktX1_amend_1 : List UInt8 := dkwX1_amend_1 ++ dktX1_amend_2
def dkwX1_amend_0 : List UInt8 := [42, 180, 0, 10, 27, 184, 0, 70, 192, 0, 29, 58, 5, 42, 180, 0, 10, 28, 184, 0, 70, 192, 0, 29]
abbrev dktX1_amend_0 : List UInt8 := dkwX1_amend_0 ++ dktX1_amend_1
theorem dksX1_amend_0 : cX1_amend.data.toList.drop 0 = dktX1_amend_0 := by decide +kernel
theorem dksX1_amend_1 : cX1_amend.data.toList.drop 24 = dktX1_amend_1 := dk_seg dksX1_amend_0 24 rfl rfl
theorem dksX1_amend_2 : cX1_amend.data.toList.drop 48 = dktX1_amend_2 := dk_seg dksX1_amend_1 24 rfl rfl
theorem dksX1_amend_3 : cX1_amend.data.toList.drop 70 = dktX1_amend_3 := dk_seg dksX1_amend_2 22 rfl rfl
theorem dksX1_amend_4 : cX1_amend.data.toList.drop 92 = dktX1_amend_4 := dk_seg dksX1_amend_3 22 rfl rfl
theorem dksX1_amend_5 : cX1_amend.data.toList.drop 116 = dktX1_amend_5 := dk_seg dksX1_amend_4 24 rfl rfl
theorem dksX1_amend_6 : cX1_amend.data.toList.drop 138 = dktX1_amend_6 := dk_seg dksX1_amend_5 22 rfl rfl
theorem dX1_amend_0 : decode cX1_amend 0 = .ok (.aload_n 0, 1) := dk_42 (dk_at dksX1_amend_0 0 rfl rfl)
theorem dX1_amend_1 : decode cX1_amend 1 = .ok (.getfield 10, 3) := dk_180 0 10 (dk_at dksX1_amend_0 1 rfl rfl)
theorem dX1_amend_4 : decode cX1_amend 4 = .ok (.iload_n 1, 1) := dk_27 (dk_at dksX1_amend_0 4 rfl rfl)
theorem dX1_amend_5 : decode cX1_amend 5 = .ok (.invokestatic 70, 3) := dk_184 0 70 (dk_at dksX1_amend_0 5 rfl rfl)
theorem dX1_amend_8 : decode cX1_amend 8 = .ok (.checkcast 29, 3) := dk_192 0 29 (dk_at dksX1_amend_0 8 rfl rfl)
theorem dX1_amend_11 : decode cX1_amend 11 = .ok (.astore 5, 2) := dk_58 5 (dk_at dksX1_amend_0 11 rfl rfl)
theorem dX1_amend_13 : decode cX1_amend 13 = .ok (.aload_n 0, 1) := dk_42 (dk_at dksX1_amend_0 13 rfl rfl)
theorem dX1_amend_14 : decode cX1_amend 14 = .ok (.getfield 10, 3) := dk_180 0 10 (dk_at dksX1_amend_0 14 rfl rfl)
theorem dX1_amend_17 : decode cX1_amend 17 = .ok (.iload_n 2, 1) := dk_28 (dk_at dksX1_amend_0 17 rfl rfl)
theorem dX1_amend_18 : decode cX1_amend 18 = .ok (.invokestatic 70, 3) := dk_184 0 70 (dk_at dksX1_amend_0 18 rfl rfl)
theorem dX1_amend_21 : decode cX1_amend 21 = .ok (.checkcast 29, 3) := dk_192 0 29 (dk_at dksX1_amend_0 21 rfl rfl)
theorem dX1_amend_24 : decode cX1_amend 24 = .ok (.astore 6, 2) := dk_58 6 (dk_at dksX1_amend_1 0 rfl rfl)
theorem dX1_amend_26 : decode cX1_amend 26 = .ok (.iload_n 3, 1) := dk_29 (dk_at dksX1_amend_1 2 rfl rfl)
theorem dX1_amend_27 : decode cX1_amend 27 = .ok (.invokestatic 101, 3) := dk_184 0 101 (dk_at dksX1_amend_1 3 rfl rfl)
theorem dX1_amend_30 : decode cX1_amend 30 = .ok (.iload_n 1, 1) := dk_27 (dk_at dksX1_amend_1 6 rfl rfl)
theorem dX1_amend_31 : decode cX1_amend 31 = .ok (.iload_n 2, 1) := dk_28 (dk_at dksX1_amend_1 7 rfl rfl)
theorem dX1_amend_32 : decode cX1_amend 32 = .ok (.if_icmp .eq 7, 3) := dk_159 0 7 (dk_at dksX1_amend_1 8 rfl rfl)
theorem dX1_amend_35 : decode cX1_amend 35 = .ok (.iconst 1, 1) := dk_4 (dk_at dksX1_amend_1 11 rfl rfl)
theorem dX1_amend_36 : decode cX1_amend 36 = .ok (.goto 4, 3) := dk_167 0 4 (dk_at dksX1_amend_1 12 rfl rfl)
theorem dX1_amend_39 : decode cX1_amend 39 = .ok (.iconst 0, 1) := dk_3 (dk_at dksX1_amend_1 15 rfl rfl)
theorem dX1_amend_40 : decode cX1_amend 40 = .ok (.invokestatic 64, 3) := dk_184 0 64 (dk_at dksX1_amend_1 16 rfl rfl)
theorem dX1_amend_43 : decode cX1_amend 43 = .ok (.aload 5, 2) := dk_25 5 (dk_at dksX1_amend_1 19 rfl rfl)
theorem dX1_amend_45 : decode cX1_amend 45 = .ok (.getfield 135, 3) := dk_180 0 135 (dk_at dksX1_amend_1 21 rfl rfl)
theorem dX1_amend_48 : decode cX1_amend 48 = .ok (.ifCond .eq 47, 3) := dk_153 0 47 (dk_at dksX1_amend_2 0 rfl rfl)
theorem dX1_amend_51 : decode cX1_amend 51 = .ok (.aload 6, 2) := dk_25 6 (dk_at dksX1_amend_2 3 rfl rfl)
theorem dX1_amend_53 : decode cX1_amend 53 = .ok (.getfield 135, 3) := dk_180 0 135 (dk_at dksX1_amend_2 5 rfl rfl)
theorem dX1_amend_56 : decode cX1_amend 56 = .ok (.ifCond .eq 39, 3) := dk_153 0 39 (dk_at dksX1_amend_2 8 rfl rfl)
theorem dX1_amend_59 : decode cX1_amend 59 = .ok (.aload 5, 2) := dk_25 5 (dk_at dksX1_amend_2 11 rfl rfl)
theorem dX1_amend_61 : decode cX1_amend 61 = .ok (.invokevirtual 142, 3) := dk_182 0 142 (dk_at dksX1_amend_2 13 rfl rfl)
theorem dX1_amend_64 : decode cX1_amend 64 = .ok (.iload_n 3, 1) := dk_29 (dk_at dksX1_amend_2 16 rfl rfl)
theorem dX1_amend_65 : decode cX1_amend 65 = .ok (.if_icmp .lt 30, 3) := dk_161 0 30 (dk_at dksX1_amend_2 17 rfl rfl)
theorem dX1_amend_68 : decode cX1_amend 68 = .ok (.iload 4, 2) := dk_21 4 (dk_at dksX1_amend_2 20 rfl rfl)
theorem dX1_amend_70 : decode cX1_amend 70 = .ok (.ifCond .ne 21, 3) := dk_154 0 21 (dk_at dksX1_amend_3 0 rfl rfl)
theorem dX1_amend_73 : decode cX1_amend 73 = .ok (.aload 5, 2) := dk_25 5 (dk_at dksX1_amend_3 3 rfl rfl)
theorem dX1_amend_75 : decode cX1_amend 75 = .ok (.getfield 145, 3) := dk_180 0 145 (dk_at dksX1_amend_3 5 rfl rfl)
theorem dX1_amend_78 : decode cX1_amend 78 = .ok (.iload_n 3, 1) := dk_29 (dk_at dksX1_amend_3 8 rfl rfl)
theorem dX1_amend_79 : decode cX1_amend 79 = .ok (.iadd, 1) := dk_96 (dk_at dksX1_amend_3 9 rfl rfl)
theorem dX1_amend_80 : decode cX1_amend 80 = .ok (.aload 5, 2) := dk_25 5 (dk_at dksX1_amend_3 10 rfl rfl)
theorem dX1_amend_82 : decode cX1_amend 82 = .ok (.getfield 139, 3) := dk_180 0 139 (dk_at dksX1_amend_3 12 rfl rfl)
theorem dX1_amend_85 : decode cX1_amend 85 = .ok (.bipush 10, 2) := dk_16 10 (dk_at dksX1_amend_3 15 rfl rfl)
theorem dX1_amend_87 : decode cX1_amend 87 = .ok (.idiv, 1) := dk_108 (dk_at dksX1_amend_3 17 rfl rfl)
theorem dX1_amend_88 : decode cX1_amend 88 = .ok (.if_icmp .gt 7, 3) := dk_163 0 7 (dk_at dksX1_amend_3 18 rfl rfl)
theorem dX1_amend_91 : decode cX1_amend 91 = .ok (.iconst 1, 1) := dk_4 (dk_at dksX1_amend_3 21 rfl rfl)
theorem dX1_amend_92 : decode cX1_amend 92 = .ok (.goto 4, 3) := dk_167 0 4 (dk_at dksX1_amend_4 0 rfl rfl)
theorem dX1_amend_95 : decode cX1_amend 95 = .ok (.iconst 0, 1) := dk_3 (dk_at dksX1_amend_4 3 rfl rfl)
theorem dX1_amend_96 : decode cX1_amend 96 = .ok (.invokestatic 74, 3) := dk_184 0 74 (dk_at dksX1_amend_4 4 rfl rfl)
theorem dX1_amend_99 : decode cX1_amend 99 = .ok (.aload 5, 2) := dk_25 5 (dk_at dksX1_amend_4 7 rfl rfl)
theorem dX1_amend_101 : decode cX1_amend 101 = .ok (.dup, 1) := dk_89 (dk_at dksX1_amend_4 9 rfl rfl)
theorem dX1_amend_102 : decode cX1_amend 102 = .ok (.getfield 145, 3) := dk_180 0 145 (dk_at dksX1_amend_4 10 rfl rfl)
theorem dX1_amend_105 : decode cX1_amend 105 = .ok (.iload 4, 2) := dk_21 4 (dk_at dksX1_amend_4 13 rfl rfl)
theorem dX1_amend_107 : decode cX1_amend 107 = .ok (.ifCond .eq 7, 3) := dk_153 0 7 (dk_at dksX1_amend_4 15 rfl rfl)
theorem dX1_amend_110 : decode cX1_amend 110 = .ok (.iconst 0, 1) := dk_3 (dk_at dksX1_amend_4 18 rfl rfl)
theorem dX1_amend_111 : decode cX1_amend 111 = .ok (.goto 4, 3) := dk_167 0 4 (dk_at dksX1_amend_4 19 rfl rfl)
theorem dX1_amend_114 : decode cX1_amend 114 = .ok (.iload_n 3, 1) := dk_29 (dk_at dksX1_amend_4 22 rfl rfl)
theorem dX1_amend_115 : decode cX1_amend 115 = .ok (.iadd, 1) := dk_96 (dk_at dksX1_amend_4 23 rfl rfl)
theorem dX1_amend_116 : decode cX1_amend 116 = .ok (.putfield 145, 3) := dk_181 0 145 (dk_at dksX1_amend_5 0 rfl rfl)
theorem dX1_amend_119 : decode cX1_amend 119 = .ok (.aload 5, 2) := dk_25 5 (dk_at dksX1_amend_5 3 rfl rfl)
theorem dX1_amend_121 : decode cX1_amend 121 = .ok (.dup, 1) := dk_89 (dk_at dksX1_amend_5 5 rfl rfl)
theorem dX1_amend_122 : decode cX1_amend 122 = .ok (.getfield 148, 3) := dk_180 0 148 (dk_at dksX1_amend_5 6 rfl rfl)
theorem dX1_amend_125 : decode cX1_amend 125 = .ok (.iload_n 3, 1) := dk_29 (dk_at dksX1_amend_5 9 rfl rfl)
theorem dX1_amend_126 : decode cX1_amend 126 = .ok (.isub, 1) := dk_100 (dk_at dksX1_amend_5 10 rfl rfl)
theorem dX1_amend_127 : decode cX1_amend 127 = .ok (.putfield 148, 3) := dk_181 0 148 (dk_at dksX1_amend_5 11 rfl rfl)
theorem dX1_amend_130 : decode cX1_amend 130 = .ok (.aload 6, 2) := dk_25 6 (dk_at dksX1_amend_5 14 rfl rfl)
theorem dX1_amend_132 : decode cX1_amend 132 = .ok (.dup, 1) := dk_89 (dk_at dksX1_amend_5 16 rfl rfl)
theorem dX1_amend_133 : decode cX1_amend 133 = .ok (.getfield 148, 3) := dk_180 0 148 (dk_at dksX1_amend_5 17 rfl rfl)
theorem dX1_amend_136 : decode cX1_amend 136 = .ok (.iload_n 3, 1) := dk_29 (dk_at dksX1_amend_5 20 rfl rfl)
theorem dX1_amend_137 : decode cX1_amend 137 = .ok (.iadd, 1) := dk_96 (dk_at dksX1_amend_5 21 rfl rfl)
theorem dX1_amend_138 : decode cX1_amend 138 = .ok (.putfield 148, 3) := dk_181 0 148 (dk_at dksX1_amend_6 0 rfl rfl)
theorem dX1_amend_141 : decode cX1_amend 141 = .ok (.aload 5, 2) := dk_25 5 (dk_at dksX1_amend_6 3 rfl rfl)
theorem dX1_amend_143 : decode cX1_amend 143 = .ok (.invokevirtual 142, 3) := dk_182 0 142 (dk_at dksX1_amend_6 5 rfl rfl)
theorem dX1_amend_146 : decode cX1_amend 146 = .ok (.ireturn, 1) := dk_172 (dk_at dksX1_amend_6 8 rfl rfl)
abbrev cX1_left : ByteArray := prog_1_method_23_code
def yX1_left : MethodName := ⟨RX1, "left", "(I)I"⟩
def dkwX1_left_1 : List UInt8 := [167, 0, 4, 2, 172]
abbrev dktX1_left_1 : List UInt8 := dkwX1_left_1 ++ []
def dkwX1_left_0 : List UInt8 := [42, 180, 0, 10, 27, 184, 0, 70, 192, 0, 29, 77, 44, 180, 0, 135, 153, 0, 10, 44, 182, 0, 142]
abbrev dktX1_left_0 : List UInt8 := dkwX1_left_0 ++ dktX1_left_1
theorem dksX1_left_0 : cX1_left.data.toList.drop 0 = dktX1_left_0 := by decide +kernel
theorem dksX1_left_1 : cX1_left.data.toList.drop 23 = dktX1_left_1 := dk_seg dksX1_left_0 23 rfl rfl
theorem dX1_left_0 : decode cX1_left 0 = .ok (.aload_n 0, 1) := dk_42 (dk_at dksX1_left_0 0 rfl rfl)
theorem dX1_left_1 : decode cX1_left 1 = .ok (.getfield 10, 3) := dk_180 0 10 (dk_at dksX1_left_0 1 rfl rfl)
theorem dX1_left_4 : decode cX1_left 4 = .ok (.iload_n 1, 1) := dk_27 (dk_at dksX1_left_0 4 rfl rfl)
theorem dX1_left_5 : decode cX1_left 5 = .ok (.invokestatic 70, 3) := dk_184 0 70 (dk_at dksX1_left_0 5 rfl rfl)
theorem dX1_left_8 : decode cX1_left 8 = .ok (.checkcast 29, 3) := dk_192 0 29 (dk_at dksX1_left_0 8 rfl rfl)
theorem dX1_left_11 : decode cX1_left 11 = .ok (.astore_n 2, 1) := dk_77 (dk_at dksX1_left_0 11 rfl rfl)
theorem dX1_left_12 : decode cX1_left 12 = .ok (.aload_n 2, 1) := dk_44 (dk_at dksX1_left_0 12 rfl rfl)
theorem dX1_left_13 : decode cX1_left 13 = .ok (.getfield 135, 3) := dk_180 0 135 (dk_at dksX1_left_0 13 rfl rfl)
theorem dX1_left_16 : decode cX1_left 16 = .ok (.ifCond .eq 10, 3) := dk_153 0 10 (dk_at dksX1_left_0 16 rfl rfl)
theorem dX1_left_19 : decode cX1_left 19 = .ok (.aload_n 2, 1) := dk_44 (dk_at dksX1_left_0 19 rfl rfl)
theorem dX1_left_20 : decode cX1_left 20 = .ok (.invokevirtual 142, 3) := dk_182 0 142 (dk_at dksX1_left_0 20 rfl rfl)
theorem dX1_left_23 : decode cX1_left 23 = .ok (.goto 4, 3) := dk_167 0 4 (dk_at dksX1_left_1 0 rfl rfl)
theorem dX1_left_26 : decode cX1_left 26 = .ok (.iconst (-1), 1) := dk_2 (dk_at dksX1_left_1 3 rfl rfl)
theorem dX1_left_27 : decode cX1_left 27 = .ok (.ireturn, 1) := dk_172 (dk_at dksX1_left_1 4 rfl rfl)
abbrev cX1_setLimit : ByteArray := prog_1_method_24_code
def yX1_setLimit : MethodName := ⟨RX1, "setLimit", "(I)I"⟩
def dkwX1_setLimit_0 : List UInt8 := [27, 184, 0, 101, 42, 180, 0, 25, 61, 42, 27, 181, 0, 25, 28, 172]
abbrev dktX1_setLimit_0 : List UInt8 := dkwX1_setLimit_0 ++ []
theorem dksX1_setLimit_0 : cX1_setLimit.data.toList.drop 0 = dktX1_setLimit_0 := by decide +kernel
theorem dX1_setLimit_0 : decode cX1_setLimit 0 = .ok (.iload_n 1, 1) := dk_27 (dk_at dksX1_setLimit_0 0 rfl rfl)
theorem dX1_setLimit_1 : decode cX1_setLimit 1 = .ok (.invokestatic 101, 3) := dk_184 0 101 (dk_at dksX1_setLimit_0 1 rfl rfl)
theorem dX1_setLimit_4 : decode cX1_setLimit 4 = .ok (.aload_n 0, 1) := dk_42 (dk_at dksX1_setLimit_0 4 rfl rfl)
theorem dX1_setLimit_5 : decode cX1_setLimit 5 = .ok (.getfield 25, 3) := dk_180 0 25 (dk_at dksX1_setLimit_0 5 rfl rfl)
theorem dX1_setLimit_8 : decode cX1_setLimit 8 = .ok (.istore_n 2, 1) := dk_61 (dk_at dksX1_setLimit_0 8 rfl rfl)
theorem dX1_setLimit_9 : decode cX1_setLimit 9 = .ok (.aload_n 0, 1) := dk_42 (dk_at dksX1_setLimit_0 9 rfl rfl)
theorem dX1_setLimit_10 : decode cX1_setLimit 10 = .ok (.iload_n 1, 1) := dk_27 (dk_at dksX1_setLimit_0 10 rfl rfl)
theorem dX1_setLimit_11 : decode cX1_setLimit 11 = .ok (.putfield 25, 3) := dk_181 0 25 (dk_at dksX1_setLimit_0 11 rfl rfl)
theorem dX1_setLimit_14 : decode cX1_setLimit 14 = .ok (.iload_n 2, 1) := dk_28 (dk_at dksX1_setLimit_0 14 rfl rfl)
theorem dX1_setLimit_15 : decode cX1_setLimit 15 = .ok (.ireturn, 1) := dk_172 (dk_at dksX1_setLimit_0 15 rfl rfl)
abbrev cX1_prepare : ByteArray := prog_1_method_25_code
def yX1_prepare : MethodName := ⟨RX1, "prepare", "(IIII)I"⟩
def dkwX1_prepare_4 : List UInt8 := [42, 180, 0, 19, 182, 0, 47, 4, 100, 172]
abbrev dktX1_prepare_4 : List UInt8 := dkwX1_prepare_4 ++ []
def dkwX1_prepare_3 : List UInt8 := [180, 0, 19, 187, 0, 154, 89, 25, 5, 28, 29, 21, 4, 42, 180, 0, 67, 183, 0, 156, 182, 0, 34, 87]
abbrev dktX1_prepare_3 : List UInt8 := dkwX1_prepare_3 ++ dktX1_prepare_4
def dkwX1_prepare_2 : List UInt8 := [162, 0, 19, 42, 180, 0, 19, 182, 0, 47, 16, 40, 162, 0, 7, 4, 167, 0, 4, 3, 184, 0, 74, 42]
abbrev dktX1_prepare_2 : List UInt8 := dkwX1_prepare_2 ++ dktX1_prepare_3
def dkwX1_prepare_1 : List UInt8 := [21, 4, 184, 0, 151, 29, 184, 0, 101, 25, 5, 180, 0, 135, 153, 0, 28, 42, 180, 0, 67, 16, 13]
abbrev dktX1_prepare_1 : List UInt8 := dkwX1_prepare_1 ++ dktX1_prepare_2
def dkwX1_prepare_0 : List UInt8 := [42, 180, 0, 10, 27, 184, 0, 70, 192, 0, 29, 58, 5, 28, 3, 16, 9, 184, 0, 59, 184, 0, 51]
abbrev dktX1_prepare_0 : List UInt8 := dkwX1_prepare_0 ++ dktX1_prepare_1
theorem dksX1_prepare_0 : cX1_prepare.data.toList.drop 0 = dktX1_prepare_0 := by decide +kernel
theorem dksX1_prepare_1 : cX1_prepare.data.toList.drop 23 = dktX1_prepare_1 := dk_seg dksX1_prepare_0 23 rfl rfl
theorem dksX1_prepare_2 : cX1_prepare.data.toList.drop 46 = dktX1_prepare_2 := dk_seg dksX1_prepare_1 23 rfl rfl
theorem dksX1_prepare_3 : cX1_prepare.data.toList.drop 70 = dktX1_prepare_3 := dk_seg dksX1_prepare_2 24 rfl rfl
theorem dksX1_prepare_4 : cX1_prepare.data.toList.drop 94 = dktX1_prepare_4 := dk_seg dksX1_prepare_3 24 rfl rfl
theorem dX1_prepare_0 : decode cX1_prepare 0 = .ok (.aload_n 0, 1) := dk_42 (dk_at dksX1_prepare_0 0 rfl rfl)
theorem dX1_prepare_1 : decode cX1_prepare 1 = .ok (.getfield 10, 3) := dk_180 0 10 (dk_at dksX1_prepare_0 1 rfl rfl)
theorem dX1_prepare_4 : decode cX1_prepare 4 = .ok (.iload_n 1, 1) := dk_27 (dk_at dksX1_prepare_0 4 rfl rfl)
theorem dX1_prepare_5 : decode cX1_prepare 5 = .ok (.invokestatic 70, 3) := dk_184 0 70 (dk_at dksX1_prepare_0 5 rfl rfl)
theorem dX1_prepare_8 : decode cX1_prepare 8 = .ok (.checkcast 29, 3) := dk_192 0 29 (dk_at dksX1_prepare_0 8 rfl rfl)
theorem dX1_prepare_11 : decode cX1_prepare 11 = .ok (.astore 5, 2) := dk_58 5 (dk_at dksX1_prepare_0 11 rfl rfl)
theorem dX1_prepare_13 : decode cX1_prepare 13 = .ok (.iload_n 2, 1) := dk_28 (dk_at dksX1_prepare_0 13 rfl rfl)
theorem dX1_prepare_14 : decode cX1_prepare 14 = .ok (.iconst 0, 1) := dk_3 (dk_at dksX1_prepare_0 14 rfl rfl)
theorem dX1_prepare_15 : decode cX1_prepare 15 = .ok (.bipush 9, 2) := dk_16 9 (dk_at dksX1_prepare_0 15 rfl rfl)
theorem dX1_prepare_17 : decode cX1_prepare 17 = .ok (.invokestatic 59, 3) := dk_184 0 59 (dk_at dksX1_prepare_0 17 rfl rfl)
theorem dX1_prepare_20 : decode cX1_prepare 20 = .ok (.invokestatic 51, 3) := dk_184 0 51 (dk_at dksX1_prepare_0 20 rfl rfl)
theorem dX1_prepare_23 : decode cX1_prepare 23 = .ok (.iload 4, 2) := dk_21 4 (dk_at dksX1_prepare_1 0 rfl rfl)
theorem dX1_prepare_25 : decode cX1_prepare 25 = .ok (.invokestatic 151, 3) := dk_184 0 151 (dk_at dksX1_prepare_1 2 rfl rfl)
theorem dX1_prepare_28 : decode cX1_prepare 28 = .ok (.iload_n 3, 1) := dk_29 (dk_at dksX1_prepare_1 5 rfl rfl)
theorem dX1_prepare_29 : decode cX1_prepare 29 = .ok (.invokestatic 101, 3) := dk_184 0 101 (dk_at dksX1_prepare_1 6 rfl rfl)
theorem dX1_prepare_32 : decode cX1_prepare 32 = .ok (.aload 5, 2) := dk_25 5 (dk_at dksX1_prepare_1 9 rfl rfl)
theorem dX1_prepare_34 : decode cX1_prepare 34 = .ok (.getfield 135, 3) := dk_180 0 135 (dk_at dksX1_prepare_1 11 rfl rfl)
theorem dX1_prepare_37 : decode cX1_prepare 37 = .ok (.ifCond .eq 28, 3) := dk_153 0 28 (dk_at dksX1_prepare_1 14 rfl rfl)
theorem dX1_prepare_40 : decode cX1_prepare 40 = .ok (.aload_n 0, 1) := dk_42 (dk_at dksX1_prepare_1 17 rfl rfl)
theorem dX1_prepare_41 : decode cX1_prepare 41 = .ok (.getfield 67, 3) := dk_180 0 67 (dk_at dksX1_prepare_1 18 rfl rfl)
theorem dX1_prepare_44 : decode cX1_prepare 44 = .ok (.bipush 13, 2) := dk_16 13 (dk_at dksX1_prepare_1 21 rfl rfl)
theorem dX1_prepare_46 : decode cX1_prepare 46 = .ok (.if_icmp .ge 19, 3) := dk_162 0 19 (dk_at dksX1_prepare_2 0 rfl rfl)
theorem dX1_prepare_49 : decode cX1_prepare 49 = .ok (.aload_n 0, 1) := dk_42 (dk_at dksX1_prepare_2 3 rfl rfl)
theorem dX1_prepare_50 : decode cX1_prepare 50 = .ok (.getfield 19, 3) := dk_180 0 19 (dk_at dksX1_prepare_2 4 rfl rfl)
theorem dX1_prepare_53 : decode cX1_prepare 53 = .ok (.invokevirtual 47, 3) := dk_182 0 47 (dk_at dksX1_prepare_2 7 rfl rfl)
theorem dX1_prepare_56 : decode cX1_prepare 56 = .ok (.bipush 40, 2) := dk_16 40 (dk_at dksX1_prepare_2 10 rfl rfl)
theorem dX1_prepare_58 : decode cX1_prepare 58 = .ok (.if_icmp .ge 7, 3) := dk_162 0 7 (dk_at dksX1_prepare_2 12 rfl rfl)
theorem dX1_prepare_61 : decode cX1_prepare 61 = .ok (.iconst 1, 1) := dk_4 (dk_at dksX1_prepare_2 15 rfl rfl)
theorem dX1_prepare_62 : decode cX1_prepare 62 = .ok (.goto 4, 3) := dk_167 0 4 (dk_at dksX1_prepare_2 16 rfl rfl)
theorem dX1_prepare_65 : decode cX1_prepare 65 = .ok (.iconst 0, 1) := dk_3 (dk_at dksX1_prepare_2 19 rfl rfl)
theorem dX1_prepare_66 : decode cX1_prepare 66 = .ok (.invokestatic 74, 3) := dk_184 0 74 (dk_at dksX1_prepare_2 20 rfl rfl)
theorem dX1_prepare_69 : decode cX1_prepare 69 = .ok (.aload_n 0, 1) := dk_42 (dk_at dksX1_prepare_2 23 rfl rfl)
theorem dX1_prepare_70 : decode cX1_prepare 70 = .ok (.getfield 19, 3) := dk_180 0 19 (dk_at dksX1_prepare_3 0 rfl rfl)
theorem dX1_prepare_73 : decode cX1_prepare 73 = .ok (.new 154, 3) := dk_187 0 154 (dk_at dksX1_prepare_3 3 rfl rfl)
theorem dX1_prepare_76 : decode cX1_prepare 76 = .ok (.dup, 1) := dk_89 (dk_at dksX1_prepare_3 6 rfl rfl)
theorem dX1_prepare_77 : decode cX1_prepare 77 = .ok (.aload 5, 2) := dk_25 5 (dk_at dksX1_prepare_3 7 rfl rfl)
theorem dX1_prepare_79 : decode cX1_prepare 79 = .ok (.iload_n 2, 1) := dk_28 (dk_at dksX1_prepare_3 9 rfl rfl)
theorem dX1_prepare_80 : decode cX1_prepare 80 = .ok (.iload_n 3, 1) := dk_29 (dk_at dksX1_prepare_3 10 rfl rfl)
theorem dX1_prepare_81 : decode cX1_prepare 81 = .ok (.iload 4, 2) := dk_21 4 (dk_at dksX1_prepare_3 11 rfl rfl)
theorem dX1_prepare_83 : decode cX1_prepare 83 = .ok (.aload_n 0, 1) := dk_42 (dk_at dksX1_prepare_3 13 rfl rfl)
theorem dX1_prepare_84 : decode cX1_prepare 84 = .ok (.getfield 67, 3) := dk_180 0 67 (dk_at dksX1_prepare_3 14 rfl rfl)
theorem dX1_prepare_87 : decode cX1_prepare 87 = .ok (.invokespecial 156, 3) := dk_183 0 156 (dk_at dksX1_prepare_3 17 rfl rfl)
theorem dX1_prepare_90 : decode cX1_prepare 90 = .ok (.invokevirtual 34, 3) := dk_182 0 34 (dk_at dksX1_prepare_3 20 rfl rfl)
theorem dX1_prepare_93 : decode cX1_prepare 93 = .ok (.pop, 1) := dk_87 (dk_at dksX1_prepare_3 23 rfl rfl)
theorem dX1_prepare_94 : decode cX1_prepare 94 = .ok (.aload_n 0, 1) := dk_42 (dk_at dksX1_prepare_4 0 rfl rfl)
theorem dX1_prepare_95 : decode cX1_prepare 95 = .ok (.getfield 19, 3) := dk_180 0 19 (dk_at dksX1_prepare_4 1 rfl rfl)
theorem dX1_prepare_98 : decode cX1_prepare 98 = .ok (.invokevirtual 47, 3) := dk_182 0 47 (dk_at dksX1_prepare_4 4 rfl rfl)
theorem dX1_prepare_101 : decode cX1_prepare 101 = .ok (.iconst 1, 1) := dk_4 (dk_at dksX1_prepare_4 7 rfl rfl)
theorem dX1_prepare_102 : decode cX1_prepare 102 = .ok (.isub, 1) := dk_100 (dk_at dksX1_prepare_4 8 rfl rfl)
theorem dX1_prepare_103 : decode cX1_prepare 103 = .ok (.ireturn, 1) := dk_172 (dk_at dksX1_prepare_4 9 rfl rfl)
abbrev cX1_knownPerson : ByteArray := prog_1_method_7_code
def yX1_knownPerson : MethodName := ⟨RX1, "knownPerson", "(I)V"⟩
def dkwX1_knownPerson_0 : List UInt8 := [26, 3, 7, 184, 0, 59, 184, 0, 51, 177]
abbrev dktX1_knownPerson_0 : List UInt8 := dkwX1_knownPerson_0 ++ []
theorem dksX1_knownPerson_0 : cX1_knownPerson.data.toList.drop 0 = dktX1_knownPerson_0 := by decide +kernel
theorem dX1_knownPerson_0 : decode cX1_knownPerson 0 = .ok (.iload_n 0, 1) := dk_26 (dk_at dksX1_knownPerson_0 0 rfl rfl)
theorem dX1_knownPerson_1 : decode cX1_knownPerson 1 = .ok (.iconst 0, 1) := dk_3 (dk_at dksX1_knownPerson_0 1 rfl rfl)
theorem dX1_knownPerson_2 : decode cX1_knownPerson 2 = .ok (.iconst 4, 1) := dk_7 (dk_at dksX1_knownPerson_0 2 rfl rfl)
theorem dX1_knownPerson_3 : decode cX1_knownPerson 3 = .ok (.invokestatic 59, 3) := dk_184 0 59 (dk_at dksX1_knownPerson_0 3 rfl rfl)
theorem dX1_knownPerson_6 : decode cX1_knownPerson 6 = .ok (.invokestatic 51, 3) := dk_184 0 51 (dk_at dksX1_knownPerson_0 6 rfl rfl)
theorem dX1_knownPerson_9 : decode cX1_knownPerson 9 = .ok (.return_, 1) := dk_177 (dk_at dksX1_knownPerson_0 9 rfl rfl)
abbrev cX1_release : ByteArray := prog_1_method_28_code
def yX1_release : MethodName := ⟨RX1, "release", "(II)I"⟩
def dkwX1_release_8 : List UInt8 := [3, 182, 0, 55, 192, 0, 29, 45, 180, 0, 168, 183, 0, 116, 182, 0, 117, 21, 5, 172]
abbrev dktX1_release_8 : List UInt8 := dkwX1_release_8 ++ []
def dkwX1_release_7 : List UInt8 := [180, 0, 168, 96, 181, 0, 202, 42, 187, 0, 114, 89, 42, 180, 0, 67, 45, 180, 0, 195, 42, 180, 0, 10]
abbrev dktX1_release_7 : List UInt8 := dkwX1_release_7 ++ dktX1_release_8
def dkwX1_release_6 : List UInt8 := [181, 0, 183, 21, 5, 154, 0, 60, 45, 178, 0, 199, 181, 0, 159, 45, 180, 0, 195, 89, 180, 0, 202, 45]
abbrev dktX1_release_6 : List UInt8 := dkwX1_release_6 ++ dktX1_release_7
def dkwX1_release_5 : List UInt8 := [180, 0, 168, 161, 0, 7, 4, 167, 0, 4, 3, 184, 0, 74, 45, 89, 180, 0, 183, 4, 28, 120, 128]
abbrev dktX1_release_5 : List UInt8 := dkwX1_release_5 ++ dktX1_release_6
def dkwX1_release_4 : List UInt8 := [54, 5, 21, 5, 157, 0, 25, 42, 4, 182, 0, 105, 153, 0, 21, 45, 180, 0, 195, 182, 0, 142, 45]
abbrev dktX1_release_4 : List UInt8 := dkwX1_release_4 ++ dktX1_release_5
def dkwX1_release_3 : List UInt8 := [153, 0, 7, 5, 167, 0, 4, 4, 54, 4, 3, 21, 4, 45, 182, 0, 189, 100, 4, 100, 184, 0, 192]
abbrev dktX1_release_3 : List UInt8 := dkwX1_release_3 ++ dktX1_release_4
def dkwX1_release_2 : List UInt8 := [167, 0, 4, 3, 184, 0, 74, 45, 180, 0, 168, 42, 180, 0, 25, 162, 0, 11, 42, 45, 182, 0, 186]
abbrev dktX1_release_2 : List UInt8 := dkwX1_release_2 ++ dktX1_release_3
def dkwX1_release_1 : List UInt8 := [166, 0, 26, 45, 180, 0, 180, 28, 159, 0, 18, 45, 180, 0, 183, 28, 122, 4, 126, 154, 0, 7, 4]
abbrev dktX1_release_1 : List UInt8 := dkwX1_release_1 ++ dktX1_release_2
def dkwX1_release_0 : List UInt8 := [42, 180, 0, 19, 27, 184, 0, 70, 192, 0, 154, 78, 28, 184, 0, 151, 45, 180, 0, 159, 178, 0, 177]
abbrev dktX1_release_0 : List UInt8 := dkwX1_release_0 ++ dktX1_release_1
theorem dksX1_release_0 : cX1_release.data.toList.drop 0 = dktX1_release_0 := by decide +kernel
theorem dksX1_release_1 : cX1_release.data.toList.drop 23 = dktX1_release_1 := dk_seg dksX1_release_0 23 rfl rfl
theorem dksX1_release_2 : cX1_release.data.toList.drop 46 = dktX1_release_2 := dk_seg dksX1_release_1 23 rfl rfl
theorem dksX1_release_3 : cX1_release.data.toList.drop 69 = dktX1_release_3 := dk_seg dksX1_release_2 23 rfl rfl
theorem dksX1_release_4 : cX1_release.data.toList.drop 92 = dktX1_release_4 := dk_seg dksX1_release_3 23 rfl rfl
theorem dksX1_release_5 : cX1_release.data.toList.drop 115 = dktX1_release_5 := dk_seg dksX1_release_4 23 rfl rfl
theorem dksX1_release_6 : cX1_release.data.toList.drop 138 = dktX1_release_6 := dk_seg dksX1_release_5 23 rfl rfl
theorem dksX1_release_7 : cX1_release.data.toList.drop 162 = dktX1_release_7 := dk_seg dksX1_release_6 24 rfl rfl
theorem dksX1_release_8 : cX1_release.data.toList.drop 186 = dktX1_release_8 := dk_seg dksX1_release_7 24 rfl rfl
theorem dX1_release_0 : decode cX1_release 0 = .ok (.aload_n 0, 1) := dk_42 (dk_at dksX1_release_0 0 rfl rfl)
theorem dX1_release_1 : decode cX1_release 1 = .ok (.getfield 19, 3) := dk_180 0 19 (dk_at dksX1_release_0 1 rfl rfl)
theorem dX1_release_4 : decode cX1_release 4 = .ok (.iload_n 1, 1) := dk_27 (dk_at dksX1_release_0 4 rfl rfl)
theorem dX1_release_5 : decode cX1_release 5 = .ok (.invokestatic 70, 3) := dk_184 0 70 (dk_at dksX1_release_0 5 rfl rfl)
theorem dX1_release_8 : decode cX1_release 8 = .ok (.checkcast 154, 3) := dk_192 0 154 (dk_at dksX1_release_0 8 rfl rfl)
theorem dX1_release_11 : decode cX1_release 11 = .ok (.astore_n 3, 1) := dk_78 (dk_at dksX1_release_0 11 rfl rfl)
theorem dX1_release_12 : decode cX1_release 12 = .ok (.iload_n 2, 1) := dk_28 (dk_at dksX1_release_0 12 rfl rfl)
theorem dX1_release_13 : decode cX1_release 13 = .ok (.invokestatic 151, 3) := dk_184 0 151 (dk_at dksX1_release_0 13 rfl rfl)
theorem dX1_release_16 : decode cX1_release 16 = .ok (.aload_n 3, 1) := dk_45 (dk_at dksX1_release_0 16 rfl rfl)
theorem dX1_release_17 : decode cX1_release 17 = .ok (.getfield 159, 3) := dk_180 0 159 (dk_at dksX1_release_0 17 rfl rfl)
theorem dX1_release_20 : decode cX1_release 20 = .ok (.getstatic 177, 3) := dk_178 0 177 (dk_at dksX1_release_0 20 rfl rfl)
theorem dX1_release_23 : decode cX1_release 23 = .ok (.if_acmp .ne 26, 3) := dk_166 0 26 (dk_at dksX1_release_1 0 rfl rfl)
theorem dX1_release_26 : decode cX1_release 26 = .ok (.aload_n 3, 1) := dk_45 (dk_at dksX1_release_1 3 rfl rfl)
theorem dX1_release_27 : decode cX1_release 27 = .ok (.getfield 180, 3) := dk_180 0 180 (dk_at dksX1_release_1 4 rfl rfl)
theorem dX1_release_30 : decode cX1_release 30 = .ok (.iload_n 2, 1) := dk_28 (dk_at dksX1_release_1 7 rfl rfl)
theorem dX1_release_31 : decode cX1_release 31 = .ok (.if_icmp .eq 18, 3) := dk_159 0 18 (dk_at dksX1_release_1 8 rfl rfl)
theorem dX1_release_34 : decode cX1_release 34 = .ok (.aload_n 3, 1) := dk_45 (dk_at dksX1_release_1 11 rfl rfl)
theorem dX1_release_35 : decode cX1_release 35 = .ok (.getfield 183, 3) := dk_180 0 183 (dk_at dksX1_release_1 12 rfl rfl)
theorem dX1_release_38 : decode cX1_release 38 = .ok (.iload_n 2, 1) := dk_28 (dk_at dksX1_release_1 15 rfl rfl)
theorem dX1_release_39 : decode cX1_release 39 = .ok (.ishr, 1) := dk_122 (dk_at dksX1_release_1 16 rfl rfl)
theorem dX1_release_40 : decode cX1_release 40 = .ok (.iconst 1, 1) := dk_4 (dk_at dksX1_release_1 17 rfl rfl)
theorem dX1_release_41 : decode cX1_release 41 = .ok (.iand, 1) := dk_126 (dk_at dksX1_release_1 18 rfl rfl)
theorem dX1_release_42 : decode cX1_release 42 = .ok (.ifCond .ne 7, 3) := dk_154 0 7 (dk_at dksX1_release_1 19 rfl rfl)
theorem dX1_release_45 : decode cX1_release 45 = .ok (.iconst 1, 1) := dk_4 (dk_at dksX1_release_1 22 rfl rfl)
theorem dX1_release_46 : decode cX1_release 46 = .ok (.goto 4, 3) := dk_167 0 4 (dk_at dksX1_release_2 0 rfl rfl)
theorem dX1_release_49 : decode cX1_release 49 = .ok (.iconst 0, 1) := dk_3 (dk_at dksX1_release_2 3 rfl rfl)
theorem dX1_release_50 : decode cX1_release 50 = .ok (.invokestatic 74, 3) := dk_184 0 74 (dk_at dksX1_release_2 4 rfl rfl)
theorem dX1_release_53 : decode cX1_release 53 = .ok (.aload_n 3, 1) := dk_45 (dk_at dksX1_release_2 7 rfl rfl)
theorem dX1_release_54 : decode cX1_release 54 = .ok (.getfield 168, 3) := dk_180 0 168 (dk_at dksX1_release_2 8 rfl rfl)
theorem dX1_release_57 : decode cX1_release 57 = .ok (.aload_n 0, 1) := dk_42 (dk_at dksX1_release_2 11 rfl rfl)
theorem dX1_release_58 : decode cX1_release 58 = .ok (.getfield 25, 3) := dk_180 0 25 (dk_at dksX1_release_2 12 rfl rfl)
theorem dX1_release_61 : decode cX1_release 61 = .ok (.if_icmp .ge 11, 3) := dk_162 0 11 (dk_at dksX1_release_2 15 rfl rfl)
theorem dX1_release_64 : decode cX1_release 64 = .ok (.aload_n 0, 1) := dk_42 (dk_at dksX1_release_2 18 rfl rfl)
theorem dX1_release_65 : decode cX1_release 65 = .ok (.aload_n 3, 1) := dk_45 (dk_at dksX1_release_2 19 rfl rfl)
theorem dX1_release_66 : decode cX1_release 66 = .ok (.invokevirtual 186, 3) := dk_182 0 186 (dk_at dksX1_release_2 20 rfl rfl)
theorem dX1_release_69 : decode cX1_release 69 = .ok (.ifCond .eq 7, 3) := dk_153 0 7 (dk_at dksX1_release_3 0 rfl rfl)
theorem dX1_release_72 : decode cX1_release 72 = .ok (.iconst 2, 1) := dk_5 (dk_at dksX1_release_3 3 rfl rfl)
theorem dX1_release_73 : decode cX1_release 73 = .ok (.goto 4, 3) := dk_167 0 4 (dk_at dksX1_release_3 4 rfl rfl)
theorem dX1_release_76 : decode cX1_release 76 = .ok (.iconst 1, 1) := dk_4 (dk_at dksX1_release_3 7 rfl rfl)
theorem dX1_release_77 : decode cX1_release 77 = .ok (.istore 4, 2) := dk_54 4 (dk_at dksX1_release_3 8 rfl rfl)
theorem dX1_release_79 : decode cX1_release 79 = .ok (.iconst 0, 1) := dk_3 (dk_at dksX1_release_3 10 rfl rfl)
theorem dX1_release_80 : decode cX1_release 80 = .ok (.iload 4, 2) := dk_21 4 (dk_at dksX1_release_3 11 rfl rfl)
theorem dX1_release_82 : decode cX1_release 82 = .ok (.aload_n 3, 1) := dk_45 (dk_at dksX1_release_3 13 rfl rfl)
theorem dX1_release_83 : decode cX1_release 83 = .ok (.invokevirtual 189, 3) := dk_182 0 189 (dk_at dksX1_release_3 14 rfl rfl)
theorem dX1_release_86 : decode cX1_release 86 = .ok (.isub, 1) := dk_100 (dk_at dksX1_release_3 17 rfl rfl)
theorem dX1_release_87 : decode cX1_release 87 = .ok (.iconst 1, 1) := dk_4 (dk_at dksX1_release_3 18 rfl rfl)
theorem dX1_release_88 : decode cX1_release 88 = .ok (.isub, 1) := dk_100 (dk_at dksX1_release_3 19 rfl rfl)
theorem dX1_release_89 : decode cX1_release 89 = .ok (.invokestatic 192, 3) := dk_184 0 192 (dk_at dksX1_release_3 20 rfl rfl)
theorem dX1_release_92 : decode cX1_release 92 = .ok (.istore 5, 2) := dk_54 5 (dk_at dksX1_release_4 0 rfl rfl)
theorem dX1_release_94 : decode cX1_release 94 = .ok (.iload 5, 2) := dk_21 5 (dk_at dksX1_release_4 2 rfl rfl)
theorem dX1_release_96 : decode cX1_release 96 = .ok (.ifCond .gt 25, 3) := dk_157 0 25 (dk_at dksX1_release_4 4 rfl rfl)
theorem dX1_release_99 : decode cX1_release 99 = .ok (.aload_n 0, 1) := dk_42 (dk_at dksX1_release_4 7 rfl rfl)
theorem dX1_release_100 : decode cX1_release 100 = .ok (.iconst 1, 1) := dk_4 (dk_at dksX1_release_4 8 rfl rfl)
theorem dX1_release_101 : decode cX1_release 101 = .ok (.invokevirtual 105, 3) := dk_182 0 105 (dk_at dksX1_release_4 9 rfl rfl)
theorem dX1_release_104 : decode cX1_release 104 = .ok (.ifCond .eq 21, 3) := dk_153 0 21 (dk_at dksX1_release_4 12 rfl rfl)
theorem dX1_release_107 : decode cX1_release 107 = .ok (.aload_n 3, 1) := dk_45 (dk_at dksX1_release_4 15 rfl rfl)
theorem dX1_release_108 : decode cX1_release 108 = .ok (.getfield 195, 3) := dk_180 0 195 (dk_at dksX1_release_4 16 rfl rfl)
theorem dX1_release_111 : decode cX1_release 111 = .ok (.invokevirtual 142, 3) := dk_182 0 142 (dk_at dksX1_release_4 19 rfl rfl)
theorem dX1_release_114 : decode cX1_release 114 = .ok (.aload_n 3, 1) := dk_45 (dk_at dksX1_release_4 22 rfl rfl)
theorem dX1_release_115 : decode cX1_release 115 = .ok (.getfield 168, 3) := dk_180 0 168 (dk_at dksX1_release_5 0 rfl rfl)
theorem dX1_release_118 : decode cX1_release 118 = .ok (.if_icmp .lt 7, 3) := dk_161 0 7 (dk_at dksX1_release_5 3 rfl rfl)
theorem dX1_release_121 : decode cX1_release 121 = .ok (.iconst 1, 1) := dk_4 (dk_at dksX1_release_5 6 rfl rfl)
theorem dX1_release_122 : decode cX1_release 122 = .ok (.goto 4, 3) := dk_167 0 4 (dk_at dksX1_release_5 7 rfl rfl)
theorem dX1_release_125 : decode cX1_release 125 = .ok (.iconst 0, 1) := dk_3 (dk_at dksX1_release_5 10 rfl rfl)
theorem dX1_release_126 : decode cX1_release 126 = .ok (.invokestatic 74, 3) := dk_184 0 74 (dk_at dksX1_release_5 11 rfl rfl)
theorem dX1_release_129 : decode cX1_release 129 = .ok (.aload_n 3, 1) := dk_45 (dk_at dksX1_release_5 14 rfl rfl)
theorem dX1_release_130 : decode cX1_release 130 = .ok (.dup, 1) := dk_89 (dk_at dksX1_release_5 15 rfl rfl)
theorem dX1_release_131 : decode cX1_release 131 = .ok (.getfield 183, 3) := dk_180 0 183 (dk_at dksX1_release_5 16 rfl rfl)
theorem dX1_release_134 : decode cX1_release 134 = .ok (.iconst 1, 1) := dk_4 (dk_at dksX1_release_5 19 rfl rfl)
theorem dX1_release_135 : decode cX1_release 135 = .ok (.iload_n 2, 1) := dk_28 (dk_at dksX1_release_5 20 rfl rfl)
theorem dX1_release_136 : decode cX1_release 136 = .ok (.ishl, 1) := dk_120 (dk_at dksX1_release_5 21 rfl rfl)
theorem dX1_release_137 : decode cX1_release 137 = .ok (.ior, 1) := dk_128 (dk_at dksX1_release_5 22 rfl rfl)
theorem dX1_release_138 : decode cX1_release 138 = .ok (.putfield 183, 3) := dk_181 0 183 (dk_at dksX1_release_6 0 rfl rfl)
theorem dX1_release_141 : decode cX1_release 141 = .ok (.iload 5, 2) := dk_21 5 (dk_at dksX1_release_6 3 rfl rfl)
theorem dX1_release_143 : decode cX1_release 143 = .ok (.ifCond .ne 60, 3) := dk_154 0 60 (dk_at dksX1_release_6 5 rfl rfl)
theorem dX1_release_146 : decode cX1_release 146 = .ok (.aload_n 3, 1) := dk_45 (dk_at dksX1_release_6 8 rfl rfl)
theorem dX1_release_147 : decode cX1_release 147 = .ok (.getstatic 199, 3) := dk_178 0 199 (dk_at dksX1_release_6 9 rfl rfl)
theorem dX1_release_150 : decode cX1_release 150 = .ok (.putfield 159, 3) := dk_181 0 159 (dk_at dksX1_release_6 12 rfl rfl)
theorem dX1_release_153 : decode cX1_release 153 = .ok (.aload_n 3, 1) := dk_45 (dk_at dksX1_release_6 15 rfl rfl)
theorem dX1_release_154 : decode cX1_release 154 = .ok (.getfield 195, 3) := dk_180 0 195 (dk_at dksX1_release_6 16 rfl rfl)
theorem dX1_release_157 : decode cX1_release 157 = .ok (.dup, 1) := dk_89 (dk_at dksX1_release_6 19 rfl rfl)
theorem dX1_release_158 : decode cX1_release 158 = .ok (.getfield 202, 3) := dk_180 0 202 (dk_at dksX1_release_6 20 rfl rfl)
theorem dX1_release_161 : decode cX1_release 161 = .ok (.aload_n 3, 1) := dk_45 (dk_at dksX1_release_6 23 rfl rfl)
theorem dX1_release_162 : decode cX1_release 162 = .ok (.getfield 168, 3) := dk_180 0 168 (dk_at dksX1_release_7 0 rfl rfl)
theorem dX1_release_165 : decode cX1_release 165 = .ok (.iadd, 1) := dk_96 (dk_at dksX1_release_7 3 rfl rfl)
theorem dX1_release_166 : decode cX1_release 166 = .ok (.putfield 202, 3) := dk_181 0 202 (dk_at dksX1_release_7 4 rfl rfl)
theorem dX1_release_169 : decode cX1_release 169 = .ok (.aload_n 0, 1) := dk_42 (dk_at dksX1_release_7 7 rfl rfl)
theorem dX1_release_170 : decode cX1_release 170 = .ok (.new 114, 3) := dk_187 0 114 (dk_at dksX1_release_7 8 rfl rfl)
theorem dX1_release_173 : decode cX1_release 173 = .ok (.dup, 1) := dk_89 (dk_at dksX1_release_7 11 rfl rfl)
theorem dX1_release_174 : decode cX1_release 174 = .ok (.aload_n 0, 1) := dk_42 (dk_at dksX1_release_7 12 rfl rfl)
theorem dX1_release_175 : decode cX1_release 175 = .ok (.getfield 67, 3) := dk_180 0 67 (dk_at dksX1_release_7 13 rfl rfl)
theorem dX1_release_178 : decode cX1_release 178 = .ok (.aload_n 3, 1) := dk_45 (dk_at dksX1_release_7 16 rfl rfl)
theorem dX1_release_179 : decode cX1_release 179 = .ok (.getfield 195, 3) := dk_180 0 195 (dk_at dksX1_release_7 17 rfl rfl)
theorem dX1_release_182 : decode cX1_release 182 = .ok (.aload_n 0, 1) := dk_42 (dk_at dksX1_release_7 20 rfl rfl)
theorem dX1_release_183 : decode cX1_release 183 = .ok (.getfield 10, 3) := dk_180 0 10 (dk_at dksX1_release_7 21 rfl rfl)
theorem dX1_release_186 : decode cX1_release 186 = .ok (.iconst 0, 1) := dk_3 (dk_at dksX1_release_8 0 rfl rfl)
theorem dX1_release_187 : decode cX1_release 187 = .ok (.invokevirtual 55, 3) := dk_182 0 55 (dk_at dksX1_release_8 1 rfl rfl)
theorem dX1_release_190 : decode cX1_release 190 = .ok (.checkcast 29, 3) := dk_192 0 29 (dk_at dksX1_release_8 4 rfl rfl)
theorem dX1_release_193 : decode cX1_release 193 = .ok (.aload_n 3, 1) := dk_45 (dk_at dksX1_release_8 7 rfl rfl)
theorem dX1_release_194 : decode cX1_release 194 = .ok (.getfield 168, 3) := dk_180 0 168 (dk_at dksX1_release_8 8 rfl rfl)
theorem dX1_release_197 : decode cX1_release 197 = .ok (.invokespecial 116, 3) := dk_183 0 116 (dk_at dksX1_release_8 11 rfl rfl)
theorem dX1_release_200 : decode cX1_release 200 = .ok (.invokevirtual 117, 3) := dk_182 0 117 (dk_at dksX1_release_8 14 rfl rfl)
theorem dX1_release_203 : decode cX1_release 203 = .ok (.iload 5, 2) := dk_21 5 (dk_at dksX1_release_8 17 rfl rfl)
theorem dX1_release_205 : decode cX1_release 205 = .ok (.ireturn, 1) := dk_172 (dk_at dksX1_release_8 19 rfl rfl)
abbrev cX1_wasSplit : ByteArray := prog_1_method_27_code
def yX1_wasSplit : MethodName := ⟨RX1, "wasSplit", "(LTownPurse$Payment;)Z"⟩
def dkwX1_wasSplit_3 : List UInt8 := [153, 0, 15, 28, 42, 180, 0, 25, 161, 0, 7, 4, 167, 0, 4, 3, 172]
abbrev dktX1_wasSplit_3 : List UInt8 := dkwX1_wasSplit_3 ++ []
def dkwX1_wasSplit_2 : List UInt8 := [25, 4, 180, 0, 168, 167, 0, 4, 3, 96, 61, 132, 3, 1, 167, 255, 199, 42, 43, 182, 0, 170]
abbrev dktX1_wasSplit_2 : List UInt8 := dkwX1_wasSplit_2 ++ dktX1_wasSplit_3
def dkwX1_wasSplit_1 : List UInt8 := [192, 0, 154, 58, 4, 28, 42, 25, 4, 182, 0, 170, 153, 0, 20, 25, 4, 43, 182, 0, 174, 153, 0, 11]
abbrev dktX1_wasSplit_1 : List UInt8 := dkwX1_wasSplit_1 ++ dktX1_wasSplit_2
def dkwX1_wasSplit_0 : List UInt8 := [3, 61, 3, 62, 29, 42, 180, 0, 19, 182, 0, 47, 162, 0, 52, 42, 180, 0, 19, 29, 182, 0, 55]
abbrev dktX1_wasSplit_0 : List UInt8 := dkwX1_wasSplit_0 ++ dktX1_wasSplit_1
theorem dksX1_wasSplit_0 : cX1_wasSplit.data.toList.drop 0 = dktX1_wasSplit_0 := by decide +kernel
theorem dksX1_wasSplit_1 : cX1_wasSplit.data.toList.drop 23 = dktX1_wasSplit_1 := dk_seg dksX1_wasSplit_0 23 rfl rfl
theorem dksX1_wasSplit_2 : cX1_wasSplit.data.toList.drop 47 = dktX1_wasSplit_2 := dk_seg dksX1_wasSplit_1 24 rfl rfl
theorem dksX1_wasSplit_3 : cX1_wasSplit.data.toList.drop 69 = dktX1_wasSplit_3 := dk_seg dksX1_wasSplit_2 22 rfl rfl
theorem dX1_wasSplit_0 : decode cX1_wasSplit 0 = .ok (.iconst 0, 1) := dk_3 (dk_at dksX1_wasSplit_0 0 rfl rfl)
theorem dX1_wasSplit_1 : decode cX1_wasSplit 1 = .ok (.istore_n 2, 1) := dk_61 (dk_at dksX1_wasSplit_0 1 rfl rfl)
theorem dX1_wasSplit_2 : decode cX1_wasSplit 2 = .ok (.iconst 0, 1) := dk_3 (dk_at dksX1_wasSplit_0 2 rfl rfl)
theorem dX1_wasSplit_3 : decode cX1_wasSplit 3 = .ok (.istore_n 3, 1) := dk_62 (dk_at dksX1_wasSplit_0 3 rfl rfl)
theorem dX1_wasSplit_4 : decode cX1_wasSplit 4 = .ok (.iload_n 3, 1) := dk_29 (dk_at dksX1_wasSplit_0 4 rfl rfl)
theorem dX1_wasSplit_5 : decode cX1_wasSplit 5 = .ok (.aload_n 0, 1) := dk_42 (dk_at dksX1_wasSplit_0 5 rfl rfl)
theorem dX1_wasSplit_6 : decode cX1_wasSplit 6 = .ok (.getfield 19, 3) := dk_180 0 19 (dk_at dksX1_wasSplit_0 6 rfl rfl)
theorem dX1_wasSplit_9 : decode cX1_wasSplit 9 = .ok (.invokevirtual 47, 3) := dk_182 0 47 (dk_at dksX1_wasSplit_0 9 rfl rfl)
theorem dX1_wasSplit_12 : decode cX1_wasSplit 12 = .ok (.if_icmp .ge 52, 3) := dk_162 0 52 (dk_at dksX1_wasSplit_0 12 rfl rfl)
theorem dX1_wasSplit_15 : decode cX1_wasSplit 15 = .ok (.aload_n 0, 1) := dk_42 (dk_at dksX1_wasSplit_0 15 rfl rfl)
theorem dX1_wasSplit_16 : decode cX1_wasSplit 16 = .ok (.getfield 19, 3) := dk_180 0 19 (dk_at dksX1_wasSplit_0 16 rfl rfl)
theorem dX1_wasSplit_19 : decode cX1_wasSplit 19 = .ok (.iload_n 3, 1) := dk_29 (dk_at dksX1_wasSplit_0 19 rfl rfl)
theorem dX1_wasSplit_20 : decode cX1_wasSplit 20 = .ok (.invokevirtual 55, 3) := dk_182 0 55 (dk_at dksX1_wasSplit_0 20 rfl rfl)
theorem dX1_wasSplit_23 : decode cX1_wasSplit 23 = .ok (.checkcast 154, 3) := dk_192 0 154 (dk_at dksX1_wasSplit_1 0 rfl rfl)
theorem dX1_wasSplit_26 : decode cX1_wasSplit 26 = .ok (.astore 4, 2) := dk_58 4 (dk_at dksX1_wasSplit_1 3 rfl rfl)
theorem dX1_wasSplit_28 : decode cX1_wasSplit 28 = .ok (.iload_n 2, 1) := dk_28 (dk_at dksX1_wasSplit_1 5 rfl rfl)
theorem dX1_wasSplit_29 : decode cX1_wasSplit 29 = .ok (.aload_n 0, 1) := dk_42 (dk_at dksX1_wasSplit_1 6 rfl rfl)
theorem dX1_wasSplit_30 : decode cX1_wasSplit 30 = .ok (.aload 4, 2) := dk_25 4 (dk_at dksX1_wasSplit_1 7 rfl rfl)
theorem dX1_wasSplit_32 : decode cX1_wasSplit 32 = .ok (.invokevirtual 170, 3) := dk_182 0 170 (dk_at dksX1_wasSplit_1 9 rfl rfl)
theorem dX1_wasSplit_35 : decode cX1_wasSplit 35 = .ok (.ifCond .eq 20, 3) := dk_153 0 20 (dk_at dksX1_wasSplit_1 12 rfl rfl)
theorem dX1_wasSplit_38 : decode cX1_wasSplit 38 = .ok (.aload 4, 2) := dk_25 4 (dk_at dksX1_wasSplit_1 15 rfl rfl)
theorem dX1_wasSplit_40 : decode cX1_wasSplit 40 = .ok (.aload_n 1, 1) := dk_43 (dk_at dksX1_wasSplit_1 17 rfl rfl)
theorem dX1_wasSplit_41 : decode cX1_wasSplit 41 = .ok (.invokevirtual 174, 3) := dk_182 0 174 (dk_at dksX1_wasSplit_1 18 rfl rfl)
theorem dX1_wasSplit_44 : decode cX1_wasSplit 44 = .ok (.ifCond .eq 11, 3) := dk_153 0 11 (dk_at dksX1_wasSplit_1 21 rfl rfl)
theorem dX1_wasSplit_47 : decode cX1_wasSplit 47 = .ok (.aload 4, 2) := dk_25 4 (dk_at dksX1_wasSplit_2 0 rfl rfl)
theorem dX1_wasSplit_49 : decode cX1_wasSplit 49 = .ok (.getfield 168, 3) := dk_180 0 168 (dk_at dksX1_wasSplit_2 2 rfl rfl)
theorem dX1_wasSplit_52 : decode cX1_wasSplit 52 = .ok (.goto 4, 3) := dk_167 0 4 (dk_at dksX1_wasSplit_2 5 rfl rfl)
theorem dX1_wasSplit_55 : decode cX1_wasSplit 55 = .ok (.iconst 0, 1) := dk_3 (dk_at dksX1_wasSplit_2 8 rfl rfl)
theorem dX1_wasSplit_56 : decode cX1_wasSplit 56 = .ok (.iadd, 1) := dk_96 (dk_at dksX1_wasSplit_2 9 rfl rfl)
theorem dX1_wasSplit_57 : decode cX1_wasSplit 57 = .ok (.istore_n 2, 1) := dk_61 (dk_at dksX1_wasSplit_2 10 rfl rfl)
theorem dX1_wasSplit_58 : decode cX1_wasSplit 58 = .ok (.iinc 3 1, 3) := dk_132 3 1 (dk_at dksX1_wasSplit_2 11 rfl rfl)
theorem dX1_wasSplit_61 : decode cX1_wasSplit 61 = .ok (.goto (-57), 3) := dk_167 255 199 (dk_at dksX1_wasSplit_2 14 rfl rfl)
theorem dX1_wasSplit_64 : decode cX1_wasSplit 64 = .ok (.aload_n 0, 1) := dk_42 (dk_at dksX1_wasSplit_2 17 rfl rfl)
theorem dX1_wasSplit_65 : decode cX1_wasSplit 65 = .ok (.aload_n 1, 1) := dk_43 (dk_at dksX1_wasSplit_2 18 rfl rfl)
theorem dX1_wasSplit_66 : decode cX1_wasSplit 66 = .ok (.invokevirtual 170, 3) := dk_182 0 170 (dk_at dksX1_wasSplit_2 19 rfl rfl)
theorem dX1_wasSplit_69 : decode cX1_wasSplit 69 = .ok (.ifCond .eq 15, 3) := dk_153 0 15 (dk_at dksX1_wasSplit_3 0 rfl rfl)
theorem dX1_wasSplit_72 : decode cX1_wasSplit 72 = .ok (.iload_n 2, 1) := dk_28 (dk_at dksX1_wasSplit_3 3 rfl rfl)
theorem dX1_wasSplit_73 : decode cX1_wasSplit 73 = .ok (.aload_n 0, 1) := dk_42 (dk_at dksX1_wasSplit_3 4 rfl rfl)
theorem dX1_wasSplit_74 : decode cX1_wasSplit 74 = .ok (.getfield 25, 3) := dk_180 0 25 (dk_at dksX1_wasSplit_3 5 rfl rfl)
theorem dX1_wasSplit_77 : decode cX1_wasSplit 77 = .ok (.if_icmp .lt 7, 3) := dk_161 0 7 (dk_at dksX1_wasSplit_3 8 rfl rfl)
theorem dX1_wasSplit_80 : decode cX1_wasSplit 80 = .ok (.iconst 1, 1) := dk_4 (dk_at dksX1_wasSplit_3 11 rfl rfl)
theorem dX1_wasSplit_81 : decode cX1_wasSplit 81 = .ok (.goto 4, 3) := dk_167 0 4 (dk_at dksX1_wasSplit_3 12 rfl rfl)
theorem dX1_wasSplit_84 : decode cX1_wasSplit 84 = .ok (.iconst 0, 1) := dk_3 (dk_at dksX1_wasSplit_3 15 rfl rfl)
theorem dX1_wasSplit_85 : decode cX1_wasSplit 85 = .ok (.ireturn, 1) := dk_172 (dk_at dksX1_wasSplit_3 16 rfl rfl)
abbrev cX1_isBelow : ByteArray := prog_1_method_26_code
def yX1_isBelow : MethodName := ⟨RX1, "isBelow", "(LTownPurse$Payment;)Z"⟩
def dkwX1_isBelow_1 : List UInt8 := [167, 0, 4, 3, 172]
abbrev dktX1_isBelow_1 : List UInt8 := dkwX1_isBelow_1 ++ []
def dkwX1_isBelow_0 : List UInt8 := [43, 180, 0, 159, 182, 0, 163, 153, 0, 18, 43, 180, 0, 168, 42, 180, 0, 25, 162, 0, 7, 4]
abbrev dktX1_isBelow_0 : List UInt8 := dkwX1_isBelow_0 ++ dktX1_isBelow_1
theorem dksX1_isBelow_0 : cX1_isBelow.data.toList.drop 0 = dktX1_isBelow_0 := by decide +kernel
theorem dksX1_isBelow_1 : cX1_isBelow.data.toList.drop 22 = dktX1_isBelow_1 := dk_seg dksX1_isBelow_0 22 rfl rfl
theorem dX1_isBelow_0 : decode cX1_isBelow 0 = .ok (.aload_n 1, 1) := dk_43 (dk_at dksX1_isBelow_0 0 rfl rfl)
theorem dX1_isBelow_1 : decode cX1_isBelow 1 = .ok (.getfield 159, 3) := dk_180 0 159 (dk_at dksX1_isBelow_0 1 rfl rfl)
theorem dX1_isBelow_4 : decode cX1_isBelow 4 = .ok (.invokevirtual 163, 3) := dk_182 0 163 (dk_at dksX1_isBelow_0 4 rfl rfl)
theorem dX1_isBelow_7 : decode cX1_isBelow 7 = .ok (.ifCond .eq 18, 3) := dk_153 0 18 (dk_at dksX1_isBelow_0 7 rfl rfl)
theorem dX1_isBelow_10 : decode cX1_isBelow 10 = .ok (.aload_n 1, 1) := dk_43 (dk_at dksX1_isBelow_0 10 rfl rfl)
theorem dX1_isBelow_11 : decode cX1_isBelow 11 = .ok (.getfield 168, 3) := dk_180 0 168 (dk_at dksX1_isBelow_0 11 rfl rfl)
theorem dX1_isBelow_14 : decode cX1_isBelow 14 = .ok (.aload_n 0, 1) := dk_42 (dk_at dksX1_isBelow_0 14 rfl rfl)
theorem dX1_isBelow_15 : decode cX1_isBelow 15 = .ok (.getfield 25, 3) := dk_180 0 25 (dk_at dksX1_isBelow_0 15 rfl rfl)
theorem dX1_isBelow_18 : decode cX1_isBelow 18 = .ok (.if_icmp .ge 7, 3) := dk_162 0 7 (dk_at dksX1_isBelow_0 18 rfl rfl)
theorem dX1_isBelow_21 : decode cX1_isBelow 21 = .ok (.iconst 1, 1) := dk_4 (dk_at dksX1_isBelow_0 21 rfl rfl)
theorem dX1_isBelow_22 : decode cX1_isBelow 22 = .ok (.goto 4, 3) := dk_167 0 4 (dk_at dksX1_isBelow_1 0 rfl rfl)
theorem dX1_isBelow_25 : decode cX1_isBelow 25 = .ok (.iconst 0, 1) := dk_3 (dk_at dksX1_isBelow_1 3 rfl rfl)
theorem dX1_isBelow_26 : decode cX1_isBelow 26 = .ok (.ireturn, 1) := dk_172 (dk_at dksX1_isBelow_1 4 rfl rfl)
abbrev cX1_refuse : ByteArray := prog_1_method_30_code
def yX1_refuse : MethodName := ⟨RX1, "refuse", "(I)I"⟩
def dkwX1_refuse_2 : List UInt8 := [182, 0, 205, 100, 172]
abbrev dktX1_refuse_2 : List UInt8 := dkwX1_refuse_2 ++ []
def dkwX1_refuse_1 : List UInt8 := [167, 0, 4, 3, 184, 0, 74, 42, 44, 182, 0, 205, 62, 44, 178, 0, 209, 181, 0, 159, 29, 42, 44]
abbrev dktX1_refuse_1 : List UInt8 := dkwX1_refuse_1 ++ dktX1_refuse_2
def dkwX1_refuse_0 : List UInt8 := [42, 180, 0, 19, 27, 184, 0, 70, 192, 0, 154, 77, 44, 180, 0, 159, 178, 0, 177, 166, 0, 7, 4]
abbrev dktX1_refuse_0 : List UInt8 := dkwX1_refuse_0 ++ dktX1_refuse_1
theorem dksX1_refuse_0 : cX1_refuse.data.toList.drop 0 = dktX1_refuse_0 := by decide +kernel
theorem dksX1_refuse_1 : cX1_refuse.data.toList.drop 23 = dktX1_refuse_1 := dk_seg dksX1_refuse_0 23 rfl rfl
theorem dksX1_refuse_2 : cX1_refuse.data.toList.drop 46 = dktX1_refuse_2 := dk_seg dksX1_refuse_1 23 rfl rfl
theorem dX1_refuse_0 : decode cX1_refuse 0 = .ok (.aload_n 0, 1) := dk_42 (dk_at dksX1_refuse_0 0 rfl rfl)
theorem dX1_refuse_1 : decode cX1_refuse 1 = .ok (.getfield 19, 3) := dk_180 0 19 (dk_at dksX1_refuse_0 1 rfl rfl)
theorem dX1_refuse_4 : decode cX1_refuse 4 = .ok (.iload_n 1, 1) := dk_27 (dk_at dksX1_refuse_0 4 rfl rfl)
theorem dX1_refuse_5 : decode cX1_refuse 5 = .ok (.invokestatic 70, 3) := dk_184 0 70 (dk_at dksX1_refuse_0 5 rfl rfl)
theorem dX1_refuse_8 : decode cX1_refuse 8 = .ok (.checkcast 154, 3) := dk_192 0 154 (dk_at dksX1_refuse_0 8 rfl rfl)
theorem dX1_refuse_11 : decode cX1_refuse 11 = .ok (.astore_n 2, 1) := dk_77 (dk_at dksX1_refuse_0 11 rfl rfl)
theorem dX1_refuse_12 : decode cX1_refuse 12 = .ok (.aload_n 2, 1) := dk_44 (dk_at dksX1_refuse_0 12 rfl rfl)
theorem dX1_refuse_13 : decode cX1_refuse 13 = .ok (.getfield 159, 3) := dk_180 0 159 (dk_at dksX1_refuse_0 13 rfl rfl)
theorem dX1_refuse_16 : decode cX1_refuse 16 = .ok (.getstatic 177, 3) := dk_178 0 177 (dk_at dksX1_refuse_0 16 rfl rfl)
theorem dX1_refuse_19 : decode cX1_refuse 19 = .ok (.if_acmp .ne 7, 3) := dk_166 0 7 (dk_at dksX1_refuse_0 19 rfl rfl)
theorem dX1_refuse_22 : decode cX1_refuse 22 = .ok (.iconst 1, 1) := dk_4 (dk_at dksX1_refuse_0 22 rfl rfl)
theorem dX1_refuse_23 : decode cX1_refuse 23 = .ok (.goto 4, 3) := dk_167 0 4 (dk_at dksX1_refuse_1 0 rfl rfl)
theorem dX1_refuse_26 : decode cX1_refuse 26 = .ok (.iconst 0, 1) := dk_3 (dk_at dksX1_refuse_1 3 rfl rfl)
theorem dX1_refuse_27 : decode cX1_refuse 27 = .ok (.invokestatic 74, 3) := dk_184 0 74 (dk_at dksX1_refuse_1 4 rfl rfl)
theorem dX1_refuse_30 : decode cX1_refuse 30 = .ok (.aload_n 0, 1) := dk_42 (dk_at dksX1_refuse_1 7 rfl rfl)
theorem dX1_refuse_31 : decode cX1_refuse 31 = .ok (.aload_n 2, 1) := dk_44 (dk_at dksX1_refuse_1 8 rfl rfl)
theorem dX1_refuse_32 : decode cX1_refuse 32 = .ok (.invokevirtual 205, 3) := dk_182 0 205 (dk_at dksX1_refuse_1 9 rfl rfl)
theorem dX1_refuse_35 : decode cX1_refuse 35 = .ok (.istore_n 3, 1) := dk_62 (dk_at dksX1_refuse_1 12 rfl rfl)
theorem dX1_refuse_36 : decode cX1_refuse 36 = .ok (.aload_n 2, 1) := dk_44 (dk_at dksX1_refuse_1 13 rfl rfl)
theorem dX1_refuse_37 : decode cX1_refuse 37 = .ok (.getstatic 209, 3) := dk_178 0 209 (dk_at dksX1_refuse_1 14 rfl rfl)
theorem dX1_refuse_40 : decode cX1_refuse 40 = .ok (.putfield 159, 3) := dk_181 0 159 (dk_at dksX1_refuse_1 17 rfl rfl)
theorem dX1_refuse_43 : decode cX1_refuse 43 = .ok (.iload_n 3, 1) := dk_29 (dk_at dksX1_refuse_1 20 rfl rfl)
theorem dX1_refuse_44 : decode cX1_refuse 44 = .ok (.aload_n 0, 1) := dk_42 (dk_at dksX1_refuse_1 21 rfl rfl)
theorem dX1_refuse_45 : decode cX1_refuse 45 = .ok (.aload_n 2, 1) := dk_44 (dk_at dksX1_refuse_1 22 rfl rfl)
theorem dX1_refuse_46 : decode cX1_refuse 46 = .ok (.invokevirtual 205, 3) := dk_182 0 205 (dk_at dksX1_refuse_2 0 rfl rfl)
theorem dX1_refuse_49 : decode cX1_refuse 49 = .ok (.isub, 1) := dk_100 (dk_at dksX1_refuse_2 3 rfl rfl)
theorem dX1_refuse_50 : decode cX1_refuse 50 = .ok (.ireturn, 1) := dk_172 (dk_at dksX1_refuse_2 4 rfl rfl)
abbrev cX1_countSplit : ByteArray := prog_1_method_29_code
def yX1_countSplit : MethodName := ⟨RX1, "countSplit", "(LTownPurse$Payment;)I"⟩
def dkwX1_countSplit_2 : List UInt8 := [167, 0, 4, 3, 96, 61, 132, 3, 1, 167, 255, 204, 28, 172]
abbrev dktX1_countSplit_2 : List UInt8 := dkwX1_countSplit_2 ++ []
def dkwX1_countSplit_1 : List UInt8 := [43, 165, 0, 25, 42, 42, 180, 0, 19, 29, 182, 0, 55, 192, 0, 154, 182, 0, 186, 153, 0, 7, 4]
abbrev dktX1_countSplit_1 : List UInt8 := dkwX1_countSplit_1 ++ dktX1_countSplit_2
def dkwX1_countSplit_0 : List UInt8 := [3, 61, 3, 62, 29, 42, 180, 0, 19, 182, 0, 47, 162, 0, 47, 28, 42, 180, 0, 19, 29, 182, 0, 55]
abbrev dktX1_countSplit_0 : List UInt8 := dkwX1_countSplit_0 ++ dktX1_countSplit_1
theorem dksX1_countSplit_0 : cX1_countSplit.data.toList.drop 0 = dktX1_countSplit_0 := by decide +kernel
theorem dksX1_countSplit_1 : cX1_countSplit.data.toList.drop 24 = dktX1_countSplit_1 := dk_seg dksX1_countSplit_0 24 rfl rfl
theorem dksX1_countSplit_2 : cX1_countSplit.data.toList.drop 47 = dktX1_countSplit_2 := dk_seg dksX1_countSplit_1 23 rfl rfl
theorem dX1_countSplit_0 : decode cX1_countSplit 0 = .ok (.iconst 0, 1) := dk_3 (dk_at dksX1_countSplit_0 0 rfl rfl)
theorem dX1_countSplit_1 : decode cX1_countSplit 1 = .ok (.istore_n 2, 1) := dk_61 (dk_at dksX1_countSplit_0 1 rfl rfl)
theorem dX1_countSplit_2 : decode cX1_countSplit 2 = .ok (.iconst 0, 1) := dk_3 (dk_at dksX1_countSplit_0 2 rfl rfl)
theorem dX1_countSplit_3 : decode cX1_countSplit 3 = .ok (.istore_n 3, 1) := dk_62 (dk_at dksX1_countSplit_0 3 rfl rfl)
theorem dX1_countSplit_4 : decode cX1_countSplit 4 = .ok (.iload_n 3, 1) := dk_29 (dk_at dksX1_countSplit_0 4 rfl rfl)
theorem dX1_countSplit_5 : decode cX1_countSplit 5 = .ok (.aload_n 0, 1) := dk_42 (dk_at dksX1_countSplit_0 5 rfl rfl)
theorem dX1_countSplit_6 : decode cX1_countSplit 6 = .ok (.getfield 19, 3) := dk_180 0 19 (dk_at dksX1_countSplit_0 6 rfl rfl)
theorem dX1_countSplit_9 : decode cX1_countSplit 9 = .ok (.invokevirtual 47, 3) := dk_182 0 47 (dk_at dksX1_countSplit_0 9 rfl rfl)
theorem dX1_countSplit_12 : decode cX1_countSplit 12 = .ok (.if_icmp .ge 47, 3) := dk_162 0 47 (dk_at dksX1_countSplit_0 12 rfl rfl)
theorem dX1_countSplit_15 : decode cX1_countSplit 15 = .ok (.iload_n 2, 1) := dk_28 (dk_at dksX1_countSplit_0 15 rfl rfl)
theorem dX1_countSplit_16 : decode cX1_countSplit 16 = .ok (.aload_n 0, 1) := dk_42 (dk_at dksX1_countSplit_0 16 rfl rfl)
theorem dX1_countSplit_17 : decode cX1_countSplit 17 = .ok (.getfield 19, 3) := dk_180 0 19 (dk_at dksX1_countSplit_0 17 rfl rfl)
theorem dX1_countSplit_20 : decode cX1_countSplit 20 = .ok (.iload_n 3, 1) := dk_29 (dk_at dksX1_countSplit_0 20 rfl rfl)
theorem dX1_countSplit_21 : decode cX1_countSplit 21 = .ok (.invokevirtual 55, 3) := dk_182 0 55 (dk_at dksX1_countSplit_0 21 rfl rfl)
theorem dX1_countSplit_24 : decode cX1_countSplit 24 = .ok (.aload_n 1, 1) := dk_43 (dk_at dksX1_countSplit_1 0 rfl rfl)
theorem dX1_countSplit_25 : decode cX1_countSplit 25 = .ok (.if_acmp .eq 25, 3) := dk_165 0 25 (dk_at dksX1_countSplit_1 1 rfl rfl)
theorem dX1_countSplit_28 : decode cX1_countSplit 28 = .ok (.aload_n 0, 1) := dk_42 (dk_at dksX1_countSplit_1 4 rfl rfl)
theorem dX1_countSplit_29 : decode cX1_countSplit 29 = .ok (.aload_n 0, 1) := dk_42 (dk_at dksX1_countSplit_1 5 rfl rfl)
theorem dX1_countSplit_30 : decode cX1_countSplit 30 = .ok (.getfield 19, 3) := dk_180 0 19 (dk_at dksX1_countSplit_1 6 rfl rfl)
theorem dX1_countSplit_33 : decode cX1_countSplit 33 = .ok (.iload_n 3, 1) := dk_29 (dk_at dksX1_countSplit_1 9 rfl rfl)
theorem dX1_countSplit_34 : decode cX1_countSplit 34 = .ok (.invokevirtual 55, 3) := dk_182 0 55 (dk_at dksX1_countSplit_1 10 rfl rfl)
theorem dX1_countSplit_37 : decode cX1_countSplit 37 = .ok (.checkcast 154, 3) := dk_192 0 154 (dk_at dksX1_countSplit_1 13 rfl rfl)
theorem dX1_countSplit_40 : decode cX1_countSplit 40 = .ok (.invokevirtual 186, 3) := dk_182 0 186 (dk_at dksX1_countSplit_1 16 rfl rfl)
theorem dX1_countSplit_43 : decode cX1_countSplit 43 = .ok (.ifCond .eq 7, 3) := dk_153 0 7 (dk_at dksX1_countSplit_1 19 rfl rfl)
theorem dX1_countSplit_46 : decode cX1_countSplit 46 = .ok (.iconst 1, 1) := dk_4 (dk_at dksX1_countSplit_1 22 rfl rfl)
theorem dX1_countSplit_47 : decode cX1_countSplit 47 = .ok (.goto 4, 3) := dk_167 0 4 (dk_at dksX1_countSplit_2 0 rfl rfl)
theorem dX1_countSplit_50 : decode cX1_countSplit 50 = .ok (.iconst 0, 1) := dk_3 (dk_at dksX1_countSplit_2 3 rfl rfl)
theorem dX1_countSplit_51 : decode cX1_countSplit 51 = .ok (.iadd, 1) := dk_96 (dk_at dksX1_countSplit_2 4 rfl rfl)
theorem dX1_countSplit_52 : decode cX1_countSplit 52 = .ok (.istore_n 2, 1) := dk_61 (dk_at dksX1_countSplit_2 5 rfl rfl)
theorem dX1_countSplit_53 : decode cX1_countSplit 53 = .ok (.iinc 3 1, 3) := dk_132 3 1 (dk_at dksX1_countSplit_2 6 rfl rfl)
theorem dX1_countSplit_56 : decode cX1_countSplit 56 = .ok (.goto (-52), 3) := dk_167 255 204 (dk_at dksX1_countSplit_2 9 rfl rfl)
theorem dX1_countSplit_59 : decode cX1_countSplit 59 = .ok (.iload_n 2, 1) := dk_28 (dk_at dksX1_countSplit_2 12 rfl rfl)
theorem dX1_countSplit_60 : decode cX1_countSplit 60 = .ok (.ireturn, 1) := dk_172 (dk_at dksX1_countSplit_2 13 rfl rfl)
abbrev cX1_stateOf : ByteArray := prog_1_method_31_code
def yX1_stateOf : MethodName := ⟨RX1, "stateOf", "(I)I"⟩
def dkwX1_stateOf_0 : List UInt8 := [42, 180, 0, 19, 27, 184, 0, 70, 192, 0, 154, 180, 0, 159, 182, 0, 212, 172]
abbrev dktX1_stateOf_0 : List UInt8 := dkwX1_stateOf_0 ++ []
theorem dksX1_stateOf_0 : cX1_stateOf.data.toList.drop 0 = dktX1_stateOf_0 := by decide +kernel
theorem dX1_stateOf_0 : decode cX1_stateOf 0 = .ok (.aload_n 0, 1) := dk_42 (dk_at dksX1_stateOf_0 0 rfl rfl)
theorem dX1_stateOf_1 : decode cX1_stateOf 1 = .ok (.getfield 19, 3) := dk_180 0 19 (dk_at dksX1_stateOf_0 1 rfl rfl)
theorem dX1_stateOf_4 : decode cX1_stateOf 4 = .ok (.iload_n 1, 1) := dk_27 (dk_at dksX1_stateOf_0 4 rfl rfl)
theorem dX1_stateOf_5 : decode cX1_stateOf 5 = .ok (.invokestatic 70, 3) := dk_184 0 70 (dk_at dksX1_stateOf_0 5 rfl rfl)
theorem dX1_stateOf_8 : decode cX1_stateOf 8 = .ok (.checkcast 154, 3) := dk_192 0 154 (dk_at dksX1_stateOf_0 8 rfl rfl)
theorem dX1_stateOf_11 : decode cX1_stateOf 11 = .ok (.getfield 159, 3) := dk_180 0 159 (dk_at dksX1_stateOf_0 11 rfl rfl)
theorem dX1_stateOf_14 : decode cX1_stateOf 14 = .ok (.invokevirtual 212, 3) := dk_182 0 212 (dk_at dksX1_stateOf_0 14 rfl rfl)
theorem dX1_stateOf_17 : decode cX1_stateOf 17 = .ok (.ireturn, 1) := dk_172 (dk_at dksX1_stateOf_0 17 rfl rfl)
abbrev cX1_isSplit : ByteArray := prog_1_method_32_code
def yX1_isSplit : MethodName := ⟨RX1, "isSplit", "(I)Z"⟩
def dkwX1_isSplit_0 : List UInt8 := [42, 42, 180, 0, 19, 27, 184, 0, 70, 192, 0, 154, 182, 0, 186, 172]
abbrev dktX1_isSplit_0 : List UInt8 := dkwX1_isSplit_0 ++ []
theorem dksX1_isSplit_0 : cX1_isSplit.data.toList.drop 0 = dktX1_isSplit_0 := by decide +kernel
theorem dX1_isSplit_0 : decode cX1_isSplit 0 = .ok (.aload_n 0, 1) := dk_42 (dk_at dksX1_isSplit_0 0 rfl rfl)
theorem dX1_isSplit_1 : decode cX1_isSplit 1 = .ok (.aload_n 0, 1) := dk_42 (dk_at dksX1_isSplit_0 1 rfl rfl)
theorem dX1_isSplit_2 : decode cX1_isSplit 2 = .ok (.getfield 19, 3) := dk_180 0 19 (dk_at dksX1_isSplit_0 2 rfl rfl)
theorem dX1_isSplit_5 : decode cX1_isSplit 5 = .ok (.iload_n 1, 1) := dk_27 (dk_at dksX1_isSplit_0 5 rfl rfl)
theorem dX1_isSplit_6 : decode cX1_isSplit 6 = .ok (.invokestatic 70, 3) := dk_184 0 70 (dk_at dksX1_isSplit_0 6 rfl rfl)
theorem dX1_isSplit_9 : decode cX1_isSplit 9 = .ok (.checkcast 154, 3) := dk_192 0 154 (dk_at dksX1_isSplit_0 9 rfl rfl)
theorem dX1_isSplit_12 : decode cX1_isSplit 12 = .ok (.invokevirtual 186, 3) := dk_182 0 186 (dk_at dksX1_isSplit_0 12 rfl rfl)
theorem dX1_isSplit_15 : decode cX1_isSplit 15 = .ok (.ireturn, 1) := dk_172 (dk_at dksX1_isSplit_0 15 rfl rfl)
abbrev cX1_advance : ByteArray := prog_1_method_33_code
def yX1_advance : MethodName := ⟨RX1, "advance", "(II)I"⟩
def dkwX1_advance_7 : List UInt8 := [100, 172]
abbrev dktX1_advance_7 : List UInt8 := dkwX1_advance_7 ++ []
def dkwX1_advance_6 : List UInt8 := [180, 0, 22, 187, 0, 215, 89, 27, 28, 183, 0, 221, 182, 0, 34, 87, 42, 180, 0, 22, 182, 0, 47, 4]
abbrev dktX1_advance_6 : List UInt8 := dkwX1_advance_6 ++ dktX1_advance_7
def dkwX1_advance_5 : List UInt8 := [192, 0, 29, 42, 180, 0, 10, 3, 182, 0, 55, 192, 0, 29, 28, 183, 0, 116, 182, 0, 117, 42]
abbrev dktX1_advance_5 : List UInt8 := dkwX1_advance_5 ++ dktX1_advance_6
def dkwX1_advance_4 : List UInt8 := [167, 0, 4, 3, 184, 0, 74, 42, 187, 0, 114, 89, 42, 180, 0, 67, 42, 180, 0, 10, 4, 182, 0, 55]
abbrev dktX1_advance_4 : List UInt8 := dkwX1_advance_4 ++ dktX1_advance_5
def dkwX1_advance_3 : List UInt8 := [167, 0, 4, 3, 62, 132, 4, 1, 167, 255, 194, 29, 154, 0, 15, 42, 4, 182, 0, 105, 153, 0, 7, 4]
abbrev dktX1_advance_3 : List UInt8 := dkwX1_advance_3 ++ dktX1_advance_4
def dkwX1_advance_2 : List UInt8 := [160, 0, 25, 42, 180, 0, 22, 21, 4, 182, 0, 55, 192, 0, 215, 180, 0, 218, 154, 0, 7, 4]
abbrev dktX1_advance_2 : List UInt8 := dkwX1_advance_2 ++ dktX1_advance_3
def dkwX1_advance_1 : List UInt8 := [162, 0, 56, 29, 154, 0, 40, 42, 180, 0, 22, 21, 4, 182, 0, 55, 192, 0, 215, 180, 0, 217, 27]
abbrev dktX1_advance_1 : List UInt8 := dkwX1_advance_1 ++ dktX1_advance_2
def dkwX1_advance_0 : List UInt8 := [27, 184, 0, 151, 28, 184, 0, 101, 3, 62, 3, 54, 4, 21, 4, 42, 180, 0, 22, 182, 0, 47]
abbrev dktX1_advance_0 : List UInt8 := dkwX1_advance_0 ++ dktX1_advance_1
theorem dksX1_advance_0 : cX1_advance.data.toList.drop 0 = dktX1_advance_0 := by decide +kernel
theorem dksX1_advance_1 : cX1_advance.data.toList.drop 22 = dktX1_advance_1 := dk_seg dksX1_advance_0 22 rfl rfl
theorem dksX1_advance_2 : cX1_advance.data.toList.drop 45 = dktX1_advance_2 := dk_seg dksX1_advance_1 23 rfl rfl
theorem dksX1_advance_3 : cX1_advance.data.toList.drop 67 = dktX1_advance_3 := dk_seg dksX1_advance_2 22 rfl rfl
theorem dksX1_advance_4 : cX1_advance.data.toList.drop 91 = dktX1_advance_4 := dk_seg dksX1_advance_3 24 rfl rfl
theorem dksX1_advance_5 : cX1_advance.data.toList.drop 115 = dktX1_advance_5 := dk_seg dksX1_advance_4 24 rfl rfl
theorem dksX1_advance_6 : cX1_advance.data.toList.drop 137 = dktX1_advance_6 := dk_seg dksX1_advance_5 22 rfl rfl
theorem dksX1_advance_7 : cX1_advance.data.toList.drop 161 = dktX1_advance_7 := dk_seg dksX1_advance_6 24 rfl rfl
theorem dX1_advance_0 : decode cX1_advance 0 = .ok (.iload_n 1, 1) := dk_27 (dk_at dksX1_advance_0 0 rfl rfl)
theorem dX1_advance_1 : decode cX1_advance 1 = .ok (.invokestatic 151, 3) := dk_184 0 151 (dk_at dksX1_advance_0 1 rfl rfl)
theorem dX1_advance_4 : decode cX1_advance 4 = .ok (.iload_n 2, 1) := dk_28 (dk_at dksX1_advance_0 4 rfl rfl)
theorem dX1_advance_5 : decode cX1_advance 5 = .ok (.invokestatic 101, 3) := dk_184 0 101 (dk_at dksX1_advance_0 5 rfl rfl)
theorem dX1_advance_8 : decode cX1_advance 8 = .ok (.iconst 0, 1) := dk_3 (dk_at dksX1_advance_0 8 rfl rfl)
theorem dX1_advance_9 : decode cX1_advance 9 = .ok (.istore_n 3, 1) := dk_62 (dk_at dksX1_advance_0 9 rfl rfl)
theorem dX1_advance_10 : decode cX1_advance 10 = .ok (.iconst 0, 1) := dk_3 (dk_at dksX1_advance_0 10 rfl rfl)
theorem dX1_advance_11 : decode cX1_advance 11 = .ok (.istore 4, 2) := dk_54 4 (dk_at dksX1_advance_0 11 rfl rfl)
theorem dX1_advance_13 : decode cX1_advance 13 = .ok (.iload 4, 2) := dk_21 4 (dk_at dksX1_advance_0 13 rfl rfl)
theorem dX1_advance_15 : decode cX1_advance 15 = .ok (.aload_n 0, 1) := dk_42 (dk_at dksX1_advance_0 15 rfl rfl)
theorem dX1_advance_16 : decode cX1_advance 16 = .ok (.getfield 22, 3) := dk_180 0 22 (dk_at dksX1_advance_0 16 rfl rfl)
theorem dX1_advance_19 : decode cX1_advance 19 = .ok (.invokevirtual 47, 3) := dk_182 0 47 (dk_at dksX1_advance_0 19 rfl rfl)
theorem dX1_advance_22 : decode cX1_advance 22 = .ok (.if_icmp .ge 56, 3) := dk_162 0 56 (dk_at dksX1_advance_1 0 rfl rfl)
theorem dX1_advance_25 : decode cX1_advance 25 = .ok (.iload_n 3, 1) := dk_29 (dk_at dksX1_advance_1 3 rfl rfl)
theorem dX1_advance_26 : decode cX1_advance 26 = .ok (.ifCond .ne 40, 3) := dk_154 0 40 (dk_at dksX1_advance_1 4 rfl rfl)
theorem dX1_advance_29 : decode cX1_advance 29 = .ok (.aload_n 0, 1) := dk_42 (dk_at dksX1_advance_1 7 rfl rfl)
theorem dX1_advance_30 : decode cX1_advance 30 = .ok (.getfield 22, 3) := dk_180 0 22 (dk_at dksX1_advance_1 8 rfl rfl)
theorem dX1_advance_33 : decode cX1_advance 33 = .ok (.iload 4, 2) := dk_21 4 (dk_at dksX1_advance_1 11 rfl rfl)
theorem dX1_advance_35 : decode cX1_advance 35 = .ok (.invokevirtual 55, 3) := dk_182 0 55 (dk_at dksX1_advance_1 13 rfl rfl)
theorem dX1_advance_38 : decode cX1_advance 38 = .ok (.checkcast 215, 3) := dk_192 0 215 (dk_at dksX1_advance_1 16 rfl rfl)
theorem dX1_advance_41 : decode cX1_advance 41 = .ok (.getfield 217, 3) := dk_180 0 217 (dk_at dksX1_advance_1 19 rfl rfl)
theorem dX1_advance_44 : decode cX1_advance 44 = .ok (.iload_n 1, 1) := dk_27 (dk_at dksX1_advance_1 22 rfl rfl)
theorem dX1_advance_45 : decode cX1_advance 45 = .ok (.if_icmp .ne 25, 3) := dk_160 0 25 (dk_at dksX1_advance_2 0 rfl rfl)
theorem dX1_advance_48 : decode cX1_advance 48 = .ok (.aload_n 0, 1) := dk_42 (dk_at dksX1_advance_2 3 rfl rfl)
theorem dX1_advance_49 : decode cX1_advance 49 = .ok (.getfield 22, 3) := dk_180 0 22 (dk_at dksX1_advance_2 4 rfl rfl)
theorem dX1_advance_52 : decode cX1_advance 52 = .ok (.iload 4, 2) := dk_21 4 (dk_at dksX1_advance_2 7 rfl rfl)
theorem dX1_advance_54 : decode cX1_advance 54 = .ok (.invokevirtual 55, 3) := dk_182 0 55 (dk_at dksX1_advance_2 9 rfl rfl)
theorem dX1_advance_57 : decode cX1_advance 57 = .ok (.checkcast 215, 3) := dk_192 0 215 (dk_at dksX1_advance_2 12 rfl rfl)
theorem dX1_advance_60 : decode cX1_advance 60 = .ok (.getfield 218, 3) := dk_180 0 218 (dk_at dksX1_advance_2 15 rfl rfl)
theorem dX1_advance_63 : decode cX1_advance 63 = .ok (.ifCond .ne 7, 3) := dk_154 0 7 (dk_at dksX1_advance_2 18 rfl rfl)
theorem dX1_advance_66 : decode cX1_advance 66 = .ok (.iconst 1, 1) := dk_4 (dk_at dksX1_advance_2 21 rfl rfl)
theorem dX1_advance_67 : decode cX1_advance 67 = .ok (.goto 4, 3) := dk_167 0 4 (dk_at dksX1_advance_3 0 rfl rfl)
theorem dX1_advance_70 : decode cX1_advance 70 = .ok (.iconst 0, 1) := dk_3 (dk_at dksX1_advance_3 3 rfl rfl)
theorem dX1_advance_71 : decode cX1_advance 71 = .ok (.istore_n 3, 1) := dk_62 (dk_at dksX1_advance_3 4 rfl rfl)
theorem dX1_advance_72 : decode cX1_advance 72 = .ok (.iinc 4 1, 3) := dk_132 4 1 (dk_at dksX1_advance_3 5 rfl rfl)
theorem dX1_advance_75 : decode cX1_advance 75 = .ok (.goto (-62), 3) := dk_167 255 194 (dk_at dksX1_advance_3 8 rfl rfl)
theorem dX1_advance_78 : decode cX1_advance 78 = .ok (.iload_n 3, 1) := dk_29 (dk_at dksX1_advance_3 11 rfl rfl)
theorem dX1_advance_79 : decode cX1_advance 79 = .ok (.ifCond .ne 15, 3) := dk_154 0 15 (dk_at dksX1_advance_3 12 rfl rfl)
theorem dX1_advance_82 : decode cX1_advance 82 = .ok (.aload_n 0, 1) := dk_42 (dk_at dksX1_advance_3 15 rfl rfl)
theorem dX1_advance_83 : decode cX1_advance 83 = .ok (.iconst 1, 1) := dk_4 (dk_at dksX1_advance_3 16 rfl rfl)
theorem dX1_advance_84 : decode cX1_advance 84 = .ok (.invokevirtual 105, 3) := dk_182 0 105 (dk_at dksX1_advance_3 17 rfl rfl)
theorem dX1_advance_87 : decode cX1_advance 87 = .ok (.ifCond .eq 7, 3) := dk_153 0 7 (dk_at dksX1_advance_3 20 rfl rfl)
theorem dX1_advance_90 : decode cX1_advance 90 = .ok (.iconst 1, 1) := dk_4 (dk_at dksX1_advance_3 23 rfl rfl)
theorem dX1_advance_91 : decode cX1_advance 91 = .ok (.goto 4, 3) := dk_167 0 4 (dk_at dksX1_advance_4 0 rfl rfl)
theorem dX1_advance_94 : decode cX1_advance 94 = .ok (.iconst 0, 1) := dk_3 (dk_at dksX1_advance_4 3 rfl rfl)
theorem dX1_advance_95 : decode cX1_advance 95 = .ok (.invokestatic 74, 3) := dk_184 0 74 (dk_at dksX1_advance_4 4 rfl rfl)
theorem dX1_advance_98 : decode cX1_advance 98 = .ok (.aload_n 0, 1) := dk_42 (dk_at dksX1_advance_4 7 rfl rfl)
theorem dX1_advance_99 : decode cX1_advance 99 = .ok (.new 114, 3) := dk_187 0 114 (dk_at dksX1_advance_4 8 rfl rfl)
theorem dX1_advance_102 : decode cX1_advance 102 = .ok (.dup, 1) := dk_89 (dk_at dksX1_advance_4 11 rfl rfl)
theorem dX1_advance_103 : decode cX1_advance 103 = .ok (.aload_n 0, 1) := dk_42 (dk_at dksX1_advance_4 12 rfl rfl)
theorem dX1_advance_104 : decode cX1_advance 104 = .ok (.getfield 67, 3) := dk_180 0 67 (dk_at dksX1_advance_4 13 rfl rfl)
theorem dX1_advance_107 : decode cX1_advance 107 = .ok (.aload_n 0, 1) := dk_42 (dk_at dksX1_advance_4 16 rfl rfl)
theorem dX1_advance_108 : decode cX1_advance 108 = .ok (.getfield 10, 3) := dk_180 0 10 (dk_at dksX1_advance_4 17 rfl rfl)
theorem dX1_advance_111 : decode cX1_advance 111 = .ok (.iconst 1, 1) := dk_4 (dk_at dksX1_advance_4 20 rfl rfl)
theorem dX1_advance_112 : decode cX1_advance 112 = .ok (.invokevirtual 55, 3) := dk_182 0 55 (dk_at dksX1_advance_4 21 rfl rfl)
theorem dX1_advance_115 : decode cX1_advance 115 = .ok (.checkcast 29, 3) := dk_192 0 29 (dk_at dksX1_advance_5 0 rfl rfl)
theorem dX1_advance_118 : decode cX1_advance 118 = .ok (.aload_n 0, 1) := dk_42 (dk_at dksX1_advance_5 3 rfl rfl)
theorem dX1_advance_119 : decode cX1_advance 119 = .ok (.getfield 10, 3) := dk_180 0 10 (dk_at dksX1_advance_5 4 rfl rfl)
theorem dX1_advance_122 : decode cX1_advance 122 = .ok (.iconst 0, 1) := dk_3 (dk_at dksX1_advance_5 7 rfl rfl)
theorem dX1_advance_123 : decode cX1_advance 123 = .ok (.invokevirtual 55, 3) := dk_182 0 55 (dk_at dksX1_advance_5 8 rfl rfl)
theorem dX1_advance_126 : decode cX1_advance 126 = .ok (.checkcast 29, 3) := dk_192 0 29 (dk_at dksX1_advance_5 11 rfl rfl)
theorem dX1_advance_129 : decode cX1_advance 129 = .ok (.iload_n 2, 1) := dk_28 (dk_at dksX1_advance_5 14 rfl rfl)
theorem dX1_advance_130 : decode cX1_advance 130 = .ok (.invokespecial 116, 3) := dk_183 0 116 (dk_at dksX1_advance_5 15 rfl rfl)
theorem dX1_advance_133 : decode cX1_advance 133 = .ok (.invokevirtual 117, 3) := dk_182 0 117 (dk_at dksX1_advance_5 18 rfl rfl)
theorem dX1_advance_136 : decode cX1_advance 136 = .ok (.aload_n 0, 1) := dk_42 (dk_at dksX1_advance_5 21 rfl rfl)
theorem dX1_advance_137 : decode cX1_advance 137 = .ok (.getfield 22, 3) := dk_180 0 22 (dk_at dksX1_advance_6 0 rfl rfl)
theorem dX1_advance_140 : decode cX1_advance 140 = .ok (.new 215, 3) := dk_187 0 215 (dk_at dksX1_advance_6 3 rfl rfl)
theorem dX1_advance_143 : decode cX1_advance 143 = .ok (.dup, 1) := dk_89 (dk_at dksX1_advance_6 6 rfl rfl)
theorem dX1_advance_144 : decode cX1_advance 144 = .ok (.iload_n 1, 1) := dk_27 (dk_at dksX1_advance_6 7 rfl rfl)
theorem dX1_advance_145 : decode cX1_advance 145 = .ok (.iload_n 2, 1) := dk_28 (dk_at dksX1_advance_6 8 rfl rfl)
theorem dX1_advance_146 : decode cX1_advance 146 = .ok (.invokespecial 221, 3) := dk_183 0 221 (dk_at dksX1_advance_6 9 rfl rfl)
theorem dX1_advance_149 : decode cX1_advance 149 = .ok (.invokevirtual 34, 3) := dk_182 0 34 (dk_at dksX1_advance_6 12 rfl rfl)
theorem dX1_advance_152 : decode cX1_advance 152 = .ok (.pop, 1) := dk_87 (dk_at dksX1_advance_6 15 rfl rfl)
theorem dX1_advance_153 : decode cX1_advance 153 = .ok (.aload_n 0, 1) := dk_42 (dk_at dksX1_advance_6 16 rfl rfl)
theorem dX1_advance_154 : decode cX1_advance 154 = .ok (.getfield 22, 3) := dk_180 0 22 (dk_at dksX1_advance_6 17 rfl rfl)
theorem dX1_advance_157 : decode cX1_advance 157 = .ok (.invokevirtual 47, 3) := dk_182 0 47 (dk_at dksX1_advance_6 20 rfl rfl)
theorem dX1_advance_160 : decode cX1_advance 160 = .ok (.iconst 1, 1) := dk_4 (dk_at dksX1_advance_6 23 rfl rfl)
theorem dX1_advance_161 : decode cX1_advance 161 = .ok (.isub, 1) := dk_100 (dk_at dksX1_advance_7 0 rfl rfl)
theorem dX1_advance_162 : decode cX1_advance 162 = .ok (.ireturn, 1) := dk_172 (dk_at dksX1_advance_7 1 rfl rfl)
abbrev cX1_settle : ByteArray := prog_1_method_34_code
def yX1_settle : MethodName := ⟨RX1, "settle", "(III)I"⟩
def dkwX1_settle_8 : List UInt8 := [29, 100, 172]
abbrev dktX1_settle_8 : List UInt8 := dkwX1_settle_8 ++ []
def dkwX1_settle_7 : List UInt8 := [182, 0, 55, 192, 0, 29, 25, 4, 180, 0, 223, 29, 100, 183, 0, 116, 182, 0, 117, 25, 4, 180, 0, 223]
abbrev dktX1_settle_7 : List UInt8 := dkwX1_settle_7 ++ dktX1_settle_8
def dkwX1_settle_6 : List UInt8 := [187, 0, 114, 89, 42, 180, 0, 67, 42, 180, 0, 10, 3, 182, 0, 55, 192, 0, 29, 42, 180, 0, 10, 4]
abbrev dktX1_settle_6 : List UInt8 := dkwX1_settle_6 ++ dktX1_settle_7
def dkwX1_settle_5 : List UInt8 := [182, 0, 55, 192, 0, 29, 29, 183, 0, 116, 182, 0, 117, 29, 25, 4, 180, 0, 223, 162, 0, 47, 42]
abbrev dktX1_settle_5 : List UInt8 := dkwX1_settle_5 ++ dktX1_settle_6
def dkwX1_settle_4 : List UInt8 := [96, 181, 0, 202, 29, 158, 0, 32, 42, 187, 0, 114, 89, 42, 180, 0, 67, 25, 5, 42, 180, 0, 10, 4]
abbrev dktX1_settle_4 : List UInt8 := dkwX1_settle_4 ++ dktX1_settle_5
def dkwX1_settle_3 : List UInt8 := [153, 0, 7, 4, 167, 0, 4, 3, 184, 0, 74, 25, 4, 4, 181, 0, 218, 25, 5, 89, 180, 0, 202, 29]
abbrev dktX1_settle_3 : List UInt8 := dkwX1_settle_3 ++ dktX1_settle_4
def dkwX1_settle_2 : List UInt8 := [25, 5, 180, 0, 135, 153, 0, 24, 25, 5, 182, 0, 142, 29, 161, 0, 15, 42, 5, 182, 0, 105]
abbrev dktX1_settle_2 : List UInt8 := dkwX1_settle_2 ++ dktX1_settle_3
def dkwX1_settle_1 : List UInt8 := [58, 5, 29, 3, 25, 4, 180, 0, 223, 184, 0, 59, 184, 0, 64, 25, 4, 180, 0, 218, 154, 0, 32]
abbrev dktX1_settle_1 : List UInt8 := dkwX1_settle_1 ++ dktX1_settle_2
def dkwX1_settle_0 : List UInt8 := [42, 180, 0, 22, 27, 184, 0, 70, 192, 0, 215, 58, 4, 42, 180, 0, 10, 28, 184, 0, 70, 192, 0, 29]
abbrev dktX1_settle_0 : List UInt8 := dkwX1_settle_0 ++ dktX1_settle_1
theorem dksX1_settle_0 : cX1_settle.data.toList.drop 0 = dktX1_settle_0 := by decide +kernel
theorem dksX1_settle_1 : cX1_settle.data.toList.drop 24 = dktX1_settle_1 := dk_seg dksX1_settle_0 24 rfl rfl
theorem dksX1_settle_2 : cX1_settle.data.toList.drop 47 = dktX1_settle_2 := dk_seg dksX1_settle_1 23 rfl rfl
theorem dksX1_settle_3 : cX1_settle.data.toList.drop 69 = dktX1_settle_3 := dk_seg dksX1_settle_2 22 rfl rfl
theorem dksX1_settle_4 : cX1_settle.data.toList.drop 93 = dktX1_settle_4 := dk_seg dksX1_settle_3 24 rfl rfl
theorem dksX1_settle_5 : cX1_settle.data.toList.drop 117 = dktX1_settle_5 := dk_seg dksX1_settle_4 24 rfl rfl
theorem dksX1_settle_6 : cX1_settle.data.toList.drop 140 = dktX1_settle_6 := dk_seg dksX1_settle_5 23 rfl rfl
theorem dksX1_settle_7 : cX1_settle.data.toList.drop 164 = dktX1_settle_7 := dk_seg dksX1_settle_6 24 rfl rfl
theorem dksX1_settle_8 : cX1_settle.data.toList.drop 188 = dktX1_settle_8 := dk_seg dksX1_settle_7 24 rfl rfl
theorem dX1_settle_0 : decode cX1_settle 0 = .ok (.aload_n 0, 1) := dk_42 (dk_at dksX1_settle_0 0 rfl rfl)
theorem dX1_settle_1 : decode cX1_settle 1 = .ok (.getfield 22, 3) := dk_180 0 22 (dk_at dksX1_settle_0 1 rfl rfl)
theorem dX1_settle_4 : decode cX1_settle 4 = .ok (.iload_n 1, 1) := dk_27 (dk_at dksX1_settle_0 4 rfl rfl)
theorem dX1_settle_5 : decode cX1_settle 5 = .ok (.invokestatic 70, 3) := dk_184 0 70 (dk_at dksX1_settle_0 5 rfl rfl)
theorem dX1_settle_8 : decode cX1_settle 8 = .ok (.checkcast 215, 3) := dk_192 0 215 (dk_at dksX1_settle_0 8 rfl rfl)
theorem dX1_settle_11 : decode cX1_settle 11 = .ok (.astore 4, 2) := dk_58 4 (dk_at dksX1_settle_0 11 rfl rfl)
theorem dX1_settle_13 : decode cX1_settle 13 = .ok (.aload_n 0, 1) := dk_42 (dk_at dksX1_settle_0 13 rfl rfl)
theorem dX1_settle_14 : decode cX1_settle 14 = .ok (.getfield 10, 3) := dk_180 0 10 (dk_at dksX1_settle_0 14 rfl rfl)
theorem dX1_settle_17 : decode cX1_settle 17 = .ok (.iload_n 2, 1) := dk_28 (dk_at dksX1_settle_0 17 rfl rfl)
theorem dX1_settle_18 : decode cX1_settle 18 = .ok (.invokestatic 70, 3) := dk_184 0 70 (dk_at dksX1_settle_0 18 rfl rfl)
theorem dX1_settle_21 : decode cX1_settle 21 = .ok (.checkcast 29, 3) := dk_192 0 29 (dk_at dksX1_settle_0 21 rfl rfl)
theorem dX1_settle_24 : decode cX1_settle 24 = .ok (.astore 5, 2) := dk_58 5 (dk_at dksX1_settle_1 0 rfl rfl)
theorem dX1_settle_26 : decode cX1_settle 26 = .ok (.iload_n 3, 1) := dk_29 (dk_at dksX1_settle_1 2 rfl rfl)
theorem dX1_settle_27 : decode cX1_settle 27 = .ok (.iconst 0, 1) := dk_3 (dk_at dksX1_settle_1 3 rfl rfl)
theorem dX1_settle_28 : decode cX1_settle 28 = .ok (.aload 4, 2) := dk_25 4 (dk_at dksX1_settle_1 4 rfl rfl)
theorem dX1_settle_30 : decode cX1_settle 30 = .ok (.getfield 223, 3) := dk_180 0 223 (dk_at dksX1_settle_1 6 rfl rfl)
theorem dX1_settle_33 : decode cX1_settle 33 = .ok (.invokestatic 59, 3) := dk_184 0 59 (dk_at dksX1_settle_1 9 rfl rfl)
theorem dX1_settle_36 : decode cX1_settle 36 = .ok (.invokestatic 64, 3) := dk_184 0 64 (dk_at dksX1_settle_1 12 rfl rfl)
theorem dX1_settle_39 : decode cX1_settle 39 = .ok (.aload 4, 2) := dk_25 4 (dk_at dksX1_settle_1 15 rfl rfl)
theorem dX1_settle_41 : decode cX1_settle 41 = .ok (.getfield 218, 3) := dk_180 0 218 (dk_at dksX1_settle_1 17 rfl rfl)
theorem dX1_settle_44 : decode cX1_settle 44 = .ok (.ifCond .ne 32, 3) := dk_154 0 32 (dk_at dksX1_settle_1 20 rfl rfl)
theorem dX1_settle_47 : decode cX1_settle 47 = .ok (.aload 5, 2) := dk_25 5 (dk_at dksX1_settle_2 0 rfl rfl)
theorem dX1_settle_49 : decode cX1_settle 49 = .ok (.getfield 135, 3) := dk_180 0 135 (dk_at dksX1_settle_2 2 rfl rfl)
theorem dX1_settle_52 : decode cX1_settle 52 = .ok (.ifCond .eq 24, 3) := dk_153 0 24 (dk_at dksX1_settle_2 5 rfl rfl)
theorem dX1_settle_55 : decode cX1_settle 55 = .ok (.aload 5, 2) := dk_25 5 (dk_at dksX1_settle_2 8 rfl rfl)
theorem dX1_settle_57 : decode cX1_settle 57 = .ok (.invokevirtual 142, 3) := dk_182 0 142 (dk_at dksX1_settle_2 10 rfl rfl)
theorem dX1_settle_60 : decode cX1_settle 60 = .ok (.iload_n 3, 1) := dk_29 (dk_at dksX1_settle_2 13 rfl rfl)
theorem dX1_settle_61 : decode cX1_settle 61 = .ok (.if_icmp .lt 15, 3) := dk_161 0 15 (dk_at dksX1_settle_2 14 rfl rfl)
theorem dX1_settle_64 : decode cX1_settle 64 = .ok (.aload_n 0, 1) := dk_42 (dk_at dksX1_settle_2 17 rfl rfl)
theorem dX1_settle_65 : decode cX1_settle 65 = .ok (.iconst 2, 1) := dk_5 (dk_at dksX1_settle_2 18 rfl rfl)
theorem dX1_settle_66 : decode cX1_settle 66 = .ok (.invokevirtual 105, 3) := dk_182 0 105 (dk_at dksX1_settle_2 19 rfl rfl)
theorem dX1_settle_69 : decode cX1_settle 69 = .ok (.ifCond .eq 7, 3) := dk_153 0 7 (dk_at dksX1_settle_3 0 rfl rfl)
theorem dX1_settle_72 : decode cX1_settle 72 = .ok (.iconst 1, 1) := dk_4 (dk_at dksX1_settle_3 3 rfl rfl)
theorem dX1_settle_73 : decode cX1_settle 73 = .ok (.goto 4, 3) := dk_167 0 4 (dk_at dksX1_settle_3 4 rfl rfl)
theorem dX1_settle_76 : decode cX1_settle 76 = .ok (.iconst 0, 1) := dk_3 (dk_at dksX1_settle_3 7 rfl rfl)
theorem dX1_settle_77 : decode cX1_settle 77 = .ok (.invokestatic 74, 3) := dk_184 0 74 (dk_at dksX1_settle_3 8 rfl rfl)
theorem dX1_settle_80 : decode cX1_settle 80 = .ok (.aload 4, 2) := dk_25 4 (dk_at dksX1_settle_3 11 rfl rfl)
theorem dX1_settle_82 : decode cX1_settle 82 = .ok (.iconst 1, 1) := dk_4 (dk_at dksX1_settle_3 13 rfl rfl)
theorem dX1_settle_83 : decode cX1_settle 83 = .ok (.putfield 218, 3) := dk_181 0 218 (dk_at dksX1_settle_3 14 rfl rfl)
theorem dX1_settle_86 : decode cX1_settle 86 = .ok (.aload 5, 2) := dk_25 5 (dk_at dksX1_settle_3 17 rfl rfl)
theorem dX1_settle_88 : decode cX1_settle 88 = .ok (.dup, 1) := dk_89 (dk_at dksX1_settle_3 19 rfl rfl)
theorem dX1_settle_89 : decode cX1_settle 89 = .ok (.getfield 202, 3) := dk_180 0 202 (dk_at dksX1_settle_3 20 rfl rfl)
theorem dX1_settle_92 : decode cX1_settle 92 = .ok (.iload_n 3, 1) := dk_29 (dk_at dksX1_settle_3 23 rfl rfl)
theorem dX1_settle_93 : decode cX1_settle 93 = .ok (.iadd, 1) := dk_96 (dk_at dksX1_settle_4 0 rfl rfl)
theorem dX1_settle_94 : decode cX1_settle 94 = .ok (.putfield 202, 3) := dk_181 0 202 (dk_at dksX1_settle_4 1 rfl rfl)
theorem dX1_settle_97 : decode cX1_settle 97 = .ok (.iload_n 3, 1) := dk_29 (dk_at dksX1_settle_4 4 rfl rfl)
theorem dX1_settle_98 : decode cX1_settle 98 = .ok (.ifCond .le 32, 3) := dk_158 0 32 (dk_at dksX1_settle_4 5 rfl rfl)
theorem dX1_settle_101 : decode cX1_settle 101 = .ok (.aload_n 0, 1) := dk_42 (dk_at dksX1_settle_4 8 rfl rfl)
theorem dX1_settle_102 : decode cX1_settle 102 = .ok (.new 114, 3) := dk_187 0 114 (dk_at dksX1_settle_4 9 rfl rfl)
theorem dX1_settle_105 : decode cX1_settle 105 = .ok (.dup, 1) := dk_89 (dk_at dksX1_settle_4 12 rfl rfl)
theorem dX1_settle_106 : decode cX1_settle 106 = .ok (.aload_n 0, 1) := dk_42 (dk_at dksX1_settle_4 13 rfl rfl)
theorem dX1_settle_107 : decode cX1_settle 107 = .ok (.getfield 67, 3) := dk_180 0 67 (dk_at dksX1_settle_4 14 rfl rfl)
theorem dX1_settle_110 : decode cX1_settle 110 = .ok (.aload 5, 2) := dk_25 5 (dk_at dksX1_settle_4 17 rfl rfl)
theorem dX1_settle_112 : decode cX1_settle 112 = .ok (.aload_n 0, 1) := dk_42 (dk_at dksX1_settle_4 19 rfl rfl)
theorem dX1_settle_113 : decode cX1_settle 113 = .ok (.getfield 10, 3) := dk_180 0 10 (dk_at dksX1_settle_4 20 rfl rfl)
theorem dX1_settle_116 : decode cX1_settle 116 = .ok (.iconst 1, 1) := dk_4 (dk_at dksX1_settle_4 23 rfl rfl)
theorem dX1_settle_117 : decode cX1_settle 117 = .ok (.invokevirtual 55, 3) := dk_182 0 55 (dk_at dksX1_settle_5 0 rfl rfl)
theorem dX1_settle_120 : decode cX1_settle 120 = .ok (.checkcast 29, 3) := dk_192 0 29 (dk_at dksX1_settle_5 3 rfl rfl)
theorem dX1_settle_123 : decode cX1_settle 123 = .ok (.iload_n 3, 1) := dk_29 (dk_at dksX1_settle_5 6 rfl rfl)
theorem dX1_settle_124 : decode cX1_settle 124 = .ok (.invokespecial 116, 3) := dk_183 0 116 (dk_at dksX1_settle_5 7 rfl rfl)
theorem dX1_settle_127 : decode cX1_settle 127 = .ok (.invokevirtual 117, 3) := dk_182 0 117 (dk_at dksX1_settle_5 10 rfl rfl)
theorem dX1_settle_130 : decode cX1_settle 130 = .ok (.iload_n 3, 1) := dk_29 (dk_at dksX1_settle_5 13 rfl rfl)
theorem dX1_settle_131 : decode cX1_settle 131 = .ok (.aload 4, 2) := dk_25 4 (dk_at dksX1_settle_5 14 rfl rfl)
theorem dX1_settle_133 : decode cX1_settle 133 = .ok (.getfield 223, 3) := dk_180 0 223 (dk_at dksX1_settle_5 16 rfl rfl)
theorem dX1_settle_136 : decode cX1_settle 136 = .ok (.if_icmp .ge 47, 3) := dk_162 0 47 (dk_at dksX1_settle_5 19 rfl rfl)
theorem dX1_settle_139 : decode cX1_settle 139 = .ok (.aload_n 0, 1) := dk_42 (dk_at dksX1_settle_5 22 rfl rfl)
theorem dX1_settle_140 : decode cX1_settle 140 = .ok (.new 114, 3) := dk_187 0 114 (dk_at dksX1_settle_6 0 rfl rfl)
theorem dX1_settle_143 : decode cX1_settle 143 = .ok (.dup, 1) := dk_89 (dk_at dksX1_settle_6 3 rfl rfl)
theorem dX1_settle_144 : decode cX1_settle 144 = .ok (.aload_n 0, 1) := dk_42 (dk_at dksX1_settle_6 4 rfl rfl)
theorem dX1_settle_145 : decode cX1_settle 145 = .ok (.getfield 67, 3) := dk_180 0 67 (dk_at dksX1_settle_6 5 rfl rfl)
theorem dX1_settle_148 : decode cX1_settle 148 = .ok (.aload_n 0, 1) := dk_42 (dk_at dksX1_settle_6 8 rfl rfl)
theorem dX1_settle_149 : decode cX1_settle 149 = .ok (.getfield 10, 3) := dk_180 0 10 (dk_at dksX1_settle_6 9 rfl rfl)
theorem dX1_settle_152 : decode cX1_settle 152 = .ok (.iconst 0, 1) := dk_3 (dk_at dksX1_settle_6 12 rfl rfl)
theorem dX1_settle_153 : decode cX1_settle 153 = .ok (.invokevirtual 55, 3) := dk_182 0 55 (dk_at dksX1_settle_6 13 rfl rfl)
theorem dX1_settle_156 : decode cX1_settle 156 = .ok (.checkcast 29, 3) := dk_192 0 29 (dk_at dksX1_settle_6 16 rfl rfl)
theorem dX1_settle_159 : decode cX1_settle 159 = .ok (.aload_n 0, 1) := dk_42 (dk_at dksX1_settle_6 19 rfl rfl)
theorem dX1_settle_160 : decode cX1_settle 160 = .ok (.getfield 10, 3) := dk_180 0 10 (dk_at dksX1_settle_6 20 rfl rfl)
theorem dX1_settle_163 : decode cX1_settle 163 = .ok (.iconst 1, 1) := dk_4 (dk_at dksX1_settle_6 23 rfl rfl)
theorem dX1_settle_164 : decode cX1_settle 164 = .ok (.invokevirtual 55, 3) := dk_182 0 55 (dk_at dksX1_settle_7 0 rfl rfl)
theorem dX1_settle_167 : decode cX1_settle 167 = .ok (.checkcast 29, 3) := dk_192 0 29 (dk_at dksX1_settle_7 3 rfl rfl)
theorem dX1_settle_170 : decode cX1_settle 170 = .ok (.aload 4, 2) := dk_25 4 (dk_at dksX1_settle_7 6 rfl rfl)
theorem dX1_settle_172 : decode cX1_settle 172 = .ok (.getfield 223, 3) := dk_180 0 223 (dk_at dksX1_settle_7 8 rfl rfl)
theorem dX1_settle_175 : decode cX1_settle 175 = .ok (.iload_n 3, 1) := dk_29 (dk_at dksX1_settle_7 11 rfl rfl)
theorem dX1_settle_176 : decode cX1_settle 176 = .ok (.isub, 1) := dk_100 (dk_at dksX1_settle_7 12 rfl rfl)
theorem dX1_settle_177 : decode cX1_settle 177 = .ok (.invokespecial 116, 3) := dk_183 0 116 (dk_at dksX1_settle_7 13 rfl rfl)
theorem dX1_settle_180 : decode cX1_settle 180 = .ok (.invokevirtual 117, 3) := dk_182 0 117 (dk_at dksX1_settle_7 16 rfl rfl)
theorem dX1_settle_183 : decode cX1_settle 183 = .ok (.aload 4, 2) := dk_25 4 (dk_at dksX1_settle_7 19 rfl rfl)
theorem dX1_settle_185 : decode cX1_settle 185 = .ok (.getfield 223, 3) := dk_180 0 223 (dk_at dksX1_settle_7 21 rfl rfl)
theorem dX1_settle_188 : decode cX1_settle 188 = .ok (.iload_n 3, 1) := dk_29 (dk_at dksX1_settle_8 0 rfl rfl)
theorem dX1_settle_189 : decode cX1_settle 189 = .ok (.isub, 1) := dk_100 (dk_at dksX1_settle_8 1 rfl rfl)
theorem dX1_settle_190 : decode cX1_settle 190 = .ok (.ireturn, 1) := dk_172 (dk_at dksX1_settle_8 2 rfl rfl)
theorem q18 : (Jvm.Cond.initialized "TownPurse") ∈ lw_all := lw_g (lw_at lw_m1 1 rfl) rfl
theorem q46 : (Jvm.Cond.instantiable "TownPurse" (6 : Nat)) ∈ lw_all := lw_g (lw_at lw_m1 29 rfl) rfl
theorem q48 : (Jvm.Cond.instanceMethod ({ cls := "TownPurse", name := "<init>", desc := "()V" } : Jvm.MethodName)) ∈ lw_all := lw_g (lw_at lw_m1 31 rfl) rfl
theorem q49 : (Jvm.Cond.code ({ cls := "TownPurse", name := "<init>", desc := "()V" } : Jvm.MethodName) prog_1_method_1_code (1 : Nat) (Option.none : Option Jvm.ClassFile.FieldType)) ∈ lw_all := lw_g (lw_at lw_m1 32 rfl) rfl
theorem q50 : (Jvm.Cond.methodLink "TownPurse" (1 : Nat) ({ cls := "java/lang/Object", name := "<init>", desc := "()V" } : Jvm.MethodName)) ∈ lw_all := lw_g (lw_at lw_m1 33 rfl) rfl
theorem q53 : (Jvm.Cond.classLink "TownPurse" (7 : Nat) "java/util/ArrayList") ∈ lw_all := lw_g (lw_at lw_m1 36 rfl) rfl
theorem q55 : (Jvm.Cond.methodLink "TownPurse" (9 : Nat) ({ cls := "java/util/ArrayList", name := "<init>", desc := "()V" } : Jvm.MethodName)) ∈ lw_all := lw_g (lw_at lw_m1 38 rfl) rfl
theorem q79 : (Jvm.Cond.classLink "TownPurse" (29 : Nat) "TownPurse$Account") ∈ lw_all := lw_g (lw_at lw_m1 62 rfl) rfl
theorem q81 : (Jvm.Cond.methodLink "TownPurse" (31 : Nat) ({ cls := "TownPurse$Account", name := "<init>", desc := "(LTownPurse$Account;)V" } : Jvm.MethodName)) ∈ lw_all := lw_g (lw_at lw_m1 64 rfl) rfl
theorem q87 : (Jvm.Cond.fieldLinkNest "TownPurse" (127 : Nat) "TownPurse$Account" "sums" "[I" "TownPurse") ∈ lw_tbl := lw_at lw_m1 70 rfl
theorem q88 : (Jvm.Cond.fieldLinkNest "TownPurse" (135 : Nat) "TownPurse$Account" "hasBudget" "Z" "TownPurse") ∈ lw_tbl := lw_at lw_m1 71 rfl
theorem q90 : (Jvm.Cond.fieldLinkNest "TownPurse" (139 : Nat) "TownPurse$Account" "granted" "I" "TownPurse") ∈ lw_tbl := lw_at lw_m1 73 rfl
theorem q92 : (Jvm.Cond.fieldLinkNest "TownPurse" (148 : Nat) "TownPurse$Account" "amended" "I" "TownPurse") ∈ lw_tbl := lw_at lw_m1 75 rfl
theorem q93 : (Jvm.Cond.fieldLinkNest "TownPurse" (145 : Nat) "TownPurse$Account" "alone" "I" "TownPurse") ∈ lw_tbl := lw_at lw_m1 76 rfl
theorem q95 : (Jvm.Cond.fieldLinkNest "TownPurse" (202 : Nat) "TownPurse$Account" "used" "I" "TownPurse") ∈ lw_tbl := lw_at lw_m1 78 rfl
theorem q112 : (Jvm.Cond.methodLink "TownPurse" (34 : Nat) ({ cls := "java/util/ArrayList", name := "add", desc := "(Ljava/lang/Object;)Z" } : Jvm.MethodName)) ∈ lw_all := lw_g (lw_at lw_m1 95 rfl) rfl
theorem q144 : (Jvm.Cond.selects "TownPurse" ({ cls := "java/lang/Object", name := "getClass", desc := "()Ljava/lang/Class;" } : Jvm.MethodName) ({ cls := "java/lang/Object", name := "getClass", desc := "()Ljava/lang/Class;" } : Jvm.MethodName)) ∈ lw_all := lw_g (lw_at lw_m1 127 rfl) rfl
theorem q174 : (Jvm.Cond.fieldLink "TownPurse" (10 : Nat) "TownPurse" "accounts" "Ljava/util/ArrayList;") ∈ lw_all := lw_g (lw_at lw_m1 157 rfl) rfl
theorem q175 : (Jvm.Cond.fieldLink "TownPurse" (16 : Nat) "TownPurse" "entries" "Ljava/util/ArrayList;") ∈ lw_all := lw_g (lw_at lw_m1 158 rfl) rfl
theorem q176 : (Jvm.Cond.fieldLink "TownPurse" (19 : Nat) "TownPurse" "payments" "Ljava/util/ArrayList;") ∈ lw_all := lw_g (lw_at lw_m1 159 rfl) rfl
theorem q177 : (Jvm.Cond.fieldLink "TownPurse" (22 : Nat) "TownPurse" "advances" "Ljava/util/ArrayList;") ∈ lw_all := lw_g (lw_at lw_m1 160 rfl) rfl
theorem q178 : (Jvm.Cond.fieldLink "TownPurse" (25 : Nat) "TownPurse" "limit" "I") ∈ lw_all := lw_g (lw_at lw_m1 161 rfl) rfl
theorem q179 : (Jvm.Cond.fieldLink "TownPurse" (67 : Nat) "TownPurse" "open" "I") ∈ lw_all := lw_g (lw_at lw_m1 162 rfl) rfl
theorem q180 : (Jvm.Cond.laysFinal "TownPurse" "TownPurse" "accounts" "Ljava/util/ArrayList;") ∈ lw_all := lw_g (lw_at lw_m1 163 rfl) rfl
theorem q181 : (Jvm.Cond.soleField "TownPurse" "accounts") ∈ lw_all := lw_g (lw_at lw_m1 164 rfl) rfl
theorem q182 : (Jvm.Cond.laysFinal "TownPurse" "TownPurse" "entries" "Ljava/util/ArrayList;") ∈ lw_all := lw_g (lw_at lw_m1 165 rfl) rfl
theorem q183 : (Jvm.Cond.soleField "TownPurse" "entries") ∈ lw_all := lw_g (lw_at lw_m1 166 rfl) rfl
theorem q184 : (Jvm.Cond.laysFinal "TownPurse" "TownPurse" "payments" "Ljava/util/ArrayList;") ∈ lw_all := lw_g (lw_at lw_m1 167 rfl) rfl
theorem q185 : (Jvm.Cond.soleField "TownPurse" "payments") ∈ lw_all := lw_g (lw_at lw_m1 168 rfl) rfl
theorem q186 : (Jvm.Cond.laysFinal "TownPurse" "TownPurse" "advances" "Ljava/util/ArrayList;") ∈ lw_all := lw_g (lw_at lw_m1 169 rfl) rfl
theorem q187 : (Jvm.Cond.soleField "TownPurse" "advances") ∈ lw_all := lw_g (lw_at lw_m1 170 rfl) rfl
theorem q188 : (Jvm.Cond.lays "TownPurse" "TownPurse" "limit" "I") ∈ lw_all := lw_g (lw_at lw_m1 171 rfl) rfl
theorem q189 : (Jvm.Cond.soleField "TownPurse" "limit") ∈ lw_all := lw_g (lw_at lw_m1 172 rfl) rfl
theorem q190 : (Jvm.Cond.lays "TownPurse" "TownPurse" "open" "I") ∈ lw_all := lw_g (lw_at lw_m1 173 rfl) rfl
theorem q191 : (Jvm.Cond.soleField "TownPurse" "open") ∈ lw_all := lw_g (lw_at lw_m1 174 rfl) rfl
theorem q192 : (Jvm.Cond.superclass "TownPurse" "java/lang/Object") ∈ lw_all := lw_g (lw_at lw_m1 175 rfl) rfl
theorem q194 : (Jvm.Cond.instanceMethod ({ cls := "TownPurse", name := "period", desc := "()I" } : Jvm.MethodName)) ∈ lw_all := lw_g (lw_at lw_m1 177 rfl) rfl
theorem q195 : (Jvm.Cond.selects "TownPurse" ({ cls := "TownPurse", name := "period", desc := "()I" } : Jvm.MethodName) ({ cls := "TownPurse", name := "period", desc := "()I" } : Jvm.MethodName)) ∈ lw_all := lw_g (lw_at lw_m1 178 rfl) rfl
theorem q196 : (Jvm.Cond.code ({ cls := "TownPurse", name := "period", desc := "()I" } : Jvm.MethodName) prog_1_method_14_code (1 : Nat) (Option.some Jvm.ClassFile.FieldType.int)) ∈ lw_all := lw_g (lw_at lw_m1 179 rfl) rfl
theorem q198 : (Jvm.Cond.instanceMethod ({ cls := "TownPurse", name := "entries", desc := "()I" } : Jvm.MethodName)) ∈ lw_all := lw_g (lw_at lw_m1 181 rfl) rfl
theorem q199 : (Jvm.Cond.selects "TownPurse" ({ cls := "TownPurse", name := "entries", desc := "()I" } : Jvm.MethodName) ({ cls := "TownPurse", name := "entries", desc := "()I" } : Jvm.MethodName)) ∈ lw_all := lw_g (lw_at lw_m1 182 rfl) rfl
theorem q200 : (Jvm.Cond.code ({ cls := "TownPurse", name := "entries", desc := "()I" } : Jvm.MethodName) prog_1_method_15_code (1 : Nat) (Option.some Jvm.ClassFile.FieldType.int)) ∈ lw_all := lw_g (lw_at lw_m1 183 rfl) rfl
theorem q201 : (Jvm.Cond.methodLink "TownPurse" (47 : Nat) ({ cls := "java/util/ArrayList", name := "size", desc := "()I" } : Jvm.MethodName)) ∈ lw_all := lw_g (lw_at lw_m1 184 rfl) rfl
theorem q287 : (Jvm.Cond.instanceMethod ({ cls := "TownPurse", name := "addAccount", desc := "(I)I" } : Jvm.MethodName)) ∈ lw_all := lw_g (lw_at lw_m2 30 rfl) rfl
theorem q288 : (Jvm.Cond.selects "TownPurse" ({ cls := "TownPurse", name := "addAccount", desc := "(I)I" } : Jvm.MethodName) ({ cls := "TownPurse", name := "addAccount", desc := "(I)I" } : Jvm.MethodName)) ∈ lw_all := lw_g (lw_at lw_m2 31 rfl) rfl
theorem q289 : (Jvm.Cond.code ({ cls := "TownPurse", name := "addAccount", desc := "(I)I" } : Jvm.MethodName) prog_1_method_10_code (3 : Nat) (Option.some Jvm.ClassFile.FieldType.int)) ∈ lw_all := lw_g (lw_at lw_m2 32 rfl) rfl
theorem q290 : (Jvm.Cond.methodLink "TownPurse" (70 : Nat) ({ cls := "TownPurse", name := "at", desc := "(Ljava/util/ArrayList;I)Ljava/lang/Object;" } : Jvm.MethodName)) ∈ lw_all := lw_g (lw_at lw_m2 33 rfl) rfl
theorem q291 : (Jvm.Cond.static ({ cls := "TownPurse", name := "at", desc := "(Ljava/util/ArrayList;I)Ljava/lang/Object;" } : Jvm.MethodName)) ∈ lw_all := lw_g (lw_at lw_m2 34 rfl) rfl
theorem q292 : (Jvm.Cond.code ({ cls := "TownPurse", name := "at", desc := "(Ljava/util/ArrayList;I)Ljava/lang/Object;" } : Jvm.MethodName) prog_1_method_6_code (2 : Nat) (Option.some (Jvm.ClassFile.FieldType.object "java/lang/Object"))) ∈ lw_all := lw_g (lw_at lw_m2 35 rfl) rfl
theorem q293 : (Jvm.Cond.methodLink "TownPurse" (51 : Nat) ({ cls := "TownPurse", name := "known", desc := "(Z)V" } : Jvm.MethodName)) ∈ lw_all := lw_g (lw_at lw_m2 36 rfl) rfl
theorem q294 : (Jvm.Cond.static ({ cls := "TownPurse", name := "known", desc := "(Z)V" } : Jvm.MethodName)) ∈ lw_all := lw_g (lw_at lw_m2 37 rfl) rfl
theorem q295 : (Jvm.Cond.code ({ cls := "TownPurse", name := "known", desc := "(Z)V" } : Jvm.MethodName) prog_1_method_2_code (1 : Nat) (Option.none : Option Jvm.ClassFile.FieldType)) ∈ lw_all := lw_g (lw_at lw_m2 38 rfl) rfl
theorem q296 : (Jvm.Cond.classLink "TownPurse" (38 : Nat) "java/lang/IndexOutOfBoundsException") ∈ lw_all := lw_g (lw_at lw_m2 39 rfl) rfl
theorem q305 : (Jvm.Cond.methodLink "TownPurse" (40 : Nat) ({ cls := "java/lang/IndexOutOfBoundsException", name := "<init>", desc := "()V" } : Jvm.MethodName)) ∈ lw_all := lw_g (lw_at lw_m2 48 rfl) rfl
theorem q317 : (Jvm.Cond.methodLink "TownPurse" (55 : Nat) ({ cls := "java/util/ArrayList", name := "get", desc := "(I)Ljava/lang/Object;" } : Jvm.MethodName)) ∈ lw_all := lw_g (lw_at lw_m2 60 rfl) rfl
theorem q331 : (Jvm.Cond.methodLink "TownPurse" (74 : Nat) ({ cls := "TownPurse", name := "checkState", desc := "(Z)V" } : Jvm.MethodName)) ∈ lw_all := lw_g (lw_at lw_m2 74 rfl) rfl
theorem q332 : (Jvm.Cond.static ({ cls := "TownPurse", name := "checkState", desc := "(Z)V" } : Jvm.MethodName)) ∈ lw_all := lw_g (lw_at lw_m2 75 rfl) rfl
theorem q333 : (Jvm.Cond.code ({ cls := "TownPurse", name := "checkState", desc := "(Z)V" } : Jvm.MethodName) prog_1_method_4_code (1 : Nat) (Option.none : Option Jvm.ClassFile.FieldType)) ∈ lw_all := lw_g (lw_at lw_m2 76 rfl) rfl
theorem q334 : (Jvm.Cond.classLink "TownPurse" (44 : Nat) "java/lang/IllegalStateException") ∈ lw_all := lw_g (lw_at lw_m2 77 rfl) rfl
theorem q343 : (Jvm.Cond.methodLink "TownPurse" (46 : Nat) ({ cls := "java/lang/IllegalStateException", name := "<init>", desc := "()V" } : Jvm.MethodName)) ∈ lw_all := lw_g (lw_at lw_m2 86 rfl) rfl
theorem q354 : (Jvm.Cond.instanceMethod ({ cls := "TownPurse", name := "enter", desc := "(IIII)I" } : Jvm.MethodName)) ∈ lw_all := lw_g (lw_at lw_m2 97 rfl) rfl
theorem q355 : (Jvm.Cond.selects "TownPurse" ({ cls := "TownPurse", name := "enter", desc := "(IIII)I" } : Jvm.MethodName) ({ cls := "TownPurse", name := "enter", desc := "(IIII)I" } : Jvm.MethodName)) ∈ lw_all := lw_g (lw_at lw_m2 98 rfl) rfl
theorem q356 : (Jvm.Cond.code ({ cls := "TownPurse", name := "enter", desc := "(IIII)I" } : Jvm.MethodName) prog_1_method_12_code (7 : Nat) (Option.some Jvm.ClassFile.FieldType.int)) ∈ lw_all := lw_g (lw_at lw_m2 99 rfl) rfl
theorem q357 : (Jvm.Cond.methodLink "TownPurse" (95 : Nat) ({ cls := "java/lang/Math", name := "min", desc := "(II)I" } : Jvm.MethodName)) ∈ lw_all := lw_g (lw_at lw_m2 100 rfl) rfl
theorem q358 : (Jvm.Cond.methodLink "TownPurse" (59 : Nat) ({ cls := "TownPurse", name := "isBetween", desc := "(III)Z" } : Jvm.MethodName)) ∈ lw_all := lw_g (lw_at lw_m2 101 rfl) rfl
theorem q359 : (Jvm.Cond.static ({ cls := "TownPurse", name := "isBetween", desc := "(III)Z" } : Jvm.MethodName)) ∈ lw_all := lw_g (lw_at lw_m2 102 rfl) rfl
theorem q360 : (Jvm.Cond.code ({ cls := "TownPurse", name := "isBetween", desc := "(III)Z" } : Jvm.MethodName) prog_1_method_5_code (3 : Nat) (Option.some Jvm.ClassFile.FieldType.boolean)) ∈ lw_all := lw_g (lw_at lw_m2 103 rfl) rfl
theorem q361 : (Jvm.Cond.methodLink "TownPurse" (64 : Nat) ({ cls := "TownPurse", name := "check", desc := "(Z)V" } : Jvm.MethodName)) ∈ lw_all := lw_g (lw_at lw_m2 104 rfl) rfl
theorem q362 : (Jvm.Cond.static ({ cls := "TownPurse", name := "check", desc := "(Z)V" } : Jvm.MethodName)) ∈ lw_all := lw_g (lw_at lw_m2 105 rfl) rfl
theorem q363 : (Jvm.Cond.code ({ cls := "TownPurse", name := "check", desc := "(Z)V" } : Jvm.MethodName) prog_1_method_3_code (1 : Nat) (Option.none : Option Jvm.ClassFile.FieldType)) ∈ lw_all := lw_g (lw_at lw_m2 106 rfl) rfl
theorem q364 : (Jvm.Cond.classLink "TownPurse" (41 : Nat) "java/lang/IllegalArgumentException") ∈ lw_all := lw_g (lw_at lw_m2 107 rfl) rfl
theorem q373 : (Jvm.Cond.methodLink "TownPurse" (43 : Nat) ({ cls := "java/lang/IllegalArgumentException", name := "<init>", desc := "()V" } : Jvm.MethodName)) ∈ lw_all := lw_g (lw_at lw_m2 116 rfl) rfl
theorem q379 : (Jvm.Cond.methodLink "TownPurse" (101 : Nat) ({ cls := "TownPurse", name := "checkAmount", desc := "(I)V" } : Jvm.MethodName)) ∈ lw_all := lw_g (lw_at lw_m2 122 rfl) rfl
theorem q380 : (Jvm.Cond.static ({ cls := "TownPurse", name := "checkAmount", desc := "(I)V" } : Jvm.MethodName)) ∈ lw_all := lw_g (lw_at lw_m2 123 rfl) rfl
theorem q381 : (Jvm.Cond.code ({ cls := "TownPurse", name := "checkAmount", desc := "(I)V" } : Jvm.MethodName) prog_1_method_8_code (1 : Nat) (Option.none : Option Jvm.ClassFile.FieldType)) ∈ lw_all := lw_g (lw_at lw_m2 124 rfl) rfl
theorem q382 : (Jvm.Cond.constant "TownPurse" (63 : Nat) (1000000 : Int32)) ∈ lw_all := lw_g (lw_at lw_m2 125 rfl) rfl
theorem q383 : (Jvm.Cond.methodLink "TownPurse" (105 : Nat) ({ cls := "TownPurse", name := "canEnter", desc := "(I)Z" } : Jvm.MethodName)) ∈ lw_all := lw_g (lw_at lw_m2 126 rfl) rfl
theorem q384 : (Jvm.Cond.privateMethod ({ cls := "TownPurse", name := "canEnter", desc := "(I)Z" } : Jvm.MethodName)) ∈ lw_tbl := lw_at lw_m2 127 rfl
theorem q385 : (Jvm.Cond.instanceMethod ({ cls := "TownPurse", name := "canEnter", desc := "(I)Z" } : Jvm.MethodName)) ∈ lw_all := lw_g (lw_at lw_m2 128 rfl) rfl
theorem q386 : (Jvm.Cond.code ({ cls := "TownPurse", name := "canEnter", desc := "(I)Z" } : Jvm.MethodName) prog_1_method_9_code (2 : Nat) (Option.some Jvm.ClassFile.FieldType.boolean)) ∈ lw_all := lw_g (lw_at lw_m2 129 rfl) rfl
theorem q387 : (Jvm.Cond.classLink "TownPurse" (109 : Nat) "TownPurse$Late") ∈ lw_all := lw_g (lw_at lw_m2 130 rfl) rfl
theorem q389 : (Jvm.Cond.methodLinkNest "TownPurse" (111 : Nat) ({ cls := "TownPurse$Late", name := "<init>", desc := "(ILTownPurse$Account;LTownPurse$Account;I)V" } : Jvm.MethodName) "TownPurse") ∈ lw_tbl := lw_at lw_m2 132 rfl
theorem q409 : (Jvm.Cond.classLink "TownPurse" (114 : Nat) "TownPurse$OnTime") ∈ lw_all := lw_g (lw_at lw_m2 152 rfl) rfl
theorem q411 : (Jvm.Cond.methodLinkNest "TownPurse" (116 : Nat) ({ cls := "TownPurse$OnTime", name := "<init>", desc := "(ILTownPurse$Account;LTownPurse$Account;I)V" } : Jvm.MethodName) "TownPurse") ∈ lw_tbl := lw_at lw_m2 154 rfl
theorem q428 : (Jvm.Cond.methodLink "TownPurse" (117 : Nat) ({ cls := "TownPurse", name := "add", desc := "(LTownPurse$Entry;)V" } : Jvm.MethodName)) ∈ lw_all := lw_g (lw_at lw_m2 171 rfl) rfl
theorem q429 : (Jvm.Cond.privateMethod ({ cls := "TownPurse", name := "add", desc := "(LTownPurse$Entry;)V" } : Jvm.MethodName)) ∈ lw_tbl := lw_at lw_m2 172 rfl
theorem q430 : (Jvm.Cond.instanceMethod ({ cls := "TownPurse", name := "add", desc := "(LTownPurse$Entry;)V" } : Jvm.MethodName)) ∈ lw_all := lw_g (lw_at lw_m2 173 rfl) rfl
theorem q431 : (Jvm.Cond.code ({ cls := "TownPurse", name := "add", desc := "(LTownPurse$Entry;)V" } : Jvm.MethodName) prog_1_method_11_code (2 : Nat) (Option.none : Option Jvm.ClassFile.FieldType)) ∈ lw_all := lw_g (lw_at lw_m2 174 rfl) rfl
theorem q432 : (Jvm.Cond.interfaceEntry "TownPurse" (77 : Nat)) ∈ lw_tbl := lw_at lw_m2 175 rfl
theorem q433 : (Jvm.Cond.methodLink "TownPurse" (77 : Nat) ({ cls := "TownPurse$Entry", name := "to", desc := "()LTownPurse$Account;" } : Jvm.MethodName)) ∈ lw_all := lw_g (lw_at lw_m2 176 rfl) rfl
theorem q448 : (Jvm.Cond.interfaceEntry "TownPurse" (83 : Nat)) ∈ lw_tbl := lw_at lw_m2 191 rfl
theorem q449 : (Jvm.Cond.methodLink "TownPurse" (83 : Nat) ({ cls := "TownPurse$Entry", name := "period", desc := "()I" } : Jvm.MethodName)) ∈ lw_all := lw_g (lw_at lw_m2 192 rfl) rfl
theorem q462 : (Jvm.Cond.interfaceEntry "TownPurse" (86 : Nat)) ∈ lw_tbl := lw_at lw_m2 205 rfl
theorem q463 : (Jvm.Cond.methodLink "TownPurse" (86 : Nat) ({ cls := "TownPurse$Entry", name := "amount", desc := "()I" } : Jvm.MethodName)) ∈ lw_all := lw_g (lw_at lw_m2 206 rfl) rfl
theorem q476 : (Jvm.Cond.methodLink "TownPurse" (89 : Nat) ({ cls := "TownPurse$Account", name := "add", desc := "(II)V" } : Jvm.MethodName)) ∈ lw_all := lw_g (lw_at lw_m2 219 rfl) rfl
theorem q481 : (Jvm.Cond.interfaceEntry "TownPurse" (92 : Nat)) ∈ lw_tbl := lw_at lw_m2 224 rfl
theorem q482 : (Jvm.Cond.methodLink "TownPurse" (92 : Nat) ({ cls := "TownPurse$Entry", name := "from", desc := "()LTownPurse$Account;" } : Jvm.MethodName)) ∈ lw_all := lw_g (lw_at lw_m2 225 rfl) rfl
theorem q499 : (Jvm.Cond.instanceMethod ({ cls := "TownPurse", name := "close", desc := "()I" } : Jvm.MethodName)) ∈ lw_all := lw_g (lw_at lw_m3 2 rfl) rfl
theorem q500 : (Jvm.Cond.selects "TownPurse" ({ cls := "TownPurse", name := "close", desc := "()I" } : Jvm.MethodName) ({ cls := "TownPurse", name := "close", desc := "()I" } : Jvm.MethodName)) ∈ lw_all := lw_g (lw_at lw_m3 3 rfl) rfl
theorem q501 : (Jvm.Cond.code ({ cls := "TownPurse", name := "close", desc := "()I" } : Jvm.MethodName) prog_1_method_13_code (1 : Nat) (Option.some Jvm.ClassFile.FieldType.int)) ∈ lw_all := lw_g (lw_at lw_m3 4 rfl) rfl
theorem q506 : (Jvm.Cond.instanceMethod ({ cls := "TownPurse", name := "periodOf", desc := "(I)I" } : Jvm.MethodName)) ∈ lw_all := lw_g (lw_at lw_m3 9 rfl) rfl
theorem q507 : (Jvm.Cond.selects "TownPurse" ({ cls := "TownPurse", name := "periodOf", desc := "(I)I" } : Jvm.MethodName) ({ cls := "TownPurse", name := "periodOf", desc := "(I)I" } : Jvm.MethodName)) ∈ lw_all := lw_g (lw_at lw_m3 10 rfl) rfl
theorem q508 : (Jvm.Cond.code ({ cls := "TownPurse", name := "periodOf", desc := "(I)I" } : Jvm.MethodName) prog_1_method_16_code (2 : Nat) (Option.some Jvm.ClassFile.FieldType.int)) ∈ lw_all := lw_g (lw_at lw_m3 11 rfl) rfl
theorem q509 : (Jvm.Cond.classLink "TownPurse" (78 : Nat) "TownPurse$Entry") ∈ lw_all := lw_g (lw_at lw_m3 12 rfl) rfl
theorem q514 : (Jvm.Cond.instanceMethod ({ cls := "TownPurse", name := "isLate", desc := "(I)Z" } : Jvm.MethodName)) ∈ lw_all := lw_g (lw_at lw_m3 17 rfl) rfl
theorem q515 : (Jvm.Cond.selects "TownPurse" ({ cls := "TownPurse", name := "isLate", desc := "(I)Z" } : Jvm.MethodName) ({ cls := "TownPurse", name := "isLate", desc := "(I)Z" } : Jvm.MethodName)) ∈ lw_all := lw_g (lw_at lw_m3 18 rfl) rfl
theorem q516 : (Jvm.Cond.code ({ cls := "TownPurse", name := "isLate", desc := "(I)Z" } : Jvm.MethodName) prog_1_method_17_code (2 : Nat) (Option.some Jvm.ClassFile.FieldType.boolean)) ∈ lw_all := lw_g (lw_at lw_m3 19 rfl) rfl
theorem q517 : (Jvm.Cond.interfaceEntry "TownPurse" (120 : Nat)) ∈ lw_tbl := lw_at lw_m3 20 rfl
theorem q518 : (Jvm.Cond.methodLink "TownPurse" (120 : Nat) ({ cls := "TownPurse$Entry", name := "isLate", desc := "()Z" } : Jvm.MethodName)) ∈ lw_all := lw_g (lw_at lw_m3 21 rfl) rfl
theorem q535 : (Jvm.Cond.instanceMethod ({ cls := "TownPurse", name := "balance", desc := "(II)I" } : Jvm.MethodName)) ∈ lw_all := lw_g (lw_at lw_m3 38 rfl) rfl
theorem q536 : (Jvm.Cond.selects "TownPurse" ({ cls := "TownPurse", name := "balance", desc := "(II)I" } : Jvm.MethodName) ({ cls := "TownPurse", name := "balance", desc := "(II)I" } : Jvm.MethodName)) ∈ lw_all := lw_g (lw_at lw_m3 39 rfl) rfl
theorem q537 : (Jvm.Cond.code ({ cls := "TownPurse", name := "balance", desc := "(II)I" } : Jvm.MethodName) prog_1_method_19_code (6 : Nat) (Option.some Jvm.ClassFile.FieldType.int)) ∈ lw_all := lw_g (lw_at lw_m3 40 rfl) rfl
theorem q538 : (Jvm.Cond.methodLink "TownPurse" (124 : Nat) ({ cls := "TownPurse", name := "checkPeriod", desc := "(I)V" } : Jvm.MethodName)) ∈ lw_all := lw_g (lw_at lw_m3 41 rfl) rfl
theorem q539 : (Jvm.Cond.static ({ cls := "TownPurse", name := "checkPeriod", desc := "(I)V" } : Jvm.MethodName)) ∈ lw_all := lw_g (lw_at lw_m3 42 rfl) rfl
theorem q540 : (Jvm.Cond.code ({ cls := "TownPurse", name := "checkPeriod", desc := "(I)V" } : Jvm.MethodName) prog_1_method_18_code (1 : Nat) (Option.none : Option Jvm.ClassFile.FieldType)) ∈ lw_all := lw_g (lw_at lw_m3 43 rfl) rfl
theorem q545 : (Jvm.Cond.instanceMethod ({ cls := "TownPurse", name := "balanceByEntries", desc := "(II)I" } : Jvm.MethodName)) ∈ lw_all := lw_g (lw_at lw_m3 48 rfl) rfl
theorem q546 : (Jvm.Cond.selects "TownPurse" ({ cls := "TownPurse", name := "balanceByEntries", desc := "(II)I" } : Jvm.MethodName) ({ cls := "TownPurse", name := "balanceByEntries", desc := "(II)I" } : Jvm.MethodName)) ∈ lw_all := lw_g (lw_at lw_m3 49 rfl) rfl
theorem q547 : (Jvm.Cond.code ({ cls := "TownPurse", name := "balanceByEntries", desc := "(II)I" } : Jvm.MethodName) prog_1_method_20_code (7 : Nat) (Option.some Jvm.ClassFile.FieldType.int)) ∈ lw_all := lw_g (lw_at lw_m3 50 rfl) rfl
theorem q548 : (Jvm.Cond.interfaceEntry "TownPurse" (131 : Nat)) ∈ lw_tbl := lw_at lw_m3 51 rfl
theorem q549 : (Jvm.Cond.methodLink "TownPurse" (131 : Nat) ({ cls := "TownPurse$Entry", name := "makes", desc := "(LTownPurse$Account;)I" } : Jvm.MethodName)) ∈ lw_all := lw_g (lw_at lw_m3 52 rfl) rfl
theorem q572 : (Jvm.Cond.instanceMethod ({ cls := "TownPurse", name := "grant", desc := "(II)V" } : Jvm.MethodName)) ∈ lw_all := lw_g (lw_at lw_m3 75 rfl) rfl
theorem q573 : (Jvm.Cond.selects "TownPurse" ({ cls := "TownPurse", name := "grant", desc := "(II)V" } : Jvm.MethodName) ({ cls := "TownPurse", name := "grant", desc := "(II)V" } : Jvm.MethodName)) ∈ lw_all := lw_g (lw_at lw_m3 76 rfl) rfl
theorem q574 : (Jvm.Cond.code ({ cls := "TownPurse", name := "grant", desc := "(II)V" } : Jvm.MethodName) prog_1_method_21_code (4 : Nat) (Option.none : Option Jvm.ClassFile.FieldType)) ∈ lw_all := lw_g (lw_at lw_m3 77 rfl) rfl
theorem q579 : (Jvm.Cond.instanceMethod ({ cls := "TownPurse", name := "amend", desc := "(IIIZ)I" } : Jvm.MethodName)) ∈ lw_all := lw_g (lw_at lw_m3 82 rfl) rfl
theorem q580 : (Jvm.Cond.selects "TownPurse" ({ cls := "TownPurse", name := "amend", desc := "(IIIZ)I" } : Jvm.MethodName) ({ cls := "TownPurse", name := "amend", desc := "(IIIZ)I" } : Jvm.MethodName)) ∈ lw_all := lw_g (lw_at lw_m3 83 rfl) rfl
theorem q581 : (Jvm.Cond.code ({ cls := "TownPurse", name := "amend", desc := "(IIIZ)I" } : Jvm.MethodName) prog_1_method_22_code (7 : Nat) (Option.some Jvm.ClassFile.FieldType.int)) ∈ lw_all := lw_g (lw_at lw_m3 84 rfl) rfl
theorem q582 : (Jvm.Cond.methodLink "TownPurse" (142 : Nat) ({ cls := "TownPurse$Account", name := "left", desc := "()I" } : Jvm.MethodName)) ∈ lw_all := lw_g (lw_at lw_m3 85 rfl) rfl
theorem q590 : (Jvm.Cond.instanceMethod ({ cls := "TownPurse", name := "left", desc := "(I)I" } : Jvm.MethodName)) ∈ lw_all := lw_g (lw_at lw_m3 93 rfl) rfl
theorem q591 : (Jvm.Cond.selects "TownPurse" ({ cls := "TownPurse", name := "left", desc := "(I)I" } : Jvm.MethodName) ({ cls := "TownPurse", name := "left", desc := "(I)I" } : Jvm.MethodName)) ∈ lw_all := lw_g (lw_at lw_m3 94 rfl) rfl
theorem q592 : (Jvm.Cond.code ({ cls := "TownPurse", name := "left", desc := "(I)I" } : Jvm.MethodName) prog_1_method_23_code (3 : Nat) (Option.some Jvm.ClassFile.FieldType.int)) ∈ lw_all := lw_g (lw_at lw_m3 95 rfl) rfl
theorem q597 : (Jvm.Cond.instanceMethod ({ cls := "TownPurse", name := "setLimit", desc := "(I)I" } : Jvm.MethodName)) ∈ lw_all := lw_g (lw_at lw_m3 100 rfl) rfl
theorem q598 : (Jvm.Cond.selects "TownPurse" ({ cls := "TownPurse", name := "setLimit", desc := "(I)I" } : Jvm.MethodName) ({ cls := "TownPurse", name := "setLimit", desc := "(I)I" } : Jvm.MethodName)) ∈ lw_all := lw_g (lw_at lw_m3 101 rfl) rfl
theorem q599 : (Jvm.Cond.code ({ cls := "TownPurse", name := "setLimit", desc := "(I)I" } : Jvm.MethodName) prog_1_method_24_code (3 : Nat) (Option.some Jvm.ClassFile.FieldType.int)) ∈ lw_all := lw_g (lw_at lw_m3 102 rfl) rfl
theorem q604 : (Jvm.Cond.instanceMethod ({ cls := "TownPurse", name := "prepare", desc := "(IIII)I" } : Jvm.MethodName)) ∈ lw_all := lw_g (lw_at lw_m3 107 rfl) rfl
theorem q605 : (Jvm.Cond.selects "TownPurse" ({ cls := "TownPurse", name := "prepare", desc := "(IIII)I" } : Jvm.MethodName) ({ cls := "TownPurse", name := "prepare", desc := "(IIII)I" } : Jvm.MethodName)) ∈ lw_all := lw_g (lw_at lw_m3 108 rfl) rfl
theorem q606 : (Jvm.Cond.code ({ cls := "TownPurse", name := "prepare", desc := "(IIII)I" } : Jvm.MethodName) prog_1_method_25_code (6 : Nat) (Option.some Jvm.ClassFile.FieldType.int)) ∈ lw_all := lw_g (lw_at lw_m3 109 rfl) rfl
theorem q607 : (Jvm.Cond.methodLink "TownPurse" (151 : Nat) ({ cls := "TownPurse", name := "knownPerson", desc := "(I)V" } : Jvm.MethodName)) ∈ lw_all := lw_g (lw_at lw_m3 110 rfl) rfl
theorem q608 : (Jvm.Cond.static ({ cls := "TownPurse", name := "knownPerson", desc := "(I)V" } : Jvm.MethodName)) ∈ lw_all := lw_g (lw_at lw_m3 111 rfl) rfl
theorem q609 : (Jvm.Cond.code ({ cls := "TownPurse", name := "knownPerson", desc := "(I)V" } : Jvm.MethodName) prog_1_method_7_code (1 : Nat) (Option.none : Option Jvm.ClassFile.FieldType)) ∈ lw_all := lw_g (lw_at lw_m3 112 rfl) rfl
theorem q610 : (Jvm.Cond.classLink "TownPurse" (154 : Nat) "TownPurse$Payment") ∈ lw_all := lw_g (lw_at lw_m3 113 rfl) rfl
theorem q612 : (Jvm.Cond.methodLink "TownPurse" (156 : Nat) ({ cls := "TownPurse$Payment", name := "<init>", desc := "(LTownPurse$Account;IIII)V" } : Jvm.MethodName)) ∈ lw_all := lw_g (lw_at lw_m3 115 rfl) rfl
theorem q619 : (Jvm.Cond.fieldLinkNest "TownPurse" (195 : Nat) "TownPurse$Payment" "account" "LTownPurse$Account;" "TownPurse") ∈ lw_tbl := lw_at lw_m3 122 rfl
theorem q622 : (Jvm.Cond.fieldLinkNest "TownPurse" (168 : Nat) "TownPurse$Payment" "amount" "I" "TownPurse") ∈ lw_tbl := lw_at lw_m3 125 rfl
theorem q624 : (Jvm.Cond.fieldLinkNest "TownPurse" (180 : Nat) "TownPurse$Payment" "person" "I" "TownPurse") ∈ lw_tbl := lw_at lw_m3 127 rfl
theorem q627 : (Jvm.Cond.fieldLinkNest "TownPurse" (159 : Nat) "TownPurse$Payment" "stage" "LTownPurse$Stage;" "TownPurse") ∈ lw_tbl := lw_at lw_m3 130 rfl
theorem q629 : (Jvm.Cond.fieldLinkNest "TownPurse" (183 : Nat) "TownPurse$Payment" "releasers" "I" "TownPurse") ∈ lw_tbl := lw_at lw_m3 132 rfl
theorem q649 : (Jvm.Cond.instanceMethod ({ cls := "TownPurse", name := "release", desc := "(II)I" } : Jvm.MethodName)) ∈ lw_all := lw_g (lw_at lw_m3 152 rfl) rfl
theorem q650 : (Jvm.Cond.selects "TownPurse" ({ cls := "TownPurse", name := "release", desc := "(II)I" } : Jvm.MethodName) ({ cls := "TownPurse", name := "release", desc := "(II)I" } : Jvm.MethodName)) ∈ lw_all := lw_g (lw_at lw_m3 153 rfl) rfl
theorem q651 : (Jvm.Cond.code ({ cls := "TownPurse", name := "release", desc := "(II)I" } : Jvm.MethodName) prog_1_method_28_code (6 : Nat) (Option.some Jvm.ClassFile.FieldType.int)) ∈ lw_all := lw_g (lw_at lw_m3 154 rfl) rfl
theorem q652 : (Jvm.Cond.fieldLink "TownPurse" (177 : Nat) "TownPurse$Stage" "READY" "LTownPurse$Stage;") ∈ lw_all := lw_g (lw_at lw_m3 155 rfl) rfl
theorem q653 : (Jvm.Cond.methodLink "TownPurse" (186 : Nat) ({ cls := "TownPurse", name := "wasSplit", desc := "(LTownPurse$Payment;)Z" } : Jvm.MethodName)) ∈ lw_all := lw_g (lw_at lw_m3 156 rfl) rfl
theorem q654 : (Jvm.Cond.privateMethod ({ cls := "TownPurse", name := "wasSplit", desc := "(LTownPurse$Payment;)Z" } : Jvm.MethodName)) ∈ lw_tbl := lw_at lw_m3 157 rfl
theorem q655 : (Jvm.Cond.instanceMethod ({ cls := "TownPurse", name := "wasSplit", desc := "(LTownPurse$Payment;)Z" } : Jvm.MethodName)) ∈ lw_all := lw_g (lw_at lw_m3 158 rfl) rfl
theorem q656 : (Jvm.Cond.code ({ cls := "TownPurse", name := "wasSplit", desc := "(LTownPurse$Payment;)Z" } : Jvm.MethodName) prog_1_method_27_code (5 : Nat) (Option.some Jvm.ClassFile.FieldType.boolean)) ∈ lw_all := lw_g (lw_at lw_m3 159 rfl) rfl
theorem q657 : (Jvm.Cond.methodLink "TownPurse" (170 : Nat) ({ cls := "TownPurse", name := "isBelow", desc := "(LTownPurse$Payment;)Z" } : Jvm.MethodName)) ∈ lw_all := lw_g (lw_at lw_m3 160 rfl) rfl
theorem q658 : (Jvm.Cond.privateMethod ({ cls := "TownPurse", name := "isBelow", desc := "(LTownPurse$Payment;)Z" } : Jvm.MethodName)) ∈ lw_tbl := lw_at lw_m3 161 rfl
theorem q659 : (Jvm.Cond.instanceMethod ({ cls := "TownPurse", name := "isBelow", desc := "(LTownPurse$Payment;)Z" } : Jvm.MethodName)) ∈ lw_all := lw_g (lw_at lw_m3 162 rfl) rfl
theorem q660 : (Jvm.Cond.code ({ cls := "TownPurse", name := "isBelow", desc := "(LTownPurse$Payment;)Z" } : Jvm.MethodName) prog_1_method_26_code (2 : Nat) (Option.some Jvm.ClassFile.FieldType.boolean)) ∈ lw_all := lw_g (lw_at lw_m3 163 rfl) rfl
theorem q661 : (Jvm.Cond.methodLink "TownPurse" (163 : Nat) ({ cls := "TownPurse$Stage", name := "counts", desc := "()Z" } : Jvm.MethodName)) ∈ lw_all := lw_g (lw_at lw_m3 164 rfl) rfl
theorem q673 : (Jvm.Cond.methodLink "TownPurse" (174 : Nat) ({ cls := "TownPurse$Payment", name := "isLike", desc := "(LTownPurse$Payment;)Z" } : Jvm.MethodName)) ∈ lw_all := lw_g (lw_at lw_m3 176 rfl) rfl
theorem q677 : (Jvm.Cond.methodLink "TownPurse" (189 : Nat) ({ cls := "TownPurse$Payment", name := "many", desc := "()I" } : Jvm.MethodName)) ∈ lw_all := lw_g (lw_at lw_m3 180 rfl) rfl
theorem q681 : (Jvm.Cond.methodLink "TownPurse" (192 : Nat) ({ cls := "java/lang/Math", name := "max", desc := "(II)I" } : Jvm.MethodName)) ∈ lw_all := lw_g (lw_at lw_m3 184 rfl) rfl
theorem q682 : (Jvm.Cond.fieldLink "TownPurse" (199 : Nat) "TownPurse$Stage" "DONE" "LTownPurse$Stage;") ∈ lw_all := lw_g (lw_at lw_m3 185 rfl) rfl
theorem q688 : (Jvm.Cond.instanceMethod ({ cls := "TownPurse", name := "refuse", desc := "(I)I" } : Jvm.MethodName)) ∈ lw_all := lw_g (lw_at lw_m3 191 rfl) rfl
theorem q689 : (Jvm.Cond.selects "TownPurse" ({ cls := "TownPurse", name := "refuse", desc := "(I)I" } : Jvm.MethodName) ({ cls := "TownPurse", name := "refuse", desc := "(I)I" } : Jvm.MethodName)) ∈ lw_all := lw_g (lw_at lw_m3 192 rfl) rfl
theorem q690 : (Jvm.Cond.code ({ cls := "TownPurse", name := "refuse", desc := "(I)I" } : Jvm.MethodName) prog_1_method_30_code (4 : Nat) (Option.some Jvm.ClassFile.FieldType.int)) ∈ lw_all := lw_g (lw_at lw_m3 193 rfl) rfl
theorem q691 : (Jvm.Cond.methodLink "TownPurse" (205 : Nat) ({ cls := "TownPurse", name := "countSplit", desc := "(LTownPurse$Payment;)I" } : Jvm.MethodName)) ∈ lw_all := lw_g (lw_at lw_m3 194 rfl) rfl
theorem q692 : (Jvm.Cond.privateMethod ({ cls := "TownPurse", name := "countSplit", desc := "(LTownPurse$Payment;)I" } : Jvm.MethodName)) ∈ lw_tbl := lw_at lw_m3 195 rfl
theorem q693 : (Jvm.Cond.instanceMethod ({ cls := "TownPurse", name := "countSplit", desc := "(LTownPurse$Payment;)I" } : Jvm.MethodName)) ∈ lw_all := lw_g (lw_at lw_m3 196 rfl) rfl
theorem q694 : (Jvm.Cond.code ({ cls := "TownPurse", name := "countSplit", desc := "(LTownPurse$Payment;)I" } : Jvm.MethodName) prog_1_method_29_code (4 : Nat) (Option.some Jvm.ClassFile.FieldType.int)) ∈ lw_all := lw_g (lw_at lw_m3 197 rfl) rfl
theorem q695 : (Jvm.Cond.fieldLink "TownPurse" (209 : Nat) "TownPurse$Stage" "GONE" "LTownPurse$Stage;") ∈ lw_all := lw_g (lw_at lw_m3 198 rfl) rfl
theorem q701 : (Jvm.Cond.instanceMethod ({ cls := "TownPurse", name := "stateOf", desc := "(I)I" } : Jvm.MethodName)) ∈ lw_all := lw_g (lw_at lw_m3 204 rfl) rfl
theorem q702 : (Jvm.Cond.selects "TownPurse" ({ cls := "TownPurse", name := "stateOf", desc := "(I)I" } : Jvm.MethodName) ({ cls := "TownPurse", name := "stateOf", desc := "(I)I" } : Jvm.MethodName)) ∈ lw_all := lw_g (lw_at lw_m3 205 rfl) rfl
theorem q703 : (Jvm.Cond.code ({ cls := "TownPurse", name := "stateOf", desc := "(I)I" } : Jvm.MethodName) prog_1_method_31_code (2 : Nat) (Option.some Jvm.ClassFile.FieldType.int)) ∈ lw_all := lw_g (lw_at lw_m3 206 rfl) rfl
theorem q704 : (Jvm.Cond.methodLink "TownPurse" (212 : Nat) ({ cls := "TownPurse$Stage", name := "ordinal", desc := "()I" } : Jvm.MethodName)) ∈ lw_all := lw_g (lw_at lw_m3 207 rfl) rfl
theorem q716 : (Jvm.Cond.instanceMethod ({ cls := "TownPurse", name := "isSplit", desc := "(I)Z" } : Jvm.MethodName)) ∈ lw_all := lw_g (lw_at lw_m3 219 rfl) rfl
theorem q717 : (Jvm.Cond.selects "TownPurse" ({ cls := "TownPurse", name := "isSplit", desc := "(I)Z" } : Jvm.MethodName) ({ cls := "TownPurse", name := "isSplit", desc := "(I)Z" } : Jvm.MethodName)) ∈ lw_all := lw_g (lw_at lw_m3 220 rfl) rfl
theorem q718 : (Jvm.Cond.code ({ cls := "TownPurse", name := "isSplit", desc := "(I)Z" } : Jvm.MethodName) prog_1_method_32_code (2 : Nat) (Option.some Jvm.ClassFile.FieldType.boolean)) ∈ lw_all := lw_g (lw_at lw_m3 221 rfl) rfl
theorem q723 : (Jvm.Cond.instanceMethod ({ cls := "TownPurse", name := "advance", desc := "(II)I" } : Jvm.MethodName)) ∈ lw_all := lw_g (lw_at lw_m3 226 rfl) rfl
theorem q724 : (Jvm.Cond.selects "TownPurse" ({ cls := "TownPurse", name := "advance", desc := "(II)I" } : Jvm.MethodName) ({ cls := "TownPurse", name := "advance", desc := "(II)I" } : Jvm.MethodName)) ∈ lw_all := lw_g (lw_at lw_m3 227 rfl) rfl
theorem q725 : (Jvm.Cond.code ({ cls := "TownPurse", name := "advance", desc := "(II)I" } : Jvm.MethodName) prog_1_method_33_code (5 : Nat) (Option.some Jvm.ClassFile.FieldType.int)) ∈ lw_all := lw_g (lw_at lw_m3 228 rfl) rfl
theorem q726 : (Jvm.Cond.classLink "TownPurse" (215 : Nat) "TownPurse$Advance") ∈ lw_all := lw_g (lw_at lw_m3 229 rfl) rfl
theorem q728 : (Jvm.Cond.methodLink "TownPurse" (221 : Nat) ({ cls := "TownPurse$Advance", name := "<init>", desc := "(II)V" } : Jvm.MethodName)) ∈ lw_all := lw_g (lw_at lw_m3 231 rfl) rfl
theorem q733 : (Jvm.Cond.fieldLinkNest "TownPurse" (217 : Nat) "TownPurse$Advance" "person" "I" "TownPurse") ∈ lw_tbl := lw_at lw_m3 236 rfl
theorem q735 : (Jvm.Cond.fieldLinkNest "TownPurse" (223 : Nat) "TownPurse$Advance" "amount" "I" "TownPurse") ∈ lw_tbl := lw_at lw_m3 238 rfl
theorem q736 : (Jvm.Cond.fieldLinkNest "TownPurse" (218 : Nat) "TownPurse$Advance" "isSettled" "Z" "TownPurse") ∈ lw_tbl := lw_at lw_m3 239 rfl
theorem q748 : (Jvm.Cond.instanceMethod ({ cls := "TownPurse", name := "settle", desc := "(III)I" } : Jvm.MethodName)) ∈ lw_all := lw_g (lw_at lw_m4 11 rfl) rfl
theorem q749 : (Jvm.Cond.selects "TownPurse" ({ cls := "TownPurse", name := "settle", desc := "(III)I" } : Jvm.MethodName) ({ cls := "TownPurse", name := "settle", desc := "(III)I" } : Jvm.MethodName)) ∈ lw_all := lw_g (lw_at lw_m4 12 rfl) rfl
theorem q750 : (Jvm.Cond.code ({ cls := "TownPurse", name := "settle", desc := "(III)I" } : Jvm.MethodName) prog_1_method_34_code (6 : Nat) (Option.some Jvm.ClassFile.FieldType.int)) ∈ lw_all := lw_g (lw_at lw_m4 13 rfl) rfl
theorem q970 : (Jvm.Cond.castable "TownPurse" "java/lang/Object") ∈ lw_tbl := lw_at lw_m4 233 rfl
theorem in_X1 : ∀ w ∈ wsX10, w ∈ lw_all := lw_in wsX10 [180, 182, 184, 186, 188, 190] (by decide +kernel) (by decide +kernel)

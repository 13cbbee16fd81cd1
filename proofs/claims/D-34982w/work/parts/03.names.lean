/-! TownPurseModel -/
set_option maxRecDepth 100000
def RX3 : String := "TownPurseModel"
def TX3 : u_T := fun k => match k with
  | 0 => ("TownPurseModel", "accounts", "I", false)
  | 1 => ("TownPurseModel", "aboves", "[I", true)
  | 2 => ("TownPurseModel", "open", "I", false)
  | 3 => ("TownPurseModel", "entries", "I", false)
  | 4 => ("TownPurseModel", "periods", "[I", true)
  | 5 => ("TownPurseModel", "tos", "[I", true)
  | 6 => ("TownPurseModel", "froms", "[I", true)
  | 7 => ("TownPurseModel", "amounts", "[I", true)
  | 8 => ("TownPurseModel", "lates", "[I", true)
  | 9 => ("TownPurseModel", "has", "[I", true)
  | 10 => ("TownPurseModel", "granted", "[I", true)
  | 11 => ("TownPurseModel", "moved", "[I", true)
  | 12 => ("TownPurseModel", "alone", "[I", true)
  | 13 => ("TownPurseModel", "used", "[I", true)
  | 14 => ("TownPurseModel", "limit", "I", false)
  | 15 => ("TownPurseModel", "payments", "I", false)
  | 16 => ("TownPurseModel", "ofAccount", "[I", true)
  | 17 => ("TownPurseModel", "payees", "[I", true)
  | 18 => ("TownPurseModel", "sums", "[I", true)
  | 19 => ("TownPurseModel", "preparers", "[I", true)
  | 20 => ("TownPurseModel", "since", "[I", true)
  | 21 => ("TownPurseModel", "states", "[I", true)
  | 22 => ("TownPurseModel", "releasers", "[I", true)
  | 23 => ("TownPurseModel", "before", "[I", true)
  | 24 => ("TownPurseModel", "advances", "I", false)
  | 25 => ("TownPurseModel", "people", "[I", true)
  | 26 => ("TownPurseModel", "given", "[I", true)
  | 27 => ("TownPurseModel", "settled", "[I", true)
  | _ => ("TownPurseModel", "thrown", "I", false)
def tyX3 : Nat → FieldType := fun k => match k with
  | 0 => .int
  | 1 => .array .int
  | 2 => .int
  | 3 => .int
  | 4 => .array .int
  | 5 => .array .int
  | 6 => .array .int
  | 7 => .array .int
  | 8 => .array .int
  | 9 => .array .int
  | 10 => .array .int
  | 11 => .array .int
  | 12 => .array .int
  | 13 => .array .int
  | 14 => .int
  | 15 => .int
  | 16 => .array .int
  | 17 => .array .int
  | 18 => .array .int
  | 19 => .array .int
  | 20 => .array .int
  | 21 => .array .int
  | 22 => .array .int
  | 23 => .array .int
  | 24 => .int
  | 25 => .array .int
  | 26 => .array .int
  | 27 => .array .int
  | _ => .int
abbrev wsX30 : List Cond := u_ws RX3 TX3 29
set_option maxRecDepth 100000 in
theorem nmX3 : ∀ a, a < 29 → ∀ b, b < 29 → a ≠ b → (TX3 a).2.1 ≠ (TX3 b).2.1 := by decide +kernel
set_option maxRecDepth 100000 in
theorem tyX3_ok : ∀ k, k < 29 → parseFieldDescriptor (TX3 k).2.2.1 = some (tyX3 k) := by decide +kernel
abbrev cX3_init : ByteArray := prog_13_method_1_code
def yX3_init : MethodName := ⟨RX3, "<init>", "()V"⟩
def dkwX3_init_8 : List UInt8 := [181, 0, 80, 42, 180, 0, 13, 3, 2, 79, 42, 180, 0, 13, 4, 2, 79, 177]
abbrev dktX3_init_8 : List UInt8 := dkwX3_init_8 ++ []
def dkwX3_init_7 : List UInt8 := [181, 0, 71, 42, 16, 120, 188, 10, 181, 0, 74, 42, 16, 120, 188, 10, 181, 0, 77, 42, 16, 120, 188, 10]
abbrev dktX3_init_7 : List UInt8 := dkwX3_init_7 ++ dktX3_init_8
def dkwX3_init_6 : List UInt8 := [181, 0, 62, 42, 16, 40, 188, 10, 181, 0, 65, 42, 16, 40, 188, 10, 181, 0, 68, 42, 16, 40, 188, 10]
abbrev dktX3_init_6 : List UInt8 := dkwX3_init_6 ++ dktX3_init_7
def dkwX3_init_5 : List UInt8 := [181, 0, 53, 42, 16, 40, 188, 10, 181, 0, 56, 42, 16, 40, 188, 10, 181, 0, 59, 42, 16, 40, 188, 10]
abbrev dktX3_init_5 : List UInt8 := dkwX3_init_5 ++ dktX3_init_6
def dkwX3_init_4 : List UInt8 := [181, 0, 44, 42, 17, 19, 136, 181, 0, 47, 42, 16, 40, 188, 10, 181, 0, 50, 42, 16, 40, 188, 10]
abbrev dktX3_init_4 : List UInt8 := dkwX3_init_4 ++ dktX3_init_5
def dkwX3_init_3 : List UInt8 := [181, 0, 35, 42, 16, 14, 188, 10, 181, 0, 38, 42, 16, 14, 188, 10, 181, 0, 41, 42, 16, 14, 188, 10]
abbrev dktX3_init_3 : List UInt8 := dkwX3_init_3 ++ dktX3_init_4
def dkwX3_init_2 : List UInt8 := [181, 0, 26, 42, 16, 120, 188, 10, 181, 0, 29, 42, 16, 14, 188, 10, 181, 0, 32, 42, 16, 14, 188, 10]
abbrev dktX3_init_2 : List UInt8 := dkwX3_init_2 ++ dktX3_init_3
def dkwX3_init_1 : List UInt8 := [181, 0, 17, 42, 16, 120, 188, 10, 181, 0, 20, 42, 16, 120, 188, 10, 181, 0, 23, 42, 16, 120, 188, 10]
abbrev dktX3_init_1 : List UInt8 := dkwX3_init_1 ++ dktX3_init_2
def dkwX3_init_0 : List UInt8 := [42, 183, 0, 1, 42, 5, 181, 0, 7, 42, 16, 14, 188, 10, 181, 0, 13, 42, 16, 120, 188, 10]
abbrev dktX3_init_0 : List UInt8 := dkwX3_init_0 ++ dktX3_init_1
theorem dksX3_init_0 : cX3_init.data.toList.drop 0 = dktX3_init_0 := by decide +kernel
theorem dksX3_init_1 : cX3_init.data.toList.drop 22 = dktX3_init_1 := dk_seg dksX3_init_0 22 rfl rfl
theorem dksX3_init_2 : cX3_init.data.toList.drop 46 = dktX3_init_2 := dk_seg dksX3_init_1 24 rfl rfl
theorem dksX3_init_3 : cX3_init.data.toList.drop 70 = dktX3_init_3 := dk_seg dksX3_init_2 24 rfl rfl
theorem dksX3_init_4 : cX3_init.data.toList.drop 94 = dktX3_init_4 := dk_seg dksX3_init_3 24 rfl rfl
theorem dksX3_init_5 : cX3_init.data.toList.drop 117 = dktX3_init_5 := dk_seg dksX3_init_4 23 rfl rfl
theorem dksX3_init_6 : cX3_init.data.toList.drop 141 = dktX3_init_6 := dk_seg dksX3_init_5 24 rfl rfl
theorem dksX3_init_7 : cX3_init.data.toList.drop 165 = dktX3_init_7 := dk_seg dksX3_init_6 24 rfl rfl
theorem dksX3_init_8 : cX3_init.data.toList.drop 189 = dktX3_init_8 := dk_seg dksX3_init_7 24 rfl rfl
theorem dX3_init_0 : decode cX3_init 0 = .ok (.aload_n 0, 1) := dk_42 (dk_at dksX3_init_0 0 rfl rfl)
theorem dX3_init_1 : decode cX3_init 1 = .ok (.invokespecial 1, 3) := dk_183 0 1 (dk_at dksX3_init_0 1 rfl rfl)
theorem dX3_init_4 : decode cX3_init 4 = .ok (.aload_n 0, 1) := dk_42 (dk_at dksX3_init_0 4 rfl rfl)
theorem dX3_init_5 : decode cX3_init 5 = .ok (.iconst 2, 1) := dk_5 (dk_at dksX3_init_0 5 rfl rfl)
theorem dX3_init_6 : decode cX3_init 6 = .ok (.putfield 7, 3) := dk_181 0 7 (dk_at dksX3_init_0 6 rfl rfl)
theorem dX3_init_9 : decode cX3_init 9 = .ok (.aload_n 0, 1) := dk_42 (dk_at dksX3_init_0 9 rfl rfl)
theorem dX3_init_10 : decode cX3_init 10 = .ok (.bipush 14, 2) := dk_16 14 (dk_at dksX3_init_0 10 rfl rfl)
theorem dX3_init_12 : decode cX3_init 12 = .ok (.newarray .int, 2) := dk_188_10 (dk_at dksX3_init_0 12 rfl rfl)
theorem dX3_init_14 : decode cX3_init 14 = .ok (.putfield 13, 3) := dk_181 0 13 (dk_at dksX3_init_0 14 rfl rfl)
theorem dX3_init_17 : decode cX3_init 17 = .ok (.aload_n 0, 1) := dk_42 (dk_at dksX3_init_0 17 rfl rfl)
theorem dX3_init_18 : decode cX3_init 18 = .ok (.bipush 120, 2) := dk_16 120 (dk_at dksX3_init_0 18 rfl rfl)
theorem dX3_init_20 : decode cX3_init 20 = .ok (.newarray .int, 2) := dk_188_10 (dk_at dksX3_init_0 20 rfl rfl)
theorem dX3_init_22 : decode cX3_init 22 = .ok (.putfield 17, 3) := dk_181 0 17 (dk_at dksX3_init_1 0 rfl rfl)
theorem dX3_init_25 : decode cX3_init 25 = .ok (.aload_n 0, 1) := dk_42 (dk_at dksX3_init_1 3 rfl rfl)
theorem dX3_init_26 : decode cX3_init 26 = .ok (.bipush 120, 2) := dk_16 120 (dk_at dksX3_init_1 4 rfl rfl)
theorem dX3_init_28 : decode cX3_init 28 = .ok (.newarray .int, 2) := dk_188_10 (dk_at dksX3_init_1 6 rfl rfl)
theorem dX3_init_30 : decode cX3_init 30 = .ok (.putfield 20, 3) := dk_181 0 20 (dk_at dksX3_init_1 8 rfl rfl)
theorem dX3_init_33 : decode cX3_init 33 = .ok (.aload_n 0, 1) := dk_42 (dk_at dksX3_init_1 11 rfl rfl)
theorem dX3_init_34 : decode cX3_init 34 = .ok (.bipush 120, 2) := dk_16 120 (dk_at dksX3_init_1 12 rfl rfl)
theorem dX3_init_36 : decode cX3_init 36 = .ok (.newarray .int, 2) := dk_188_10 (dk_at dksX3_init_1 14 rfl rfl)
theorem dX3_init_38 : decode cX3_init 38 = .ok (.putfield 23, 3) := dk_181 0 23 (dk_at dksX3_init_1 16 rfl rfl)
theorem dX3_init_41 : decode cX3_init 41 = .ok (.aload_n 0, 1) := dk_42 (dk_at dksX3_init_1 19 rfl rfl)
theorem dX3_init_42 : decode cX3_init 42 = .ok (.bipush 120, 2) := dk_16 120 (dk_at dksX3_init_1 20 rfl rfl)
theorem dX3_init_44 : decode cX3_init 44 = .ok (.newarray .int, 2) := dk_188_10 (dk_at dksX3_init_1 22 rfl rfl)
theorem dX3_init_46 : decode cX3_init 46 = .ok (.putfield 26, 3) := dk_181 0 26 (dk_at dksX3_init_2 0 rfl rfl)
theorem dX3_init_49 : decode cX3_init 49 = .ok (.aload_n 0, 1) := dk_42 (dk_at dksX3_init_2 3 rfl rfl)
theorem dX3_init_50 : decode cX3_init 50 = .ok (.bipush 120, 2) := dk_16 120 (dk_at dksX3_init_2 4 rfl rfl)
theorem dX3_init_52 : decode cX3_init 52 = .ok (.newarray .int, 2) := dk_188_10 (dk_at dksX3_init_2 6 rfl rfl)
theorem dX3_init_54 : decode cX3_init 54 = .ok (.putfield 29, 3) := dk_181 0 29 (dk_at dksX3_init_2 8 rfl rfl)
theorem dX3_init_57 : decode cX3_init 57 = .ok (.aload_n 0, 1) := dk_42 (dk_at dksX3_init_2 11 rfl rfl)
theorem dX3_init_58 : decode cX3_init 58 = .ok (.bipush 14, 2) := dk_16 14 (dk_at dksX3_init_2 12 rfl rfl)
theorem dX3_init_60 : decode cX3_init 60 = .ok (.newarray .int, 2) := dk_188_10 (dk_at dksX3_init_2 14 rfl rfl)
theorem dX3_init_62 : decode cX3_init 62 = .ok (.putfield 32, 3) := dk_181 0 32 (dk_at dksX3_init_2 16 rfl rfl)
theorem dX3_init_65 : decode cX3_init 65 = .ok (.aload_n 0, 1) := dk_42 (dk_at dksX3_init_2 19 rfl rfl)
theorem dX3_init_66 : decode cX3_init 66 = .ok (.bipush 14, 2) := dk_16 14 (dk_at dksX3_init_2 20 rfl rfl)
theorem dX3_init_68 : decode cX3_init 68 = .ok (.newarray .int, 2) := dk_188_10 (dk_at dksX3_init_2 22 rfl rfl)
theorem dX3_init_70 : decode cX3_init 70 = .ok (.putfield 35, 3) := dk_181 0 35 (dk_at dksX3_init_3 0 rfl rfl)
theorem dX3_init_73 : decode cX3_init 73 = .ok (.aload_n 0, 1) := dk_42 (dk_at dksX3_init_3 3 rfl rfl)
theorem dX3_init_74 : decode cX3_init 74 = .ok (.bipush 14, 2) := dk_16 14 (dk_at dksX3_init_3 4 rfl rfl)
theorem dX3_init_76 : decode cX3_init 76 = .ok (.newarray .int, 2) := dk_188_10 (dk_at dksX3_init_3 6 rfl rfl)
theorem dX3_init_78 : decode cX3_init 78 = .ok (.putfield 38, 3) := dk_181 0 38 (dk_at dksX3_init_3 8 rfl rfl)
theorem dX3_init_81 : decode cX3_init 81 = .ok (.aload_n 0, 1) := dk_42 (dk_at dksX3_init_3 11 rfl rfl)
theorem dX3_init_82 : decode cX3_init 82 = .ok (.bipush 14, 2) := dk_16 14 (dk_at dksX3_init_3 12 rfl rfl)
theorem dX3_init_84 : decode cX3_init 84 = .ok (.newarray .int, 2) := dk_188_10 (dk_at dksX3_init_3 14 rfl rfl)
theorem dX3_init_86 : decode cX3_init 86 = .ok (.putfield 41, 3) := dk_181 0 41 (dk_at dksX3_init_3 16 rfl rfl)
theorem dX3_init_89 : decode cX3_init 89 = .ok (.aload_n 0, 1) := dk_42 (dk_at dksX3_init_3 19 rfl rfl)
theorem dX3_init_90 : decode cX3_init 90 = .ok (.bipush 14, 2) := dk_16 14 (dk_at dksX3_init_3 20 rfl rfl)
theorem dX3_init_92 : decode cX3_init 92 = .ok (.newarray .int, 2) := dk_188_10 (dk_at dksX3_init_3 22 rfl rfl)
theorem dX3_init_94 : decode cX3_init 94 = .ok (.putfield 44, 3) := dk_181 0 44 (dk_at dksX3_init_4 0 rfl rfl)
theorem dX3_init_97 : decode cX3_init 97 = .ok (.aload_n 0, 1) := dk_42 (dk_at dksX3_init_4 3 rfl rfl)
theorem dX3_init_98 : decode cX3_init 98 = .ok (.sipush 5000, 3) := dk_17 19 136 (dk_at dksX3_init_4 4 rfl rfl)
theorem dX3_init_101 : decode cX3_init 101 = .ok (.putfield 47, 3) := dk_181 0 47 (dk_at dksX3_init_4 7 rfl rfl)
theorem dX3_init_104 : decode cX3_init 104 = .ok (.aload_n 0, 1) := dk_42 (dk_at dksX3_init_4 10 rfl rfl)
theorem dX3_init_105 : decode cX3_init 105 = .ok (.bipush 40, 2) := dk_16 40 (dk_at dksX3_init_4 11 rfl rfl)
theorem dX3_init_107 : decode cX3_init 107 = .ok (.newarray .int, 2) := dk_188_10 (dk_at dksX3_init_4 13 rfl rfl)
theorem dX3_init_109 : decode cX3_init 109 = .ok (.putfield 50, 3) := dk_181 0 50 (dk_at dksX3_init_4 15 rfl rfl)
theorem dX3_init_112 : decode cX3_init 112 = .ok (.aload_n 0, 1) := dk_42 (dk_at dksX3_init_4 18 rfl rfl)
theorem dX3_init_113 : decode cX3_init 113 = .ok (.bipush 40, 2) := dk_16 40 (dk_at dksX3_init_4 19 rfl rfl)
theorem dX3_init_115 : decode cX3_init 115 = .ok (.newarray .int, 2) := dk_188_10 (dk_at dksX3_init_4 21 rfl rfl)
theorem dX3_init_117 : decode cX3_init 117 = .ok (.putfield 53, 3) := dk_181 0 53 (dk_at dksX3_init_5 0 rfl rfl)
theorem dX3_init_120 : decode cX3_init 120 = .ok (.aload_n 0, 1) := dk_42 (dk_at dksX3_init_5 3 rfl rfl)
theorem dX3_init_121 : decode cX3_init 121 = .ok (.bipush 40, 2) := dk_16 40 (dk_at dksX3_init_5 4 rfl rfl)
theorem dX3_init_123 : decode cX3_init 123 = .ok (.newarray .int, 2) := dk_188_10 (dk_at dksX3_init_5 6 rfl rfl)
theorem dX3_init_125 : decode cX3_init 125 = .ok (.putfield 56, 3) := dk_181 0 56 (dk_at dksX3_init_5 8 rfl rfl)
theorem dX3_init_128 : decode cX3_init 128 = .ok (.aload_n 0, 1) := dk_42 (dk_at dksX3_init_5 11 rfl rfl)
theorem dX3_init_129 : decode cX3_init 129 = .ok (.bipush 40, 2) := dk_16 40 (dk_at dksX3_init_5 12 rfl rfl)
theorem dX3_init_131 : decode cX3_init 131 = .ok (.newarray .int, 2) := dk_188_10 (dk_at dksX3_init_5 14 rfl rfl)
theorem dX3_init_133 : decode cX3_init 133 = .ok (.putfield 59, 3) := dk_181 0 59 (dk_at dksX3_init_5 16 rfl rfl)
theorem dX3_init_136 : decode cX3_init 136 = .ok (.aload_n 0, 1) := dk_42 (dk_at dksX3_init_5 19 rfl rfl)
theorem dX3_init_137 : decode cX3_init 137 = .ok (.bipush 40, 2) := dk_16 40 (dk_at dksX3_init_5 20 rfl rfl)
theorem dX3_init_139 : decode cX3_init 139 = .ok (.newarray .int, 2) := dk_188_10 (dk_at dksX3_init_5 22 rfl rfl)
theorem dX3_init_141 : decode cX3_init 141 = .ok (.putfield 62, 3) := dk_181 0 62 (dk_at dksX3_init_6 0 rfl rfl)
theorem dX3_init_144 : decode cX3_init 144 = .ok (.aload_n 0, 1) := dk_42 (dk_at dksX3_init_6 3 rfl rfl)
theorem dX3_init_145 : decode cX3_init 145 = .ok (.bipush 40, 2) := dk_16 40 (dk_at dksX3_init_6 4 rfl rfl)
theorem dX3_init_147 : decode cX3_init 147 = .ok (.newarray .int, 2) := dk_188_10 (dk_at dksX3_init_6 6 rfl rfl)
theorem dX3_init_149 : decode cX3_init 149 = .ok (.putfield 65, 3) := dk_181 0 65 (dk_at dksX3_init_6 8 rfl rfl)
theorem dX3_init_152 : decode cX3_init 152 = .ok (.aload_n 0, 1) := dk_42 (dk_at dksX3_init_6 11 rfl rfl)
theorem dX3_init_153 : decode cX3_init 153 = .ok (.bipush 40, 2) := dk_16 40 (dk_at dksX3_init_6 12 rfl rfl)
theorem dX3_init_155 : decode cX3_init 155 = .ok (.newarray .int, 2) := dk_188_10 (dk_at dksX3_init_6 14 rfl rfl)
theorem dX3_init_157 : decode cX3_init 157 = .ok (.putfield 68, 3) := dk_181 0 68 (dk_at dksX3_init_6 16 rfl rfl)
theorem dX3_init_160 : decode cX3_init 160 = .ok (.aload_n 0, 1) := dk_42 (dk_at dksX3_init_6 19 rfl rfl)
theorem dX3_init_161 : decode cX3_init 161 = .ok (.bipush 40, 2) := dk_16 40 (dk_at dksX3_init_6 20 rfl rfl)
theorem dX3_init_163 : decode cX3_init 163 = .ok (.newarray .int, 2) := dk_188_10 (dk_at dksX3_init_6 22 rfl rfl)
theorem dX3_init_165 : decode cX3_init 165 = .ok (.putfield 71, 3) := dk_181 0 71 (dk_at dksX3_init_7 0 rfl rfl)
theorem dX3_init_168 : decode cX3_init 168 = .ok (.aload_n 0, 1) := dk_42 (dk_at dksX3_init_7 3 rfl rfl)
theorem dX3_init_169 : decode cX3_init 169 = .ok (.bipush 120, 2) := dk_16 120 (dk_at dksX3_init_7 4 rfl rfl)
theorem dX3_init_171 : decode cX3_init 171 = .ok (.newarray .int, 2) := dk_188_10 (dk_at dksX3_init_7 6 rfl rfl)
theorem dX3_init_173 : decode cX3_init 173 = .ok (.putfield 74, 3) := dk_181 0 74 (dk_at dksX3_init_7 8 rfl rfl)
theorem dX3_init_176 : decode cX3_init 176 = .ok (.aload_n 0, 1) := dk_42 (dk_at dksX3_init_7 11 rfl rfl)
theorem dX3_init_177 : decode cX3_init 177 = .ok (.bipush 120, 2) := dk_16 120 (dk_at dksX3_init_7 12 rfl rfl)
theorem dX3_init_179 : decode cX3_init 179 = .ok (.newarray .int, 2) := dk_188_10 (dk_at dksX3_init_7 14 rfl rfl)
theorem dX3_init_181 : decode cX3_init 181 = .ok (.putfield 77, 3) := dk_181 0 77 (dk_at dksX3_init_7 16 rfl rfl)
theorem dX3_init_184 : decode cX3_init 184 = .ok (.aload_n 0, 1) := dk_42 (dk_at dksX3_init_7 19 rfl rfl)
theorem dX3_init_185 : decode cX3_init 185 = .ok (.bipush 120, 2) := dk_16 120 (dk_at dksX3_init_7 20 rfl rfl)
theorem dX3_init_187 : decode cX3_init 187 = .ok (.newarray .int, 2) := dk_188_10 (dk_at dksX3_init_7 22 rfl rfl)
theorem dX3_init_189 : decode cX3_init 189 = .ok (.putfield 80, 3) := dk_181 0 80 (dk_at dksX3_init_8 0 rfl rfl)
theorem dX3_init_192 : decode cX3_init 192 = .ok (.aload_n 0, 1) := dk_42 (dk_at dksX3_init_8 3 rfl rfl)
theorem dX3_init_193 : decode cX3_init 193 = .ok (.getfield 13, 3) := dk_180 0 13 (dk_at dksX3_init_8 4 rfl rfl)
theorem dX3_init_196 : decode cX3_init 196 = .ok (.iconst 0, 1) := dk_3 (dk_at dksX3_init_8 7 rfl rfl)
theorem dX3_init_197 : decode cX3_init 197 = .ok (.iconst (-1), 1) := dk_2 (dk_at dksX3_init_8 8 rfl rfl)
theorem dX3_init_198 : decode cX3_init 198 = .ok (.iastore, 1) := dk_79 (dk_at dksX3_init_8 9 rfl rfl)
theorem dX3_init_199 : decode cX3_init 199 = .ok (.aload_n 0, 1) := dk_42 (dk_at dksX3_init_8 10 rfl rfl)
theorem dX3_init_200 : decode cX3_init 200 = .ok (.getfield 13, 3) := dk_180 0 13 (dk_at dksX3_init_8 11 rfl rfl)
theorem dX3_init_203 : decode cX3_init 203 = .ok (.iconst 1, 1) := dk_4 (dk_at dksX3_init_8 14 rfl rfl)
theorem dX3_init_204 : decode cX3_init 204 = .ok (.iconst (-1), 1) := dk_2 (dk_at dksX3_init_8 15 rfl rfl)
theorem dX3_init_205 : decode cX3_init 205 = .ok (.iastore, 1) := dk_79 (dk_at dksX3_init_8 16 rfl rfl)
theorem dX3_init_206 : decode cX3_init 206 = .ok (.return_, 1) := dk_177 (dk_at dksX3_init_8 17 rfl rfl)
abbrev cX3_thrown : ByteArray := prog_13_method_2_code
def yX3_thrown : MethodName := ⟨RX3, "thrown", "()I"⟩
theorem dX3_thrown_0 : decode cX3_thrown 0 = .ok (.aload_n 0, 1) := by decide +kernel
theorem dX3_thrown_1 : decode cX3_thrown 1 = .ok (.getfield 83, 3) := by decide +kernel
theorem dX3_thrown_4 : decode cX3_thrown 4 = .ok (.ireturn, 1) := by decide +kernel
abbrev cX3_addAccount : ByteArray := prog_13_method_6_code
def yX3_addAccount : MethodName := ⟨RX3, "addAccount", "(I)I"⟩
def dkwX3_addAccount_2 : List UInt8 := [42, 180, 0, 7, 27, 79, 42, 89, 180, 0, 7, 4, 96, 181, 0, 7, 42, 180, 0, 7, 4, 100, 172]
abbrev dktX3_addAccount_2 : List UInt8 := dkwX3_addAccount_2 ++ []
def dkwX3_addAccount_1 : List UInt8 := [160, 0, 7, 5, 167, 0, 4, 3, 181, 0, 83, 42, 180, 0, 83, 158, 0, 5, 3, 172, 42, 180, 0, 13]
abbrev dktX3_addAccount_1 : List UInt8 := dkwX3_addAccount_1 ++ dktX3_addAccount_2
def dkwX3_addAccount_0 : List UInt8 := [42, 27, 2, 159, 0, 15, 42, 27, 182, 0, 90, 154, 0, 7, 4, 167, 0, 17, 42, 180, 0, 7, 16, 14]
abbrev dktX3_addAccount_0 : List UInt8 := dkwX3_addAccount_0 ++ dktX3_addAccount_1
theorem dksX3_addAccount_0 : cX3_addAccount.data.toList.drop 0 = dktX3_addAccount_0 := by decide +kernel
theorem dksX3_addAccount_1 : cX3_addAccount.data.toList.drop 24 = dktX3_addAccount_1 := dk_seg dksX3_addAccount_0 24 rfl rfl
theorem dksX3_addAccount_2 : cX3_addAccount.data.toList.drop 48 = dktX3_addAccount_2 := dk_seg dksX3_addAccount_1 24 rfl rfl
theorem dX3_addAccount_0 : decode cX3_addAccount 0 = .ok (.aload_n 0, 1) := dk_42 (dk_at dksX3_addAccount_0 0 rfl rfl)
theorem dX3_addAccount_1 : decode cX3_addAccount 1 = .ok (.iload_n 1, 1) := dk_27 (dk_at dksX3_addAccount_0 1 rfl rfl)
theorem dX3_addAccount_2 : decode cX3_addAccount 2 = .ok (.iconst (-1), 1) := dk_2 (dk_at dksX3_addAccount_0 2 rfl rfl)
theorem dX3_addAccount_3 : decode cX3_addAccount 3 = .ok (.if_icmp .eq 15, 3) := dk_159 0 15 (dk_at dksX3_addAccount_0 3 rfl rfl)
theorem dX3_addAccount_6 : decode cX3_addAccount 6 = .ok (.aload_n 0, 1) := dk_42 (dk_at dksX3_addAccount_0 6 rfl rfl)
theorem dX3_addAccount_7 : decode cX3_addAccount 7 = .ok (.iload_n 1, 1) := dk_27 (dk_at dksX3_addAccount_0 7 rfl rfl)
theorem dX3_addAccount_8 : decode cX3_addAccount 8 = .ok (.invokevirtual 90, 3) := dk_182 0 90 (dk_at dksX3_addAccount_0 8 rfl rfl)
theorem dX3_addAccount_11 : decode cX3_addAccount 11 = .ok (.ifCond .ne 7, 3) := dk_154 0 7 (dk_at dksX3_addAccount_0 11 rfl rfl)
theorem dX3_addAccount_14 : decode cX3_addAccount 14 = .ok (.iconst 1, 1) := dk_4 (dk_at dksX3_addAccount_0 14 rfl rfl)
theorem dX3_addAccount_15 : decode cX3_addAccount 15 = .ok (.goto 17, 3) := dk_167 0 17 (dk_at dksX3_addAccount_0 15 rfl rfl)
theorem dX3_addAccount_18 : decode cX3_addAccount 18 = .ok (.aload_n 0, 1) := dk_42 (dk_at dksX3_addAccount_0 18 rfl rfl)
theorem dX3_addAccount_19 : decode cX3_addAccount 19 = .ok (.getfield 7, 3) := dk_180 0 7 (dk_at dksX3_addAccount_0 19 rfl rfl)
theorem dX3_addAccount_22 : decode cX3_addAccount 22 = .ok (.bipush 14, 2) := dk_16 14 (dk_at dksX3_addAccount_0 22 rfl rfl)
theorem dX3_addAccount_24 : decode cX3_addAccount 24 = .ok (.if_icmp .ne 7, 3) := dk_160 0 7 (dk_at dksX3_addAccount_1 0 rfl rfl)
theorem dX3_addAccount_27 : decode cX3_addAccount 27 = .ok (.iconst 2, 1) := dk_5 (dk_at dksX3_addAccount_1 3 rfl rfl)
theorem dX3_addAccount_28 : decode cX3_addAccount 28 = .ok (.goto 4, 3) := dk_167 0 4 (dk_at dksX3_addAccount_1 4 rfl rfl)
theorem dX3_addAccount_31 : decode cX3_addAccount 31 = .ok (.iconst 0, 1) := dk_3 (dk_at dksX3_addAccount_1 7 rfl rfl)
theorem dX3_addAccount_32 : decode cX3_addAccount 32 = .ok (.putfield 83, 3) := dk_181 0 83 (dk_at dksX3_addAccount_1 8 rfl rfl)
theorem dX3_addAccount_35 : decode cX3_addAccount 35 = .ok (.aload_n 0, 1) := dk_42 (dk_at dksX3_addAccount_1 11 rfl rfl)
theorem dX3_addAccount_36 : decode cX3_addAccount 36 = .ok (.getfield 83, 3) := dk_180 0 83 (dk_at dksX3_addAccount_1 12 rfl rfl)
theorem dX3_addAccount_39 : decode cX3_addAccount 39 = .ok (.ifCond .le 5, 3) := dk_158 0 5 (dk_at dksX3_addAccount_1 15 rfl rfl)
theorem dX3_addAccount_42 : decode cX3_addAccount 42 = .ok (.iconst 0, 1) := dk_3 (dk_at dksX3_addAccount_1 18 rfl rfl)
theorem dX3_addAccount_43 : decode cX3_addAccount 43 = .ok (.ireturn, 1) := dk_172 (dk_at dksX3_addAccount_1 19 rfl rfl)
theorem dX3_addAccount_44 : decode cX3_addAccount 44 = .ok (.aload_n 0, 1) := dk_42 (dk_at dksX3_addAccount_1 20 rfl rfl)
theorem dX3_addAccount_45 : decode cX3_addAccount 45 = .ok (.getfield 13, 3) := dk_180 0 13 (dk_at dksX3_addAccount_1 21 rfl rfl)
theorem dX3_addAccount_48 : decode cX3_addAccount 48 = .ok (.aload_n 0, 1) := dk_42 (dk_at dksX3_addAccount_2 0 rfl rfl)
theorem dX3_addAccount_49 : decode cX3_addAccount 49 = .ok (.getfield 7, 3) := dk_180 0 7 (dk_at dksX3_addAccount_2 1 rfl rfl)
theorem dX3_addAccount_52 : decode cX3_addAccount 52 = .ok (.iload_n 1, 1) := dk_27 (dk_at dksX3_addAccount_2 4 rfl rfl)
theorem dX3_addAccount_53 : decode cX3_addAccount 53 = .ok (.iastore, 1) := dk_79 (dk_at dksX3_addAccount_2 5 rfl rfl)
theorem dX3_addAccount_54 : decode cX3_addAccount 54 = .ok (.aload_n 0, 1) := dk_42 (dk_at dksX3_addAccount_2 6 rfl rfl)
theorem dX3_addAccount_55 : decode cX3_addAccount 55 = .ok (.dup, 1) := dk_89 (dk_at dksX3_addAccount_2 7 rfl rfl)
theorem dX3_addAccount_56 : decode cX3_addAccount 56 = .ok (.getfield 7, 3) := dk_180 0 7 (dk_at dksX3_addAccount_2 8 rfl rfl)
theorem dX3_addAccount_59 : decode cX3_addAccount 59 = .ok (.iconst 1, 1) := dk_4 (dk_at dksX3_addAccount_2 11 rfl rfl)
theorem dX3_addAccount_60 : decode cX3_addAccount 60 = .ok (.iadd, 1) := dk_96 (dk_at dksX3_addAccount_2 12 rfl rfl)
theorem dX3_addAccount_61 : decode cX3_addAccount 61 = .ok (.putfield 7, 3) := dk_181 0 7 (dk_at dksX3_addAccount_2 13 rfl rfl)
theorem dX3_addAccount_64 : decode cX3_addAccount 64 = .ok (.aload_n 0, 1) := dk_42 (dk_at dksX3_addAccount_2 16 rfl rfl)
theorem dX3_addAccount_65 : decode cX3_addAccount 65 = .ok (.getfield 7, 3) := dk_180 0 7 (dk_at dksX3_addAccount_2 17 rfl rfl)
theorem dX3_addAccount_68 : decode cX3_addAccount 68 = .ok (.iconst 1, 1) := dk_4 (dk_at dksX3_addAccount_2 20 rfl rfl)
theorem dX3_addAccount_69 : decode cX3_addAccount 69 = .ok (.isub, 1) := dk_100 (dk_at dksX3_addAccount_2 21 rfl rfl)
theorem dX3_addAccount_70 : decode cX3_addAccount 70 = .ok (.ireturn, 1) := dk_172 (dk_at dksX3_addAccount_2 22 rfl rfl)
abbrev cX3_isAccount : ByteArray := prog_13_method_5_code
def yX3_isAccount : MethodName := ⟨RX3, "isAccount", "(I)Z"⟩
def dkwX3_isAccount_0 : List UInt8 := [27, 3, 42, 180, 0, 7, 4, 100, 184, 0, 86, 172]
abbrev dktX3_isAccount_0 : List UInt8 := dkwX3_isAccount_0 ++ []
theorem dksX3_isAccount_0 : cX3_isAccount.data.toList.drop 0 = dktX3_isAccount_0 := by decide +kernel
theorem dX3_isAccount_0 : decode cX3_isAccount 0 = .ok (.iload_n 1, 1) := dk_27 (dk_at dksX3_isAccount_0 0 rfl rfl)
theorem dX3_isAccount_1 : decode cX3_isAccount 1 = .ok (.iconst 0, 1) := dk_3 (dk_at dksX3_isAccount_0 1 rfl rfl)
theorem dX3_isAccount_2 : decode cX3_isAccount 2 = .ok (.aload_n 0, 1) := dk_42 (dk_at dksX3_isAccount_0 2 rfl rfl)
theorem dX3_isAccount_3 : decode cX3_isAccount 3 = .ok (.getfield 7, 3) := dk_180 0 7 (dk_at dksX3_isAccount_0 3 rfl rfl)
theorem dX3_isAccount_6 : decode cX3_isAccount 6 = .ok (.iconst 1, 1) := dk_4 (dk_at dksX3_isAccount_0 6 rfl rfl)
theorem dX3_isAccount_7 : decode cX3_isAccount 7 = .ok (.isub, 1) := dk_100 (dk_at dksX3_isAccount_0 7 rfl rfl)
theorem dX3_isAccount_8 : decode cX3_isAccount 8 = .ok (.invokestatic 86, 3) := dk_184 0 86 (dk_at dksX3_isAccount_0 8 rfl rfl)
theorem dX3_isAccount_11 : decode cX3_isAccount 11 = .ok (.ireturn, 1) := dk_172 (dk_at dksX3_isAccount_0 11 rfl rfl)
abbrev cX3_in : ByteArray := prog_13_method_4_code
def yX3_in : MethodName := ⟨RX3, "in", "(III)Z"⟩
def dkwX3_in_0 : List UInt8 := [26, 27, 161, 0, 12, 26, 28, 163, 0, 7, 4, 167, 0, 4, 3, 172]
abbrev dktX3_in_0 : List UInt8 := dkwX3_in_0 ++ []
theorem dksX3_in_0 : cX3_in.data.toList.drop 0 = dktX3_in_0 := by decide +kernel
theorem dX3_in_0 : decode cX3_in 0 = .ok (.iload_n 0, 1) := dk_26 (dk_at dksX3_in_0 0 rfl rfl)
theorem dX3_in_1 : decode cX3_in 1 = .ok (.iload_n 1, 1) := dk_27 (dk_at dksX3_in_0 1 rfl rfl)
theorem dX3_in_2 : decode cX3_in 2 = .ok (.if_icmp .lt 12, 3) := dk_161 0 12 (dk_at dksX3_in_0 2 rfl rfl)
theorem dX3_in_5 : decode cX3_in 5 = .ok (.iload_n 0, 1) := dk_26 (dk_at dksX3_in_0 5 rfl rfl)
theorem dX3_in_6 : decode cX3_in 6 = .ok (.iload_n 2, 1) := dk_28 (dk_at dksX3_in_0 6 rfl rfl)
theorem dX3_in_7 : decode cX3_in 7 = .ok (.if_icmp .gt 7, 3) := dk_163 0 7 (dk_at dksX3_in_0 7 rfl rfl)
theorem dX3_in_10 : decode cX3_in 10 = .ok (.iconst 1, 1) := dk_4 (dk_at dksX3_in_0 10 rfl rfl)
theorem dX3_in_11 : decode cX3_in 11 = .ok (.goto 4, 3) := dk_167 0 4 (dk_at dksX3_in_0 11 rfl rfl)
theorem dX3_in_14 : decode cX3_in 14 = .ok (.iconst 0, 1) := dk_3 (dk_at dksX3_in_0 14 rfl rfl)
theorem dX3_in_15 : decode cX3_in 15 = .ok (.ireturn, 1) := dk_172 (dk_at dksX3_in_0 15 rfl rfl)
abbrev cX3_enter : ByteArray := prog_13_method_8_code
def yX3_enter : MethodName := ⟨RX3, "enter", "(IIII)I"⟩
def dkwX3_enter_4 : List UInt8 := [27, 28, 29, 21, 4, 182, 0, 101, 167, 0, 4, 3, 172]
abbrev dktX3_enter_4 : List UInt8 := dkwX3_enter_4 ++ []
def dkwX3_enter_3 : List UInt8 := [180, 0, 97, 16, 12, 164, 0, 7, 6, 167, 0, 4, 3, 181, 0, 83, 42, 180, 0, 83, 154, 0, 15, 42]
abbrev dktX3_enter_3 : List UInt8 := dkwX3_enter_3 ++ dktX3_enter_4
def dkwX3_enter_2 : List UInt8 := [153, 0, 8, 28, 29, 160, 0, 7, 5, 167, 0, 26, 42, 180, 0, 94, 16, 120, 159, 0, 12, 42]
abbrev dktX3_enter_2 : List UInt8 := dkwX3_enter_2 ++ dktX3_enter_3
def dkwX3_enter_1 : List UInt8 := [16, 12, 184, 0, 86, 153, 0, 27, 27, 42, 180, 0, 97, 163, 0, 19, 21, 4, 4, 18, 100, 184, 0, 86]
abbrev dktX3_enter_1 : List UInt8 := dkwX3_enter_1 ++ dktX3_enter_2
def dkwX3_enter_0 : List UInt8 := [42, 42, 28, 182, 0, 90, 153, 0, 11, 42, 29, 182, 0, 90, 154, 0, 7, 4, 167, 0, 64, 27, 3]
abbrev dktX3_enter_0 : List UInt8 := dkwX3_enter_0 ++ dktX3_enter_1
theorem dksX3_enter_0 : cX3_enter.data.toList.drop 0 = dktX3_enter_0 := by decide +kernel
theorem dksX3_enter_1 : cX3_enter.data.toList.drop 23 = dktX3_enter_1 := dk_seg dksX3_enter_0 23 rfl rfl
theorem dksX3_enter_2 : cX3_enter.data.toList.drop 47 = dktX3_enter_2 := dk_seg dksX3_enter_1 24 rfl rfl
theorem dksX3_enter_3 : cX3_enter.data.toList.drop 69 = dktX3_enter_3 := dk_seg dksX3_enter_2 22 rfl rfl
theorem dksX3_enter_4 : cX3_enter.data.toList.drop 93 = dktX3_enter_4 := dk_seg dksX3_enter_3 24 rfl rfl
theorem dX3_enter_0 : decode cX3_enter 0 = .ok (.aload_n 0, 1) := dk_42 (dk_at dksX3_enter_0 0 rfl rfl)
theorem dX3_enter_1 : decode cX3_enter 1 = .ok (.aload_n 0, 1) := dk_42 (dk_at dksX3_enter_0 1 rfl rfl)
theorem dX3_enter_2 : decode cX3_enter 2 = .ok (.iload_n 2, 1) := dk_28 (dk_at dksX3_enter_0 2 rfl rfl)
theorem dX3_enter_3 : decode cX3_enter 3 = .ok (.invokevirtual 90, 3) := dk_182 0 90 (dk_at dksX3_enter_0 3 rfl rfl)
theorem dX3_enter_6 : decode cX3_enter 6 = .ok (.ifCond .eq 11, 3) := dk_153 0 11 (dk_at dksX3_enter_0 6 rfl rfl)
theorem dX3_enter_9 : decode cX3_enter 9 = .ok (.aload_n 0, 1) := dk_42 (dk_at dksX3_enter_0 9 rfl rfl)
theorem dX3_enter_10 : decode cX3_enter 10 = .ok (.iload_n 3, 1) := dk_29 (dk_at dksX3_enter_0 10 rfl rfl)
theorem dX3_enter_11 : decode cX3_enter 11 = .ok (.invokevirtual 90, 3) := dk_182 0 90 (dk_at dksX3_enter_0 11 rfl rfl)
theorem dX3_enter_14 : decode cX3_enter 14 = .ok (.ifCond .ne 7, 3) := dk_154 0 7 (dk_at dksX3_enter_0 14 rfl rfl)
theorem dX3_enter_17 : decode cX3_enter 17 = .ok (.iconst 1, 1) := dk_4 (dk_at dksX3_enter_0 17 rfl rfl)
theorem dX3_enter_18 : decode cX3_enter 18 = .ok (.goto 64, 3) := dk_167 0 64 (dk_at dksX3_enter_0 18 rfl rfl)
theorem dX3_enter_21 : decode cX3_enter 21 = .ok (.iload_n 1, 1) := dk_27 (dk_at dksX3_enter_0 21 rfl rfl)
theorem dX3_enter_22 : decode cX3_enter 22 = .ok (.iconst 0, 1) := dk_3 (dk_at dksX3_enter_0 22 rfl rfl)
theorem dX3_enter_23 : decode cX3_enter 23 = .ok (.bipush 12, 2) := dk_16 12 (dk_at dksX3_enter_1 0 rfl rfl)
theorem dX3_enter_25 : decode cX3_enter 25 = .ok (.invokestatic 86, 3) := dk_184 0 86 (dk_at dksX3_enter_1 2 rfl rfl)
theorem dX3_enter_28 : decode cX3_enter 28 = .ok (.ifCond .eq 27, 3) := dk_153 0 27 (dk_at dksX3_enter_1 5 rfl rfl)
theorem dX3_enter_31 : decode cX3_enter 31 = .ok (.iload_n 1, 1) := dk_27 (dk_at dksX3_enter_1 8 rfl rfl)
theorem dX3_enter_32 : decode cX3_enter 32 = .ok (.aload_n 0, 1) := dk_42 (dk_at dksX3_enter_1 9 rfl rfl)
theorem dX3_enter_33 : decode cX3_enter 33 = .ok (.getfield 97, 3) := dk_180 0 97 (dk_at dksX3_enter_1 10 rfl rfl)
theorem dX3_enter_36 : decode cX3_enter 36 = .ok (.if_icmp .gt 19, 3) := dk_163 0 19 (dk_at dksX3_enter_1 13 rfl rfl)
theorem dX3_enter_39 : decode cX3_enter 39 = .ok (.iload 4, 2) := dk_21 4 (dk_at dksX3_enter_1 16 rfl rfl)
theorem dX3_enter_41 : decode cX3_enter 41 = .ok (.iconst 1, 1) := dk_4 (dk_at dksX3_enter_1 18 rfl rfl)
theorem dX3_enter_42 : decode cX3_enter 42 = .ok (.ldc 100, 2) := dk_18 100 (dk_at dksX3_enter_1 19 rfl rfl)
theorem dX3_enter_44 : decode cX3_enter 44 = .ok (.invokestatic 86, 3) := dk_184 0 86 (dk_at dksX3_enter_1 21 rfl rfl)
theorem dX3_enter_47 : decode cX3_enter 47 = .ok (.ifCond .eq 8, 3) := dk_153 0 8 (dk_at dksX3_enter_2 0 rfl rfl)
theorem dX3_enter_50 : decode cX3_enter 50 = .ok (.iload_n 2, 1) := dk_28 (dk_at dksX3_enter_2 3 rfl rfl)
theorem dX3_enter_51 : decode cX3_enter 51 = .ok (.iload_n 3, 1) := dk_29 (dk_at dksX3_enter_2 4 rfl rfl)
theorem dX3_enter_52 : decode cX3_enter 52 = .ok (.if_icmp .ne 7, 3) := dk_160 0 7 (dk_at dksX3_enter_2 5 rfl rfl)
theorem dX3_enter_55 : decode cX3_enter 55 = .ok (.iconst 2, 1) := dk_5 (dk_at dksX3_enter_2 8 rfl rfl)
theorem dX3_enter_56 : decode cX3_enter 56 = .ok (.goto 26, 3) := dk_167 0 26 (dk_at dksX3_enter_2 9 rfl rfl)
theorem dX3_enter_59 : decode cX3_enter 59 = .ok (.aload_n 0, 1) := dk_42 (dk_at dksX3_enter_2 12 rfl rfl)
theorem dX3_enter_60 : decode cX3_enter 60 = .ok (.getfield 94, 3) := dk_180 0 94 (dk_at dksX3_enter_2 13 rfl rfl)
theorem dX3_enter_63 : decode cX3_enter 63 = .ok (.bipush 120, 2) := dk_16 120 (dk_at dksX3_enter_2 16 rfl rfl)
theorem dX3_enter_65 : decode cX3_enter 65 = .ok (.if_icmp .eq 12, 3) := dk_159 0 12 (dk_at dksX3_enter_2 18 rfl rfl)
theorem dX3_enter_68 : decode cX3_enter 68 = .ok (.aload_n 0, 1) := dk_42 (dk_at dksX3_enter_2 21 rfl rfl)
theorem dX3_enter_69 : decode cX3_enter 69 = .ok (.getfield 97, 3) := dk_180 0 97 (dk_at dksX3_enter_3 0 rfl rfl)
theorem dX3_enter_72 : decode cX3_enter 72 = .ok (.bipush 12, 2) := dk_16 12 (dk_at dksX3_enter_3 3 rfl rfl)
theorem dX3_enter_74 : decode cX3_enter 74 = .ok (.if_icmp .le 7, 3) := dk_164 0 7 (dk_at dksX3_enter_3 5 rfl rfl)
theorem dX3_enter_77 : decode cX3_enter 77 = .ok (.iconst 3, 1) := dk_6 (dk_at dksX3_enter_3 8 rfl rfl)
theorem dX3_enter_78 : decode cX3_enter 78 = .ok (.goto 4, 3) := dk_167 0 4 (dk_at dksX3_enter_3 9 rfl rfl)
theorem dX3_enter_81 : decode cX3_enter 81 = .ok (.iconst 0, 1) := dk_3 (dk_at dksX3_enter_3 12 rfl rfl)
theorem dX3_enter_82 : decode cX3_enter 82 = .ok (.putfield 83, 3) := dk_181 0 83 (dk_at dksX3_enter_3 13 rfl rfl)
theorem dX3_enter_85 : decode cX3_enter 85 = .ok (.aload_n 0, 1) := dk_42 (dk_at dksX3_enter_3 16 rfl rfl)
theorem dX3_enter_86 : decode cX3_enter 86 = .ok (.getfield 83, 3) := dk_180 0 83 (dk_at dksX3_enter_3 17 rfl rfl)
theorem dX3_enter_89 : decode cX3_enter 89 = .ok (.ifCond .ne 15, 3) := dk_154 0 15 (dk_at dksX3_enter_3 20 rfl rfl)
theorem dX3_enter_92 : decode cX3_enter 92 = .ok (.aload_n 0, 1) := dk_42 (dk_at dksX3_enter_3 23 rfl rfl)
theorem dX3_enter_93 : decode cX3_enter 93 = .ok (.iload_n 1, 1) := dk_27 (dk_at dksX3_enter_4 0 rfl rfl)
theorem dX3_enter_94 : decode cX3_enter 94 = .ok (.iload_n 2, 1) := dk_28 (dk_at dksX3_enter_4 1 rfl rfl)
theorem dX3_enter_95 : decode cX3_enter 95 = .ok (.iload_n 3, 1) := dk_29 (dk_at dksX3_enter_4 2 rfl rfl)
theorem dX3_enter_96 : decode cX3_enter 96 = .ok (.iload 4, 2) := dk_21 4 (dk_at dksX3_enter_4 3 rfl rfl)
theorem dX3_enter_98 : decode cX3_enter 98 = .ok (.invokevirtual 101, 3) := dk_182 0 101 (dk_at dksX3_enter_4 5 rfl rfl)
theorem dX3_enter_101 : decode cX3_enter 101 = .ok (.goto 4, 3) := dk_167 0 4 (dk_at dksX3_enter_4 8 rfl rfl)
theorem dX3_enter_104 : decode cX3_enter 104 = .ok (.iconst 0, 1) := dk_3 (dk_at dksX3_enter_4 11 rfl rfl)
theorem dX3_enter_105 : decode cX3_enter 105 = .ok (.ireturn, 1) := dk_172 (dk_at dksX3_enter_4 12 rfl rfl)
abbrev cX3_enters : ByteArray := prog_13_method_7_code
def yX3_enters : MethodName := ⟨RX3, "enters", "(IIII)I"⟩
def dkwX3_enters_3 : List UInt8 := [180, 0, 94, 4, 96, 181, 0, 94, 42, 180, 0, 94, 4, 100, 172]
abbrev dktX3_enters_3 : List UInt8 := dkwX3_enters_3 ++ []
def dkwX3_enters_2 : List UInt8 := [180, 0, 23, 42, 180, 0, 94, 29, 79, 42, 180, 0, 26, 42, 180, 0, 94, 21, 4, 79, 42, 89]
abbrev dktX3_enters_2 : List UInt8 := dkwX3_enters_2 ++ dktX3_enters_3
def dkwX3_enters_1 : List UInt8 := [180, 0, 97, 162, 0, 7, 4, 167, 0, 4, 3, 79, 42, 180, 0, 20, 42, 180, 0, 94, 28, 79, 42]
abbrev dktX3_enters_1 : List UInt8 := dkwX3_enters_1 ++ dktX3_enters_2
def dkwX3_enters_0 : List UInt8 := [42, 180, 0, 17, 42, 180, 0, 94, 42, 180, 0, 97, 79, 42, 180, 0, 29, 42, 180, 0, 94, 27, 42]
abbrev dktX3_enters_0 : List UInt8 := dkwX3_enters_0 ++ dktX3_enters_1
theorem dksX3_enters_0 : cX3_enters.data.toList.drop 0 = dktX3_enters_0 := by decide +kernel
theorem dksX3_enters_1 : cX3_enters.data.toList.drop 23 = dktX3_enters_1 := dk_seg dksX3_enters_0 23 rfl rfl
theorem dksX3_enters_2 : cX3_enters.data.toList.drop 46 = dktX3_enters_2 := dk_seg dksX3_enters_1 23 rfl rfl
theorem dksX3_enters_3 : cX3_enters.data.toList.drop 68 = dktX3_enters_3 := dk_seg dksX3_enters_2 22 rfl rfl
theorem dX3_enters_0 : decode cX3_enters 0 = .ok (.aload_n 0, 1) := dk_42 (dk_at dksX3_enters_0 0 rfl rfl)
theorem dX3_enters_1 : decode cX3_enters 1 = .ok (.getfield 17, 3) := dk_180 0 17 (dk_at dksX3_enters_0 1 rfl rfl)
theorem dX3_enters_4 : decode cX3_enters 4 = .ok (.aload_n 0, 1) := dk_42 (dk_at dksX3_enters_0 4 rfl rfl)
theorem dX3_enters_5 : decode cX3_enters 5 = .ok (.getfield 94, 3) := dk_180 0 94 (dk_at dksX3_enters_0 5 rfl rfl)
theorem dX3_enters_8 : decode cX3_enters 8 = .ok (.aload_n 0, 1) := dk_42 (dk_at dksX3_enters_0 8 rfl rfl)
theorem dX3_enters_9 : decode cX3_enters 9 = .ok (.getfield 97, 3) := dk_180 0 97 (dk_at dksX3_enters_0 9 rfl rfl)
theorem dX3_enters_12 : decode cX3_enters 12 = .ok (.iastore, 1) := dk_79 (dk_at dksX3_enters_0 12 rfl rfl)
theorem dX3_enters_13 : decode cX3_enters 13 = .ok (.aload_n 0, 1) := dk_42 (dk_at dksX3_enters_0 13 rfl rfl)
theorem dX3_enters_14 : decode cX3_enters 14 = .ok (.getfield 29, 3) := dk_180 0 29 (dk_at dksX3_enters_0 14 rfl rfl)
theorem dX3_enters_17 : decode cX3_enters 17 = .ok (.aload_n 0, 1) := dk_42 (dk_at dksX3_enters_0 17 rfl rfl)
theorem dX3_enters_18 : decode cX3_enters 18 = .ok (.getfield 94, 3) := dk_180 0 94 (dk_at dksX3_enters_0 18 rfl rfl)
theorem dX3_enters_21 : decode cX3_enters 21 = .ok (.iload_n 1, 1) := dk_27 (dk_at dksX3_enters_0 21 rfl rfl)
theorem dX3_enters_22 : decode cX3_enters 22 = .ok (.aload_n 0, 1) := dk_42 (dk_at dksX3_enters_0 22 rfl rfl)
theorem dX3_enters_23 : decode cX3_enters 23 = .ok (.getfield 97, 3) := dk_180 0 97 (dk_at dksX3_enters_1 0 rfl rfl)
theorem dX3_enters_26 : decode cX3_enters 26 = .ok (.if_icmp .ge 7, 3) := dk_162 0 7 (dk_at dksX3_enters_1 3 rfl rfl)
theorem dX3_enters_29 : decode cX3_enters 29 = .ok (.iconst 1, 1) := dk_4 (dk_at dksX3_enters_1 6 rfl rfl)
theorem dX3_enters_30 : decode cX3_enters 30 = .ok (.goto 4, 3) := dk_167 0 4 (dk_at dksX3_enters_1 7 rfl rfl)
theorem dX3_enters_33 : decode cX3_enters 33 = .ok (.iconst 0, 1) := dk_3 (dk_at dksX3_enters_1 10 rfl rfl)
theorem dX3_enters_34 : decode cX3_enters 34 = .ok (.iastore, 1) := dk_79 (dk_at dksX3_enters_1 11 rfl rfl)
theorem dX3_enters_35 : decode cX3_enters 35 = .ok (.aload_n 0, 1) := dk_42 (dk_at dksX3_enters_1 12 rfl rfl)
theorem dX3_enters_36 : decode cX3_enters 36 = .ok (.getfield 20, 3) := dk_180 0 20 (dk_at dksX3_enters_1 13 rfl rfl)
theorem dX3_enters_39 : decode cX3_enters 39 = .ok (.aload_n 0, 1) := dk_42 (dk_at dksX3_enters_1 16 rfl rfl)
theorem dX3_enters_40 : decode cX3_enters 40 = .ok (.getfield 94, 3) := dk_180 0 94 (dk_at dksX3_enters_1 17 rfl rfl)
theorem dX3_enters_43 : decode cX3_enters 43 = .ok (.iload_n 2, 1) := dk_28 (dk_at dksX3_enters_1 20 rfl rfl)
theorem dX3_enters_44 : decode cX3_enters 44 = .ok (.iastore, 1) := dk_79 (dk_at dksX3_enters_1 21 rfl rfl)
theorem dX3_enters_45 : decode cX3_enters 45 = .ok (.aload_n 0, 1) := dk_42 (dk_at dksX3_enters_1 22 rfl rfl)
theorem dX3_enters_46 : decode cX3_enters 46 = .ok (.getfield 23, 3) := dk_180 0 23 (dk_at dksX3_enters_2 0 rfl rfl)
theorem dX3_enters_49 : decode cX3_enters 49 = .ok (.aload_n 0, 1) := dk_42 (dk_at dksX3_enters_2 3 rfl rfl)
theorem dX3_enters_50 : decode cX3_enters 50 = .ok (.getfield 94, 3) := dk_180 0 94 (dk_at dksX3_enters_2 4 rfl rfl)
theorem dX3_enters_53 : decode cX3_enters 53 = .ok (.iload_n 3, 1) := dk_29 (dk_at dksX3_enters_2 7 rfl rfl)
theorem dX3_enters_54 : decode cX3_enters 54 = .ok (.iastore, 1) := dk_79 (dk_at dksX3_enters_2 8 rfl rfl)
theorem dX3_enters_55 : decode cX3_enters 55 = .ok (.aload_n 0, 1) := dk_42 (dk_at dksX3_enters_2 9 rfl rfl)
theorem dX3_enters_56 : decode cX3_enters 56 = .ok (.getfield 26, 3) := dk_180 0 26 (dk_at dksX3_enters_2 10 rfl rfl)
theorem dX3_enters_59 : decode cX3_enters 59 = .ok (.aload_n 0, 1) := dk_42 (dk_at dksX3_enters_2 13 rfl rfl)
theorem dX3_enters_60 : decode cX3_enters 60 = .ok (.getfield 94, 3) := dk_180 0 94 (dk_at dksX3_enters_2 14 rfl rfl)
theorem dX3_enters_63 : decode cX3_enters 63 = .ok (.iload 4, 2) := dk_21 4 (dk_at dksX3_enters_2 17 rfl rfl)
theorem dX3_enters_65 : decode cX3_enters 65 = .ok (.iastore, 1) := dk_79 (dk_at dksX3_enters_2 19 rfl rfl)
theorem dX3_enters_66 : decode cX3_enters 66 = .ok (.aload_n 0, 1) := dk_42 (dk_at dksX3_enters_2 20 rfl rfl)
theorem dX3_enters_67 : decode cX3_enters 67 = .ok (.dup, 1) := dk_89 (dk_at dksX3_enters_2 21 rfl rfl)
theorem dX3_enters_68 : decode cX3_enters 68 = .ok (.getfield 94, 3) := dk_180 0 94 (dk_at dksX3_enters_3 0 rfl rfl)
theorem dX3_enters_71 : decode cX3_enters 71 = .ok (.iconst 1, 1) := dk_4 (dk_at dksX3_enters_3 3 rfl rfl)
theorem dX3_enters_72 : decode cX3_enters 72 = .ok (.iadd, 1) := dk_96 (dk_at dksX3_enters_3 4 rfl rfl)
theorem dX3_enters_73 : decode cX3_enters 73 = .ok (.putfield 94, 3) := dk_181 0 94 (dk_at dksX3_enters_3 5 rfl rfl)
theorem dX3_enters_76 : decode cX3_enters 76 = .ok (.aload_n 0, 1) := dk_42 (dk_at dksX3_enters_3 8 rfl rfl)
theorem dX3_enters_77 : decode cX3_enters 77 = .ok (.getfield 94, 3) := dk_180 0 94 (dk_at dksX3_enters_3 9 rfl rfl)
theorem dX3_enters_80 : decode cX3_enters 80 = .ok (.iconst 1, 1) := dk_4 (dk_at dksX3_enters_3 12 rfl rfl)
theorem dX3_enters_81 : decode cX3_enters 81 = .ok (.isub, 1) := dk_100 (dk_at dksX3_enters_3 13 rfl rfl)
theorem dX3_enters_82 : decode cX3_enters 82 = .ok (.ireturn, 1) := dk_172 (dk_at dksX3_enters_3 14 rfl rfl)
abbrev cX3_close : ByteArray := prog_13_method_9_code
def yX3_close : MethodName := ⟨RX3, "close", "()I"⟩
def dkwX3_close_2 : List UInt8 := [180, 0, 97, 167, 0, 4, 3, 172]
abbrev dktX3_close_2 : List UInt8 := dkwX3_close_2 ++ []
def dkwX3_close_1 : List UInt8 := [180, 0, 83, 154, 0, 7, 4, 167, 0, 4, 3, 96, 181, 0, 97, 42, 180, 0, 83, 154, 0, 10, 42]
abbrev dktX3_close_1 : List UInt8 := dkwX3_close_1 ++ dktX3_close_2
def dkwX3_close_0 : List UInt8 := [42, 42, 180, 0, 97, 16, 12, 164, 0, 7, 4, 167, 0, 4, 3, 181, 0, 83, 42, 89, 180, 0, 97, 42]
abbrev dktX3_close_0 : List UInt8 := dkwX3_close_0 ++ dktX3_close_1
theorem dksX3_close_0 : cX3_close.data.toList.drop 0 = dktX3_close_0 := by decide +kernel
theorem dksX3_close_1 : cX3_close.data.toList.drop 24 = dktX3_close_1 := dk_seg dksX3_close_0 24 rfl rfl
theorem dksX3_close_2 : cX3_close.data.toList.drop 47 = dktX3_close_2 := dk_seg dksX3_close_1 23 rfl rfl
theorem dX3_close_0 : decode cX3_close 0 = .ok (.aload_n 0, 1) := dk_42 (dk_at dksX3_close_0 0 rfl rfl)
theorem dX3_close_1 : decode cX3_close 1 = .ok (.aload_n 0, 1) := dk_42 (dk_at dksX3_close_0 1 rfl rfl)
theorem dX3_close_2 : decode cX3_close 2 = .ok (.getfield 97, 3) := dk_180 0 97 (dk_at dksX3_close_0 2 rfl rfl)
theorem dX3_close_5 : decode cX3_close 5 = .ok (.bipush 12, 2) := dk_16 12 (dk_at dksX3_close_0 5 rfl rfl)
theorem dX3_close_7 : decode cX3_close 7 = .ok (.if_icmp .le 7, 3) := dk_164 0 7 (dk_at dksX3_close_0 7 rfl rfl)
theorem dX3_close_10 : decode cX3_close 10 = .ok (.iconst 1, 1) := dk_4 (dk_at dksX3_close_0 10 rfl rfl)
theorem dX3_close_11 : decode cX3_close 11 = .ok (.goto 4, 3) := dk_167 0 4 (dk_at dksX3_close_0 11 rfl rfl)
theorem dX3_close_14 : decode cX3_close 14 = .ok (.iconst 0, 1) := dk_3 (dk_at dksX3_close_0 14 rfl rfl)
theorem dX3_close_15 : decode cX3_close 15 = .ok (.putfield 83, 3) := dk_181 0 83 (dk_at dksX3_close_0 15 rfl rfl)
theorem dX3_close_18 : decode cX3_close 18 = .ok (.aload_n 0, 1) := dk_42 (dk_at dksX3_close_0 18 rfl rfl)
theorem dX3_close_19 : decode cX3_close 19 = .ok (.dup, 1) := dk_89 (dk_at dksX3_close_0 19 rfl rfl)
theorem dX3_close_20 : decode cX3_close 20 = .ok (.getfield 97, 3) := dk_180 0 97 (dk_at dksX3_close_0 20 rfl rfl)
theorem dX3_close_23 : decode cX3_close 23 = .ok (.aload_n 0, 1) := dk_42 (dk_at dksX3_close_0 23 rfl rfl)
theorem dX3_close_24 : decode cX3_close 24 = .ok (.getfield 83, 3) := dk_180 0 83 (dk_at dksX3_close_1 0 rfl rfl)
theorem dX3_close_27 : decode cX3_close 27 = .ok (.ifCond .ne 7, 3) := dk_154 0 7 (dk_at dksX3_close_1 3 rfl rfl)
theorem dX3_close_30 : decode cX3_close 30 = .ok (.iconst 1, 1) := dk_4 (dk_at dksX3_close_1 6 rfl rfl)
theorem dX3_close_31 : decode cX3_close 31 = .ok (.goto 4, 3) := dk_167 0 4 (dk_at dksX3_close_1 7 rfl rfl)
theorem dX3_close_34 : decode cX3_close 34 = .ok (.iconst 0, 1) := dk_3 (dk_at dksX3_close_1 10 rfl rfl)
theorem dX3_close_35 : decode cX3_close 35 = .ok (.iadd, 1) := dk_96 (dk_at dksX3_close_1 11 rfl rfl)
theorem dX3_close_36 : decode cX3_close 36 = .ok (.putfield 97, 3) := dk_181 0 97 (dk_at dksX3_close_1 12 rfl rfl)
theorem dX3_close_39 : decode cX3_close 39 = .ok (.aload_n 0, 1) := dk_42 (dk_at dksX3_close_1 15 rfl rfl)
theorem dX3_close_40 : decode cX3_close 40 = .ok (.getfield 83, 3) := dk_180 0 83 (dk_at dksX3_close_1 16 rfl rfl)
theorem dX3_close_43 : decode cX3_close 43 = .ok (.ifCond .ne 10, 3) := dk_154 0 10 (dk_at dksX3_close_1 19 rfl rfl)
theorem dX3_close_46 : decode cX3_close 46 = .ok (.aload_n 0, 1) := dk_42 (dk_at dksX3_close_1 22 rfl rfl)
theorem dX3_close_47 : decode cX3_close 47 = .ok (.getfield 97, 3) := dk_180 0 97 (dk_at dksX3_close_2 0 rfl rfl)
theorem dX3_close_50 : decode cX3_close 50 = .ok (.goto 4, 3) := dk_167 0 4 (dk_at dksX3_close_2 3 rfl rfl)
theorem dX3_close_53 : decode cX3_close 53 = .ok (.iconst 0, 1) := dk_3 (dk_at dksX3_close_2 6 rfl rfl)
theorem dX3_close_54 : decode cX3_close 54 = .ok (.ireturn, 1) := dk_172 (dk_at dksX3_close_2 7 rfl rfl)
abbrev cX3_period : ByteArray := prog_13_method_10_code
def yX3_period : MethodName := ⟨RX3, "period", "()I"⟩
def dkwX3_period_0 : List UInt8 := [42, 3, 181, 0, 83, 42, 180, 0, 97, 172]
abbrev dktX3_period_0 : List UInt8 := dkwX3_period_0 ++ []
theorem dksX3_period_0 : cX3_period.data.toList.drop 0 = dktX3_period_0 := by decide +kernel
theorem dX3_period_0 : decode cX3_period 0 = .ok (.aload_n 0, 1) := dk_42 (dk_at dksX3_period_0 0 rfl rfl)
theorem dX3_period_1 : decode cX3_period 1 = .ok (.iconst 0, 1) := dk_3 (dk_at dksX3_period_0 1 rfl rfl)
theorem dX3_period_2 : decode cX3_period 2 = .ok (.putfield 83, 3) := dk_181 0 83 (dk_at dksX3_period_0 2 rfl rfl)
theorem dX3_period_5 : decode cX3_period 5 = .ok (.aload_n 0, 1) := dk_42 (dk_at dksX3_period_0 5 rfl rfl)
theorem dX3_period_6 : decode cX3_period 6 = .ok (.getfield 97, 3) := dk_180 0 97 (dk_at dksX3_period_0 6 rfl rfl)
theorem dX3_period_9 : decode cX3_period 9 = .ok (.ireturn, 1) := dk_172 (dk_at dksX3_period_0 9 rfl rfl)
abbrev cX3_entries : ByteArray := prog_13_method_11_code
def yX3_entries : MethodName := ⟨RX3, "entries", "()I"⟩
def dkwX3_entries_0 : List UInt8 := [42, 3, 181, 0, 83, 42, 180, 0, 94, 172]
abbrev dktX3_entries_0 : List UInt8 := dkwX3_entries_0 ++ []
theorem dksX3_entries_0 : cX3_entries.data.toList.drop 0 = dktX3_entries_0 := by decide +kernel
theorem dX3_entries_0 : decode cX3_entries 0 = .ok (.aload_n 0, 1) := dk_42 (dk_at dksX3_entries_0 0 rfl rfl)
theorem dX3_entries_1 : decode cX3_entries 1 = .ok (.iconst 0, 1) := dk_3 (dk_at dksX3_entries_0 1 rfl rfl)
theorem dX3_entries_2 : decode cX3_entries 2 = .ok (.putfield 83, 3) := dk_181 0 83 (dk_at dksX3_entries_0 2 rfl rfl)
theorem dX3_entries_5 : decode cX3_entries 5 = .ok (.aload_n 0, 1) := dk_42 (dk_at dksX3_entries_0 5 rfl rfl)
theorem dX3_entries_6 : decode cX3_entries 6 = .ok (.getfield 94, 3) := dk_180 0 94 (dk_at dksX3_entries_0 6 rfl rfl)
theorem dX3_entries_9 : decode cX3_entries 9 = .ok (.ireturn, 1) := dk_172 (dk_at dksX3_entries_0 9 rfl rfl)
abbrev cX3_periodOf : ByteArray := prog_13_method_12_code
def yX3_periodOf : MethodName := ⟨RX3, "periodOf", "(I)I"⟩
def dkwX3_periodOf_1 : List UInt8 := [180, 0, 83, 154, 0, 12, 42, 180, 0, 17, 27, 46, 167, 0, 4, 3, 172]
abbrev dktX3_periodOf_1 : List UInt8 := dkwX3_periodOf_1 ++ []
def dkwX3_periodOf_0 : List UInt8 := [42, 27, 3, 42, 180, 0, 94, 4, 100, 184, 0, 86, 153, 0, 7, 3, 167, 0, 4, 4, 181, 0, 83, 42]
abbrev dktX3_periodOf_0 : List UInt8 := dkwX3_periodOf_0 ++ dktX3_periodOf_1
theorem dksX3_periodOf_0 : cX3_periodOf.data.toList.drop 0 = dktX3_periodOf_0 := by decide +kernel
theorem dksX3_periodOf_1 : cX3_periodOf.data.toList.drop 24 = dktX3_periodOf_1 := dk_seg dksX3_periodOf_0 24 rfl rfl
theorem dX3_periodOf_0 : decode cX3_periodOf 0 = .ok (.aload_n 0, 1) := dk_42 (dk_at dksX3_periodOf_0 0 rfl rfl)
theorem dX3_periodOf_1 : decode cX3_periodOf 1 = .ok (.iload_n 1, 1) := dk_27 (dk_at dksX3_periodOf_0 1 rfl rfl)
theorem dX3_periodOf_2 : decode cX3_periodOf 2 = .ok (.iconst 0, 1) := dk_3 (dk_at dksX3_periodOf_0 2 rfl rfl)
theorem dX3_periodOf_3 : decode cX3_periodOf 3 = .ok (.aload_n 0, 1) := dk_42 (dk_at dksX3_periodOf_0 3 rfl rfl)
theorem dX3_periodOf_4 : decode cX3_periodOf 4 = .ok (.getfield 94, 3) := dk_180 0 94 (dk_at dksX3_periodOf_0 4 rfl rfl)
theorem dX3_periodOf_7 : decode cX3_periodOf 7 = .ok (.iconst 1, 1) := dk_4 (dk_at dksX3_periodOf_0 7 rfl rfl)
theorem dX3_periodOf_8 : decode cX3_periodOf 8 = .ok (.isub, 1) := dk_100 (dk_at dksX3_periodOf_0 8 rfl rfl)
theorem dX3_periodOf_9 : decode cX3_periodOf 9 = .ok (.invokestatic 86, 3) := dk_184 0 86 (dk_at dksX3_periodOf_0 9 rfl rfl)
theorem dX3_periodOf_12 : decode cX3_periodOf 12 = .ok (.ifCond .eq 7, 3) := dk_153 0 7 (dk_at dksX3_periodOf_0 12 rfl rfl)
theorem dX3_periodOf_15 : decode cX3_periodOf 15 = .ok (.iconst 0, 1) := dk_3 (dk_at dksX3_periodOf_0 15 rfl rfl)
theorem dX3_periodOf_16 : decode cX3_periodOf 16 = .ok (.goto 4, 3) := dk_167 0 4 (dk_at dksX3_periodOf_0 16 rfl rfl)
theorem dX3_periodOf_19 : decode cX3_periodOf 19 = .ok (.iconst 1, 1) := dk_4 (dk_at dksX3_periodOf_0 19 rfl rfl)
theorem dX3_periodOf_20 : decode cX3_periodOf 20 = .ok (.putfield 83, 3) := dk_181 0 83 (dk_at dksX3_periodOf_0 20 rfl rfl)
theorem dX3_periodOf_23 : decode cX3_periodOf 23 = .ok (.aload_n 0, 1) := dk_42 (dk_at dksX3_periodOf_0 23 rfl rfl)
theorem dX3_periodOf_24 : decode cX3_periodOf 24 = .ok (.getfield 83, 3) := dk_180 0 83 (dk_at dksX3_periodOf_1 0 rfl rfl)
theorem dX3_periodOf_27 : decode cX3_periodOf 27 = .ok (.ifCond .ne 12, 3) := dk_154 0 12 (dk_at dksX3_periodOf_1 3 rfl rfl)
theorem dX3_periodOf_30 : decode cX3_periodOf 30 = .ok (.aload_n 0, 1) := dk_42 (dk_at dksX3_periodOf_1 6 rfl rfl)
theorem dX3_periodOf_31 : decode cX3_periodOf 31 = .ok (.getfield 17, 3) := dk_180 0 17 (dk_at dksX3_periodOf_1 7 rfl rfl)
theorem dX3_periodOf_34 : decode cX3_periodOf 34 = .ok (.iload_n 1, 1) := dk_27 (dk_at dksX3_periodOf_1 10 rfl rfl)
theorem dX3_periodOf_35 : decode cX3_periodOf 35 = .ok (.iaload, 1) := dk_46 (dk_at dksX3_periodOf_1 11 rfl rfl)
theorem dX3_periodOf_36 : decode cX3_periodOf 36 = .ok (.goto 4, 3) := dk_167 0 4 (dk_at dksX3_periodOf_1 12 rfl rfl)
theorem dX3_periodOf_39 : decode cX3_periodOf 39 = .ok (.iconst 0, 1) := dk_3 (dk_at dksX3_periodOf_1 15 rfl rfl)
theorem dX3_periodOf_40 : decode cX3_periodOf 40 = .ok (.ireturn, 1) := dk_172 (dk_at dksX3_periodOf_1 16 rfl rfl)
abbrev cX3_isLate : ByteArray := prog_13_method_13_code
def yX3_isLate : MethodName := ⟨RX3, "isLate", "(I)Z"⟩
def dkwX3_isLate_1 : List UInt8 := [180, 0, 83, 154, 0, 17, 42, 180, 0, 29, 27, 46, 4, 160, 0, 7, 4, 167, 0, 4, 3, 172]
abbrev dktX3_isLate_1 : List UInt8 := dkwX3_isLate_1 ++ []
def dkwX3_isLate_0 : List UInt8 := [42, 27, 3, 42, 180, 0, 94, 4, 100, 184, 0, 86, 153, 0, 7, 3, 167, 0, 4, 4, 181, 0, 83, 42]
abbrev dktX3_isLate_0 : List UInt8 := dkwX3_isLate_0 ++ dktX3_isLate_1
theorem dksX3_isLate_0 : cX3_isLate.data.toList.drop 0 = dktX3_isLate_0 := by decide +kernel
theorem dksX3_isLate_1 : cX3_isLate.data.toList.drop 24 = dktX3_isLate_1 := dk_seg dksX3_isLate_0 24 rfl rfl
theorem dX3_isLate_0 : decode cX3_isLate 0 = .ok (.aload_n 0, 1) := dk_42 (dk_at dksX3_isLate_0 0 rfl rfl)
theorem dX3_isLate_1 : decode cX3_isLate 1 = .ok (.iload_n 1, 1) := dk_27 (dk_at dksX3_isLate_0 1 rfl rfl)
theorem dX3_isLate_2 : decode cX3_isLate 2 = .ok (.iconst 0, 1) := dk_3 (dk_at dksX3_isLate_0 2 rfl rfl)
theorem dX3_isLate_3 : decode cX3_isLate 3 = .ok (.aload_n 0, 1) := dk_42 (dk_at dksX3_isLate_0 3 rfl rfl)
theorem dX3_isLate_4 : decode cX3_isLate 4 = .ok (.getfield 94, 3) := dk_180 0 94 (dk_at dksX3_isLate_0 4 rfl rfl)
theorem dX3_isLate_7 : decode cX3_isLate 7 = .ok (.iconst 1, 1) := dk_4 (dk_at dksX3_isLate_0 7 rfl rfl)
theorem dX3_isLate_8 : decode cX3_isLate 8 = .ok (.isub, 1) := dk_100 (dk_at dksX3_isLate_0 8 rfl rfl)
theorem dX3_isLate_9 : decode cX3_isLate 9 = .ok (.invokestatic 86, 3) := dk_184 0 86 (dk_at dksX3_isLate_0 9 rfl rfl)
theorem dX3_isLate_12 : decode cX3_isLate 12 = .ok (.ifCond .eq 7, 3) := dk_153 0 7 (dk_at dksX3_isLate_0 12 rfl rfl)
theorem dX3_isLate_15 : decode cX3_isLate 15 = .ok (.iconst 0, 1) := dk_3 (dk_at dksX3_isLate_0 15 rfl rfl)
theorem dX3_isLate_16 : decode cX3_isLate 16 = .ok (.goto 4, 3) := dk_167 0 4 (dk_at dksX3_isLate_0 16 rfl rfl)
theorem dX3_isLate_19 : decode cX3_isLate 19 = .ok (.iconst 1, 1) := dk_4 (dk_at dksX3_isLate_0 19 rfl rfl)
theorem dX3_isLate_20 : decode cX3_isLate 20 = .ok (.putfield 83, 3) := dk_181 0 83 (dk_at dksX3_isLate_0 20 rfl rfl)
theorem dX3_isLate_23 : decode cX3_isLate 23 = .ok (.aload_n 0, 1) := dk_42 (dk_at dksX3_isLate_0 23 rfl rfl)
theorem dX3_isLate_24 : decode cX3_isLate 24 = .ok (.getfield 83, 3) := dk_180 0 83 (dk_at dksX3_isLate_1 0 rfl rfl)
theorem dX3_isLate_27 : decode cX3_isLate 27 = .ok (.ifCond .ne 17, 3) := dk_154 0 17 (dk_at dksX3_isLate_1 3 rfl rfl)
theorem dX3_isLate_30 : decode cX3_isLate 30 = .ok (.aload_n 0, 1) := dk_42 (dk_at dksX3_isLate_1 6 rfl rfl)
theorem dX3_isLate_31 : decode cX3_isLate 31 = .ok (.getfield 29, 3) := dk_180 0 29 (dk_at dksX3_isLate_1 7 rfl rfl)
theorem dX3_isLate_34 : decode cX3_isLate 34 = .ok (.iload_n 1, 1) := dk_27 (dk_at dksX3_isLate_1 10 rfl rfl)
theorem dX3_isLate_35 : decode cX3_isLate 35 = .ok (.iaload, 1) := dk_46 (dk_at dksX3_isLate_1 11 rfl rfl)
theorem dX3_isLate_36 : decode cX3_isLate 36 = .ok (.iconst 1, 1) := dk_4 (dk_at dksX3_isLate_1 12 rfl rfl)
theorem dX3_isLate_37 : decode cX3_isLate 37 = .ok (.if_icmp .ne 7, 3) := dk_160 0 7 (dk_at dksX3_isLate_1 13 rfl rfl)
theorem dX3_isLate_40 : decode cX3_isLate 40 = .ok (.iconst 1, 1) := dk_4 (dk_at dksX3_isLate_1 16 rfl rfl)
theorem dX3_isLate_41 : decode cX3_isLate 41 = .ok (.goto 4, 3) := dk_167 0 4 (dk_at dksX3_isLate_1 17 rfl rfl)
theorem dX3_isLate_44 : decode cX3_isLate 44 = .ok (.iconst 0, 1) := dk_3 (dk_at dksX3_isLate_1 20 rfl rfl)
theorem dX3_isLate_45 : decode cX3_isLate 45 = .ok (.ireturn, 1) := dk_172 (dk_at dksX3_isLate_1 21 rfl rfl)
abbrev cX3_balance : ByteArray := prog_13_method_16_code
def yX3_balance : MethodName := ⟨RX3, "balance", "(II)I"⟩
def dkwX3_balance_0 : List UInt8 := [42, 27, 28, 182, 0, 109, 172]
abbrev dktX3_balance_0 : List UInt8 := dkwX3_balance_0 ++ []
theorem dksX3_balance_0 : cX3_balance.data.toList.drop 0 = dktX3_balance_0 := by decide +kernel
theorem dX3_balance_0 : decode cX3_balance 0 = .ok (.aload_n 0, 1) := dk_42 (dk_at dksX3_balance_0 0 rfl rfl)
theorem dX3_balance_1 : decode cX3_balance 1 = .ok (.iload_n 1, 1) := dk_27 (dk_at dksX3_balance_0 1 rfl rfl)
theorem dX3_balance_2 : decode cX3_balance 2 = .ok (.iload_n 2, 1) := dk_28 (dk_at dksX3_balance_0 2 rfl rfl)
theorem dX3_balance_3 : decode cX3_balance 3 = .ok (.invokevirtual 109, 3) := dk_182 0 109 (dk_at dksX3_balance_0 3 rfl rfl)
theorem dX3_balance_6 : decode cX3_balance 6 = .ok (.ireturn, 1) := dk_172 (dk_at dksX3_balance_0 6 rfl rfl)
abbrev cX3_balanceOf : ByteArray := prog_13_method_15_code
def yX3_balanceOf : MethodName := ⟨RX3, "balanceOf", "(II)I"⟩
def dkwX3_balanceOf_5 : List UInt8 := [167, 0, 4, 3, 100, 62, 132, 4, 1, 167, 255, 168, 29, 172]
abbrev dktX3_balanceOf_5 : List UInt8 := dkwX3_balanceOf_5 ++ []
def dkwX3_balanceOf_4 : List UInt8 := [42, 42, 180, 0, 23, 21, 4, 46, 27, 182, 0, 105, 153, 0, 13, 42, 180, 0, 26, 21, 4, 46]
abbrev dktX3_balanceOf_4 : List UInt8 := dkwX3_balanceOf_4 ++ dktX3_balanceOf_5
def dkwX3_balanceOf_3 : List UInt8 := [21, 4, 46, 27, 182, 0, 105, 153, 0, 13, 42, 180, 0, 26, 21, 4, 46, 167, 0, 4, 3, 96, 62, 29]
abbrev dktX3_balanceOf_3 : List UInt8 := dkwX3_balanceOf_3 ++ dktX3_balanceOf_4
def dkwX3_balanceOf_2 : List UInt8 := [180, 0, 83, 154, 0, 78, 42, 180, 0, 17, 21, 4, 46, 28, 163, 0, 61, 29, 42, 42, 180, 0, 20]
abbrev dktX3_balanceOf_2 : List UInt8 := dkwX3_balanceOf_2 ++ dktX3_balanceOf_3
def dkwX3_balanceOf_1 : List UInt8 := [167, 0, 4, 3, 181, 0, 83, 3, 62, 3, 54, 4, 21, 4, 42, 180, 0, 94, 162, 0, 85, 42]
abbrev dktX3_balanceOf_1 : List UInt8 := dkwX3_balanceOf_1 ++ dktX3_balanceOf_2
def dkwX3_balanceOf_0 : List UInt8 := [42, 42, 27, 182, 0, 90, 154, 0, 7, 4, 167, 0, 18, 28, 3, 16, 12, 184, 0, 86, 154, 0, 7, 5]
abbrev dktX3_balanceOf_0 : List UInt8 := dkwX3_balanceOf_0 ++ dktX3_balanceOf_1
theorem dksX3_balanceOf_0 : cX3_balanceOf.data.toList.drop 0 = dktX3_balanceOf_0 := by decide +kernel
theorem dksX3_balanceOf_1 : cX3_balanceOf.data.toList.drop 24 = dktX3_balanceOf_1 := dk_seg dksX3_balanceOf_0 24 rfl rfl
theorem dksX3_balanceOf_2 : cX3_balanceOf.data.toList.drop 46 = dktX3_balanceOf_2 := dk_seg dksX3_balanceOf_1 22 rfl rfl
theorem dksX3_balanceOf_3 : cX3_balanceOf.data.toList.drop 69 = dktX3_balanceOf_3 := dk_seg dksX3_balanceOf_2 23 rfl rfl
theorem dksX3_balanceOf_4 : cX3_balanceOf.data.toList.drop 93 = dktX3_balanceOf_4 := dk_seg dksX3_balanceOf_3 24 rfl rfl
theorem dksX3_balanceOf_5 : cX3_balanceOf.data.toList.drop 115 = dktX3_balanceOf_5 := dk_seg dksX3_balanceOf_4 22 rfl rfl
theorem dX3_balanceOf_0 : decode cX3_balanceOf 0 = .ok (.aload_n 0, 1) := dk_42 (dk_at dksX3_balanceOf_0 0 rfl rfl)
theorem dX3_balanceOf_1 : decode cX3_balanceOf 1 = .ok (.aload_n 0, 1) := dk_42 (dk_at dksX3_balanceOf_0 1 rfl rfl)
theorem dX3_balanceOf_2 : decode cX3_balanceOf 2 = .ok (.iload_n 1, 1) := dk_27 (dk_at dksX3_balanceOf_0 2 rfl rfl)
theorem dX3_balanceOf_3 : decode cX3_balanceOf 3 = .ok (.invokevirtual 90, 3) := dk_182 0 90 (dk_at dksX3_balanceOf_0 3 rfl rfl)
theorem dX3_balanceOf_6 : decode cX3_balanceOf 6 = .ok (.ifCond .ne 7, 3) := dk_154 0 7 (dk_at dksX3_balanceOf_0 6 rfl rfl)
theorem dX3_balanceOf_9 : decode cX3_balanceOf 9 = .ok (.iconst 1, 1) := dk_4 (dk_at dksX3_balanceOf_0 9 rfl rfl)
theorem dX3_balanceOf_10 : decode cX3_balanceOf 10 = .ok (.goto 18, 3) := dk_167 0 18 (dk_at dksX3_balanceOf_0 10 rfl rfl)
theorem dX3_balanceOf_13 : decode cX3_balanceOf 13 = .ok (.iload_n 2, 1) := dk_28 (dk_at dksX3_balanceOf_0 13 rfl rfl)
theorem dX3_balanceOf_14 : decode cX3_balanceOf 14 = .ok (.iconst 0, 1) := dk_3 (dk_at dksX3_balanceOf_0 14 rfl rfl)
theorem dX3_balanceOf_15 : decode cX3_balanceOf 15 = .ok (.bipush 12, 2) := dk_16 12 (dk_at dksX3_balanceOf_0 15 rfl rfl)
theorem dX3_balanceOf_17 : decode cX3_balanceOf 17 = .ok (.invokestatic 86, 3) := dk_184 0 86 (dk_at dksX3_balanceOf_0 17 rfl rfl)
theorem dX3_balanceOf_20 : decode cX3_balanceOf 20 = .ok (.ifCond .ne 7, 3) := dk_154 0 7 (dk_at dksX3_balanceOf_0 20 rfl rfl)
theorem dX3_balanceOf_23 : decode cX3_balanceOf 23 = .ok (.iconst 2, 1) := dk_5 (dk_at dksX3_balanceOf_0 23 rfl rfl)
theorem dX3_balanceOf_24 : decode cX3_balanceOf 24 = .ok (.goto 4, 3) := dk_167 0 4 (dk_at dksX3_balanceOf_1 0 rfl rfl)
theorem dX3_balanceOf_27 : decode cX3_balanceOf 27 = .ok (.iconst 0, 1) := dk_3 (dk_at dksX3_balanceOf_1 3 rfl rfl)
theorem dX3_balanceOf_28 : decode cX3_balanceOf 28 = .ok (.putfield 83, 3) := dk_181 0 83 (dk_at dksX3_balanceOf_1 4 rfl rfl)
theorem dX3_balanceOf_31 : decode cX3_balanceOf 31 = .ok (.iconst 0, 1) := dk_3 (dk_at dksX3_balanceOf_1 7 rfl rfl)
theorem dX3_balanceOf_32 : decode cX3_balanceOf 32 = .ok (.istore_n 3, 1) := dk_62 (dk_at dksX3_balanceOf_1 8 rfl rfl)
theorem dX3_balanceOf_33 : decode cX3_balanceOf 33 = .ok (.iconst 0, 1) := dk_3 (dk_at dksX3_balanceOf_1 9 rfl rfl)
theorem dX3_balanceOf_34 : decode cX3_balanceOf 34 = .ok (.istore 4, 2) := dk_54 4 (dk_at dksX3_balanceOf_1 10 rfl rfl)
theorem dX3_balanceOf_36 : decode cX3_balanceOf 36 = .ok (.iload 4, 2) := dk_21 4 (dk_at dksX3_balanceOf_1 12 rfl rfl)
theorem dX3_balanceOf_38 : decode cX3_balanceOf 38 = .ok (.aload_n 0, 1) := dk_42 (dk_at dksX3_balanceOf_1 14 rfl rfl)
theorem dX3_balanceOf_39 : decode cX3_balanceOf 39 = .ok (.getfield 94, 3) := dk_180 0 94 (dk_at dksX3_balanceOf_1 15 rfl rfl)
theorem dX3_balanceOf_42 : decode cX3_balanceOf 42 = .ok (.if_icmp .ge 85, 3) := dk_162 0 85 (dk_at dksX3_balanceOf_1 18 rfl rfl)
theorem dX3_balanceOf_45 : decode cX3_balanceOf 45 = .ok (.aload_n 0, 1) := dk_42 (dk_at dksX3_balanceOf_1 21 rfl rfl)
theorem dX3_balanceOf_46 : decode cX3_balanceOf 46 = .ok (.getfield 83, 3) := dk_180 0 83 (dk_at dksX3_balanceOf_2 0 rfl rfl)
theorem dX3_balanceOf_49 : decode cX3_balanceOf 49 = .ok (.ifCond .ne 78, 3) := dk_154 0 78 (dk_at dksX3_balanceOf_2 3 rfl rfl)
theorem dX3_balanceOf_52 : decode cX3_balanceOf 52 = .ok (.aload_n 0, 1) := dk_42 (dk_at dksX3_balanceOf_2 6 rfl rfl)
theorem dX3_balanceOf_53 : decode cX3_balanceOf 53 = .ok (.getfield 17, 3) := dk_180 0 17 (dk_at dksX3_balanceOf_2 7 rfl rfl)
theorem dX3_balanceOf_56 : decode cX3_balanceOf 56 = .ok (.iload 4, 2) := dk_21 4 (dk_at dksX3_balanceOf_2 10 rfl rfl)
theorem dX3_balanceOf_58 : decode cX3_balanceOf 58 = .ok (.iaload, 1) := dk_46 (dk_at dksX3_balanceOf_2 12 rfl rfl)
theorem dX3_balanceOf_59 : decode cX3_balanceOf 59 = .ok (.iload_n 2, 1) := dk_28 (dk_at dksX3_balanceOf_2 13 rfl rfl)
theorem dX3_balanceOf_60 : decode cX3_balanceOf 60 = .ok (.if_icmp .gt 61, 3) := dk_163 0 61 (dk_at dksX3_balanceOf_2 14 rfl rfl)
theorem dX3_balanceOf_63 : decode cX3_balanceOf 63 = .ok (.iload_n 3, 1) := dk_29 (dk_at dksX3_balanceOf_2 17 rfl rfl)
theorem dX3_balanceOf_64 : decode cX3_balanceOf 64 = .ok (.aload_n 0, 1) := dk_42 (dk_at dksX3_balanceOf_2 18 rfl rfl)
theorem dX3_balanceOf_65 : decode cX3_balanceOf 65 = .ok (.aload_n 0, 1) := dk_42 (dk_at dksX3_balanceOf_2 19 rfl rfl)
theorem dX3_balanceOf_66 : decode cX3_balanceOf 66 = .ok (.getfield 20, 3) := dk_180 0 20 (dk_at dksX3_balanceOf_2 20 rfl rfl)
theorem dX3_balanceOf_69 : decode cX3_balanceOf 69 = .ok (.iload 4, 2) := dk_21 4 (dk_at dksX3_balanceOf_3 0 rfl rfl)
theorem dX3_balanceOf_71 : decode cX3_balanceOf 71 = .ok (.iaload, 1) := dk_46 (dk_at dksX3_balanceOf_3 2 rfl rfl)
theorem dX3_balanceOf_72 : decode cX3_balanceOf 72 = .ok (.iload_n 1, 1) := dk_27 (dk_at dksX3_balanceOf_3 3 rfl rfl)
theorem dX3_balanceOf_73 : decode cX3_balanceOf 73 = .ok (.invokevirtual 105, 3) := dk_182 0 105 (dk_at dksX3_balanceOf_3 4 rfl rfl)
theorem dX3_balanceOf_76 : decode cX3_balanceOf 76 = .ok (.ifCond .eq 13, 3) := dk_153 0 13 (dk_at dksX3_balanceOf_3 7 rfl rfl)
theorem dX3_balanceOf_79 : decode cX3_balanceOf 79 = .ok (.aload_n 0, 1) := dk_42 (dk_at dksX3_balanceOf_3 10 rfl rfl)
theorem dX3_balanceOf_80 : decode cX3_balanceOf 80 = .ok (.getfield 26, 3) := dk_180 0 26 (dk_at dksX3_balanceOf_3 11 rfl rfl)
theorem dX3_balanceOf_83 : decode cX3_balanceOf 83 = .ok (.iload 4, 2) := dk_21 4 (dk_at dksX3_balanceOf_3 14 rfl rfl)
theorem dX3_balanceOf_85 : decode cX3_balanceOf 85 = .ok (.iaload, 1) := dk_46 (dk_at dksX3_balanceOf_3 16 rfl rfl)
theorem dX3_balanceOf_86 : decode cX3_balanceOf 86 = .ok (.goto 4, 3) := dk_167 0 4 (dk_at dksX3_balanceOf_3 17 rfl rfl)
theorem dX3_balanceOf_89 : decode cX3_balanceOf 89 = .ok (.iconst 0, 1) := dk_3 (dk_at dksX3_balanceOf_3 20 rfl rfl)
theorem dX3_balanceOf_90 : decode cX3_balanceOf 90 = .ok (.iadd, 1) := dk_96 (dk_at dksX3_balanceOf_3 21 rfl rfl)
theorem dX3_balanceOf_91 : decode cX3_balanceOf 91 = .ok (.istore_n 3, 1) := dk_62 (dk_at dksX3_balanceOf_3 22 rfl rfl)
theorem dX3_balanceOf_92 : decode cX3_balanceOf 92 = .ok (.iload_n 3, 1) := dk_29 (dk_at dksX3_balanceOf_3 23 rfl rfl)
theorem dX3_balanceOf_93 : decode cX3_balanceOf 93 = .ok (.aload_n 0, 1) := dk_42 (dk_at dksX3_balanceOf_4 0 rfl rfl)
theorem dX3_balanceOf_94 : decode cX3_balanceOf 94 = .ok (.aload_n 0, 1) := dk_42 (dk_at dksX3_balanceOf_4 1 rfl rfl)
theorem dX3_balanceOf_95 : decode cX3_balanceOf 95 = .ok (.getfield 23, 3) := dk_180 0 23 (dk_at dksX3_balanceOf_4 2 rfl rfl)
theorem dX3_balanceOf_98 : decode cX3_balanceOf 98 = .ok (.iload 4, 2) := dk_21 4 (dk_at dksX3_balanceOf_4 5 rfl rfl)
theorem dX3_balanceOf_100 : decode cX3_balanceOf 100 = .ok (.iaload, 1) := dk_46 (dk_at dksX3_balanceOf_4 7 rfl rfl)
theorem dX3_balanceOf_101 : decode cX3_balanceOf 101 = .ok (.iload_n 1, 1) := dk_27 (dk_at dksX3_balanceOf_4 8 rfl rfl)
theorem dX3_balanceOf_102 : decode cX3_balanceOf 102 = .ok (.invokevirtual 105, 3) := dk_182 0 105 (dk_at dksX3_balanceOf_4 9 rfl rfl)
theorem dX3_balanceOf_105 : decode cX3_balanceOf 105 = .ok (.ifCond .eq 13, 3) := dk_153 0 13 (dk_at dksX3_balanceOf_4 12 rfl rfl)
theorem dX3_balanceOf_108 : decode cX3_balanceOf 108 = .ok (.aload_n 0, 1) := dk_42 (dk_at dksX3_balanceOf_4 15 rfl rfl)
theorem dX3_balanceOf_109 : decode cX3_balanceOf 109 = .ok (.getfield 26, 3) := dk_180 0 26 (dk_at dksX3_balanceOf_4 16 rfl rfl)
theorem dX3_balanceOf_112 : decode cX3_balanceOf 112 = .ok (.iload 4, 2) := dk_21 4 (dk_at dksX3_balanceOf_4 19 rfl rfl)
theorem dX3_balanceOf_114 : decode cX3_balanceOf 114 = .ok (.iaload, 1) := dk_46 (dk_at dksX3_balanceOf_4 21 rfl rfl)
theorem dX3_balanceOf_115 : decode cX3_balanceOf 115 = .ok (.goto 4, 3) := dk_167 0 4 (dk_at dksX3_balanceOf_5 0 rfl rfl)
theorem dX3_balanceOf_118 : decode cX3_balanceOf 118 = .ok (.iconst 0, 1) := dk_3 (dk_at dksX3_balanceOf_5 3 rfl rfl)
theorem dX3_balanceOf_119 : decode cX3_balanceOf 119 = .ok (.isub, 1) := dk_100 (dk_at dksX3_balanceOf_5 4 rfl rfl)
theorem dX3_balanceOf_120 : decode cX3_balanceOf 120 = .ok (.istore_n 3, 1) := dk_62 (dk_at dksX3_balanceOf_5 5 rfl rfl)
theorem dX3_balanceOf_121 : decode cX3_balanceOf 121 = .ok (.iinc 4 1, 3) := dk_132 4 1 (dk_at dksX3_balanceOf_5 6 rfl rfl)
theorem dX3_balanceOf_124 : decode cX3_balanceOf 124 = .ok (.goto (-88), 3) := dk_167 255 168 (dk_at dksX3_balanceOf_5 9 rfl rfl)
theorem dX3_balanceOf_127 : decode cX3_balanceOf 127 = .ok (.iload_n 3, 1) := dk_29 (dk_at dksX3_balanceOf_5 12 rfl rfl)
theorem dX3_balanceOf_128 : decode cX3_balanceOf 128 = .ok (.ireturn, 1) := dk_172 (dk_at dksX3_balanceOf_5 13 rfl rfl)
abbrev cX3_isUnder : ByteArray := prog_13_method_14_code
def yX3_isUnder : MethodName := ⟨RX3, "isUnder", "(II)Z"⟩
def dkwX3_isUnder_1 : List UInt8 := [160, 0, 7, 4, 167, 0, 4, 3, 172]
abbrev dktX3_isUnder_1 : List UInt8 := dkwX3_isUnder_1 ++ []
def dkwX3_isUnder_0 : List UInt8 := [27, 62, 29, 2, 159, 0, 18, 29, 28, 159, 0, 13, 42, 180, 0, 13, 29, 46, 62, 167, 255, 239, 29, 28]
abbrev dktX3_isUnder_0 : List UInt8 := dkwX3_isUnder_0 ++ dktX3_isUnder_1
theorem dksX3_isUnder_0 : cX3_isUnder.data.toList.drop 0 = dktX3_isUnder_0 := by decide +kernel
theorem dksX3_isUnder_1 : cX3_isUnder.data.toList.drop 24 = dktX3_isUnder_1 := dk_seg dksX3_isUnder_0 24 rfl rfl
theorem dX3_isUnder_0 : decode cX3_isUnder 0 = .ok (.iload_n 1, 1) := dk_27 (dk_at dksX3_isUnder_0 0 rfl rfl)
theorem dX3_isUnder_1 : decode cX3_isUnder 1 = .ok (.istore_n 3, 1) := dk_62 (dk_at dksX3_isUnder_0 1 rfl rfl)
theorem dX3_isUnder_2 : decode cX3_isUnder 2 = .ok (.iload_n 3, 1) := dk_29 (dk_at dksX3_isUnder_0 2 rfl rfl)
theorem dX3_isUnder_3 : decode cX3_isUnder 3 = .ok (.iconst (-1), 1) := dk_2 (dk_at dksX3_isUnder_0 3 rfl rfl)
theorem dX3_isUnder_4 : decode cX3_isUnder 4 = .ok (.if_icmp .eq 18, 3) := dk_159 0 18 (dk_at dksX3_isUnder_0 4 rfl rfl)
theorem dX3_isUnder_7 : decode cX3_isUnder 7 = .ok (.iload_n 3, 1) := dk_29 (dk_at dksX3_isUnder_0 7 rfl rfl)
theorem dX3_isUnder_8 : decode cX3_isUnder 8 = .ok (.iload_n 2, 1) := dk_28 (dk_at dksX3_isUnder_0 8 rfl rfl)
theorem dX3_isUnder_9 : decode cX3_isUnder 9 = .ok (.if_icmp .eq 13, 3) := dk_159 0 13 (dk_at dksX3_isUnder_0 9 rfl rfl)
theorem dX3_isUnder_12 : decode cX3_isUnder 12 = .ok (.aload_n 0, 1) := dk_42 (dk_at dksX3_isUnder_0 12 rfl rfl)
theorem dX3_isUnder_13 : decode cX3_isUnder 13 = .ok (.getfield 13, 3) := dk_180 0 13 (dk_at dksX3_isUnder_0 13 rfl rfl)
theorem dX3_isUnder_16 : decode cX3_isUnder 16 = .ok (.iload_n 3, 1) := dk_29 (dk_at dksX3_isUnder_0 16 rfl rfl)
theorem dX3_isUnder_17 : decode cX3_isUnder 17 = .ok (.iaload, 1) := dk_46 (dk_at dksX3_isUnder_0 17 rfl rfl)
theorem dX3_isUnder_18 : decode cX3_isUnder 18 = .ok (.istore_n 3, 1) := dk_62 (dk_at dksX3_isUnder_0 18 rfl rfl)
theorem dX3_isUnder_19 : decode cX3_isUnder 19 = .ok (.goto (-17), 3) := dk_167 255 239 (dk_at dksX3_isUnder_0 19 rfl rfl)
theorem dX3_isUnder_22 : decode cX3_isUnder 22 = .ok (.iload_n 3, 1) := dk_29 (dk_at dksX3_isUnder_0 22 rfl rfl)
theorem dX3_isUnder_23 : decode cX3_isUnder 23 = .ok (.iload_n 2, 1) := dk_28 (dk_at dksX3_isUnder_0 23 rfl rfl)
theorem dX3_isUnder_24 : decode cX3_isUnder 24 = .ok (.if_icmp .ne 7, 3) := dk_160 0 7 (dk_at dksX3_isUnder_1 0 rfl rfl)
theorem dX3_isUnder_27 : decode cX3_isUnder 27 = .ok (.iconst 1, 1) := dk_4 (dk_at dksX3_isUnder_1 3 rfl rfl)
theorem dX3_isUnder_28 : decode cX3_isUnder 28 = .ok (.goto 4, 3) := dk_167 0 4 (dk_at dksX3_isUnder_1 4 rfl rfl)
theorem dX3_isUnder_31 : decode cX3_isUnder 31 = .ok (.iconst 0, 1) := dk_3 (dk_at dksX3_isUnder_1 7 rfl rfl)
theorem dX3_isUnder_32 : decode cX3_isUnder 32 = .ok (.ireturn, 1) := dk_172 (dk_at dksX3_isUnder_1 8 rfl rfl)
abbrev cX3_balanceByEntries : ByteArray := prog_13_method_17_code
def yX3_balanceByEntries : MethodName := ⟨RX3, "balanceByEntries", "(II)I"⟩
def dkwX3_balanceByEntries_0 : List UInt8 := [42, 27, 28, 182, 0, 109, 172]
abbrev dktX3_balanceByEntries_0 : List UInt8 := dkwX3_balanceByEntries_0 ++ []
theorem dksX3_balanceByEntries_0 : cX3_balanceByEntries.data.toList.drop 0 = dktX3_balanceByEntries_0 := by decide +kernel
theorem dX3_balanceByEntries_0 : decode cX3_balanceByEntries 0 = .ok (.aload_n 0, 1) := dk_42 (dk_at dksX3_balanceByEntries_0 0 rfl rfl)
theorem dX3_balanceByEntries_1 : decode cX3_balanceByEntries 1 = .ok (.iload_n 1, 1) := dk_27 (dk_at dksX3_balanceByEntries_0 1 rfl rfl)
theorem dX3_balanceByEntries_2 : decode cX3_balanceByEntries 2 = .ok (.iload_n 2, 1) := dk_28 (dk_at dksX3_balanceByEntries_0 2 rfl rfl)
theorem dX3_balanceByEntries_3 : decode cX3_balanceByEntries 3 = .ok (.invokevirtual 109, 3) := dk_182 0 109 (dk_at dksX3_balanceByEntries_0 3 rfl rfl)
theorem dX3_balanceByEntries_6 : decode cX3_balanceByEntries 6 = .ok (.ireturn, 1) := dk_172 (dk_at dksX3_balanceByEntries_0 6 rfl rfl)
abbrev cX3_grant : ByteArray := prog_13_method_18_code
def yX3_grant : MethodName := ⟨RX3, "grant", "(II)V"⟩
def dkwX3_grant_3 : List UInt8 := [79, 177]
abbrev dktX3_grant_3 : List UInt8 := dkwX3_grant_3 ++ []
def dkwX3_grant_2 : List UInt8 := [3, 181, 0, 83, 42, 180, 0, 83, 154, 0, 17, 42, 180, 0, 32, 27, 4, 79, 42, 180, 0, 35, 27, 28]
abbrev dktX3_grant_2 : List UInt8 := dkwX3_grant_2 ++ dktX3_grant_3
def dkwX3_grant_1 : List UInt8 := [184, 0, 86, 154, 0, 7, 5, 167, 0, 18, 42, 180, 0, 32, 27, 46, 4, 160, 0, 7, 6, 167, 0, 4]
abbrev dktX3_grant_1 : List UInt8 := dkwX3_grant_1 ++ dktX3_grant_2
def dkwX3_grant_0 : List UInt8 := [42, 42, 27, 182, 0, 90, 154, 0, 7, 4, 167, 0, 37, 27, 5, 161, 0, 13, 28, 3, 18, 100]
abbrev dktX3_grant_0 : List UInt8 := dkwX3_grant_0 ++ dktX3_grant_1
theorem dksX3_grant_0 : cX3_grant.data.toList.drop 0 = dktX3_grant_0 := by decide +kernel
theorem dksX3_grant_1 : cX3_grant.data.toList.drop 22 = dktX3_grant_1 := dk_seg dksX3_grant_0 22 rfl rfl
theorem dksX3_grant_2 : cX3_grant.data.toList.drop 46 = dktX3_grant_2 := dk_seg dksX3_grant_1 24 rfl rfl
theorem dksX3_grant_3 : cX3_grant.data.toList.drop 70 = dktX3_grant_3 := dk_seg dksX3_grant_2 24 rfl rfl
theorem dX3_grant_0 : decode cX3_grant 0 = .ok (.aload_n 0, 1) := dk_42 (dk_at dksX3_grant_0 0 rfl rfl)
theorem dX3_grant_1 : decode cX3_grant 1 = .ok (.aload_n 0, 1) := dk_42 (dk_at dksX3_grant_0 1 rfl rfl)
theorem dX3_grant_2 : decode cX3_grant 2 = .ok (.iload_n 1, 1) := dk_27 (dk_at dksX3_grant_0 2 rfl rfl)
theorem dX3_grant_3 : decode cX3_grant 3 = .ok (.invokevirtual 90, 3) := dk_182 0 90 (dk_at dksX3_grant_0 3 rfl rfl)
theorem dX3_grant_6 : decode cX3_grant 6 = .ok (.ifCond .ne 7, 3) := dk_154 0 7 (dk_at dksX3_grant_0 6 rfl rfl)
theorem dX3_grant_9 : decode cX3_grant 9 = .ok (.iconst 1, 1) := dk_4 (dk_at dksX3_grant_0 9 rfl rfl)
theorem dX3_grant_10 : decode cX3_grant 10 = .ok (.goto 37, 3) := dk_167 0 37 (dk_at dksX3_grant_0 10 rfl rfl)
theorem dX3_grant_13 : decode cX3_grant 13 = .ok (.iload_n 1, 1) := dk_27 (dk_at dksX3_grant_0 13 rfl rfl)
theorem dX3_grant_14 : decode cX3_grant 14 = .ok (.iconst 2, 1) := dk_5 (dk_at dksX3_grant_0 14 rfl rfl)
theorem dX3_grant_15 : decode cX3_grant 15 = .ok (.if_icmp .lt 13, 3) := dk_161 0 13 (dk_at dksX3_grant_0 15 rfl rfl)
theorem dX3_grant_18 : decode cX3_grant 18 = .ok (.iload_n 2, 1) := dk_28 (dk_at dksX3_grant_0 18 rfl rfl)
theorem dX3_grant_19 : decode cX3_grant 19 = .ok (.iconst 0, 1) := dk_3 (dk_at dksX3_grant_0 19 rfl rfl)
theorem dX3_grant_20 : decode cX3_grant 20 = .ok (.ldc 100, 2) := dk_18 100 (dk_at dksX3_grant_0 20 rfl rfl)
theorem dX3_grant_22 : decode cX3_grant 22 = .ok (.invokestatic 86, 3) := dk_184 0 86 (dk_at dksX3_grant_1 0 rfl rfl)
theorem dX3_grant_25 : decode cX3_grant 25 = .ok (.ifCond .ne 7, 3) := dk_154 0 7 (dk_at dksX3_grant_1 3 rfl rfl)
theorem dX3_grant_28 : decode cX3_grant 28 = .ok (.iconst 2, 1) := dk_5 (dk_at dksX3_grant_1 6 rfl rfl)
theorem dX3_grant_29 : decode cX3_grant 29 = .ok (.goto 18, 3) := dk_167 0 18 (dk_at dksX3_grant_1 7 rfl rfl)
theorem dX3_grant_32 : decode cX3_grant 32 = .ok (.aload_n 0, 1) := dk_42 (dk_at dksX3_grant_1 10 rfl rfl)
theorem dX3_grant_33 : decode cX3_grant 33 = .ok (.getfield 32, 3) := dk_180 0 32 (dk_at dksX3_grant_1 11 rfl rfl)
theorem dX3_grant_36 : decode cX3_grant 36 = .ok (.iload_n 1, 1) := dk_27 (dk_at dksX3_grant_1 14 rfl rfl)
theorem dX3_grant_37 : decode cX3_grant 37 = .ok (.iaload, 1) := dk_46 (dk_at dksX3_grant_1 15 rfl rfl)
theorem dX3_grant_38 : decode cX3_grant 38 = .ok (.iconst 1, 1) := dk_4 (dk_at dksX3_grant_1 16 rfl rfl)
theorem dX3_grant_39 : decode cX3_grant 39 = .ok (.if_icmp .ne 7, 3) := dk_160 0 7 (dk_at dksX3_grant_1 17 rfl rfl)
theorem dX3_grant_42 : decode cX3_grant 42 = .ok (.iconst 3, 1) := dk_6 (dk_at dksX3_grant_1 20 rfl rfl)
theorem dX3_grant_43 : decode cX3_grant 43 = .ok (.goto 4, 3) := dk_167 0 4 (dk_at dksX3_grant_1 21 rfl rfl)
theorem dX3_grant_46 : decode cX3_grant 46 = .ok (.iconst 0, 1) := dk_3 (dk_at dksX3_grant_2 0 rfl rfl)
theorem dX3_grant_47 : decode cX3_grant 47 = .ok (.putfield 83, 3) := dk_181 0 83 (dk_at dksX3_grant_2 1 rfl rfl)
theorem dX3_grant_50 : decode cX3_grant 50 = .ok (.aload_n 0, 1) := dk_42 (dk_at dksX3_grant_2 4 rfl rfl)
theorem dX3_grant_51 : decode cX3_grant 51 = .ok (.getfield 83, 3) := dk_180 0 83 (dk_at dksX3_grant_2 5 rfl rfl)
theorem dX3_grant_54 : decode cX3_grant 54 = .ok (.ifCond .ne 17, 3) := dk_154 0 17 (dk_at dksX3_grant_2 8 rfl rfl)
theorem dX3_grant_57 : decode cX3_grant 57 = .ok (.aload_n 0, 1) := dk_42 (dk_at dksX3_grant_2 11 rfl rfl)
theorem dX3_grant_58 : decode cX3_grant 58 = .ok (.getfield 32, 3) := dk_180 0 32 (dk_at dksX3_grant_2 12 rfl rfl)
theorem dX3_grant_61 : decode cX3_grant 61 = .ok (.iload_n 1, 1) := dk_27 (dk_at dksX3_grant_2 15 rfl rfl)
theorem dX3_grant_62 : decode cX3_grant 62 = .ok (.iconst 1, 1) := dk_4 (dk_at dksX3_grant_2 16 rfl rfl)
theorem dX3_grant_63 : decode cX3_grant 63 = .ok (.iastore, 1) := dk_79 (dk_at dksX3_grant_2 17 rfl rfl)
theorem dX3_grant_64 : decode cX3_grant 64 = .ok (.aload_n 0, 1) := dk_42 (dk_at dksX3_grant_2 18 rfl rfl)
theorem dX3_grant_65 : decode cX3_grant 65 = .ok (.getfield 35, 3) := dk_180 0 35 (dk_at dksX3_grant_2 19 rfl rfl)
theorem dX3_grant_68 : decode cX3_grant 68 = .ok (.iload_n 1, 1) := dk_27 (dk_at dksX3_grant_2 22 rfl rfl)
theorem dX3_grant_69 : decode cX3_grant 69 = .ok (.iload_n 2, 1) := dk_28 (dk_at dksX3_grant_2 23 rfl rfl)
theorem dX3_grant_70 : decode cX3_grant 70 = .ok (.iastore, 1) := dk_79 (dk_at dksX3_grant_3 0 rfl rfl)
theorem dX3_grant_71 : decode cX3_grant 71 = .ok (.return_, 1) := dk_177 (dk_at dksX3_grant_3 1 rfl rfl)
abbrev cX3_amend : ByteArray := prog_13_method_20_code
def yX3_amend : MethodName := ⟨RX3, "amend", "(IIIZ)I"⟩
def dkwX3_amend_7 : List UInt8 := [42, 27, 182, 0, 113, 172]
abbrev dktX3_amend_7 : List UInt8 := dkwX3_amend_7 ++ []
def dkwX3_amend_6 : List UInt8 := [92, 46, 29, 96, 79, 42, 180, 0, 41, 27, 92, 46, 21, 4, 153, 0, 7, 3, 167, 0, 4, 29, 96, 79]
abbrev dktX3_amend_6 : List UInt8 := dkwX3_amend_6 ++ dktX3_amend_7
def dkwX3_amend_5 : List UInt8 := [154, 0, 9, 42, 6, 182, 0, 117, 172, 42, 180, 0, 38, 27, 92, 46, 29, 100, 79, 42, 180, 0, 38, 28]
abbrev dktX3_amend_5 : List UInt8 := dkwX3_amend_5 ++ dktX3_amend_6
def dkwX3_amend_4 : List UInt8 := [153, 0, 26, 42, 180, 0, 32, 28, 46, 153, 0, 17, 42, 27, 182, 0, 113, 29, 161, 0, 8, 21, 5]
abbrev dktX3_amend_4 : List UInt8 := dkwX3_amend_4 ++ dktX3_amend_5
def dkwX3_amend_3 : List UInt8 := [180, 0, 35, 27, 46, 16, 10, 108, 163, 0, 7, 4, 167, 0, 4, 3, 54, 5, 42, 180, 0, 32, 27, 46]
abbrev dktX3_amend_3 : List UInt8 := dkwX3_amend_3 ++ dktX3_amend_4
def dkwX3_amend_2 : List UInt8 := [180, 0, 83, 158, 0, 5, 3, 172, 21, 4, 154, 0, 23, 42, 180, 0, 41, 27, 46, 29, 96, 42]
abbrev dktX3_amend_2 : List UInt8 := dkwX3_amend_2 ++ dktX3_amend_3
def dkwX3_amend_1 : List UInt8 := [18, 100, 184, 0, 86, 153, 0, 8, 27, 28, 160, 0, 7, 5, 167, 0, 4, 3, 181, 0, 83, 42]
abbrev dktX3_amend_1 : List UInt8 := dkwX3_amend_1 ++ dktX3_amend_2
def dkwX3_amend_0 : List UInt8 := [42, 42, 27, 182, 0, 90, 153, 0, 11, 42, 28, 182, 0, 90, 154, 0, 7, 4, 167, 0, 23, 29, 4]
abbrev dktX3_amend_0 : List UInt8 := dkwX3_amend_0 ++ dktX3_amend_1
theorem dksX3_amend_0 : cX3_amend.data.toList.drop 0 = dktX3_amend_0 := by decide +kernel
theorem dksX3_amend_1 : cX3_amend.data.toList.drop 23 = dktX3_amend_1 := dk_seg dksX3_amend_0 23 rfl rfl
theorem dksX3_amend_2 : cX3_amend.data.toList.drop 45 = dktX3_amend_2 := dk_seg dksX3_amend_1 22 rfl rfl
theorem dksX3_amend_3 : cX3_amend.data.toList.drop 67 = dktX3_amend_3 := dk_seg dksX3_amend_2 22 rfl rfl
theorem dksX3_amend_4 : cX3_amend.data.toList.drop 91 = dktX3_amend_4 := dk_seg dksX3_amend_3 24 rfl rfl
theorem dksX3_amend_5 : cX3_amend.data.toList.drop 114 = dktX3_amend_5 := dk_seg dksX3_amend_4 23 rfl rfl
theorem dksX3_amend_6 : cX3_amend.data.toList.drop 138 = dktX3_amend_6 := dk_seg dksX3_amend_5 24 rfl rfl
theorem dksX3_amend_7 : cX3_amend.data.toList.drop 162 = dktX3_amend_7 := dk_seg dksX3_amend_6 24 rfl rfl
theorem dX3_amend_0 : decode cX3_amend 0 = .ok (.aload_n 0, 1) := dk_42 (dk_at dksX3_amend_0 0 rfl rfl)
theorem dX3_amend_1 : decode cX3_amend 1 = .ok (.aload_n 0, 1) := dk_42 (dk_at dksX3_amend_0 1 rfl rfl)
theorem dX3_amend_2 : decode cX3_amend 2 = .ok (.iload_n 1, 1) := dk_27 (dk_at dksX3_amend_0 2 rfl rfl)
theorem dX3_amend_3 : decode cX3_amend 3 = .ok (.invokevirtual 90, 3) := dk_182 0 90 (dk_at dksX3_amend_0 3 rfl rfl)
theorem dX3_amend_6 : decode cX3_amend 6 = .ok (.ifCond .eq 11, 3) := dk_153 0 11 (dk_at dksX3_amend_0 6 rfl rfl)
theorem dX3_amend_9 : decode cX3_amend 9 = .ok (.aload_n 0, 1) := dk_42 (dk_at dksX3_amend_0 9 rfl rfl)
theorem dX3_amend_10 : decode cX3_amend 10 = .ok (.iload_n 2, 1) := dk_28 (dk_at dksX3_amend_0 10 rfl rfl)
theorem dX3_amend_11 : decode cX3_amend 11 = .ok (.invokevirtual 90, 3) := dk_182 0 90 (dk_at dksX3_amend_0 11 rfl rfl)
theorem dX3_amend_14 : decode cX3_amend 14 = .ok (.ifCond .ne 7, 3) := dk_154 0 7 (dk_at dksX3_amend_0 14 rfl rfl)
theorem dX3_amend_17 : decode cX3_amend 17 = .ok (.iconst 1, 1) := dk_4 (dk_at dksX3_amend_0 17 rfl rfl)
theorem dX3_amend_18 : decode cX3_amend 18 = .ok (.goto 23, 3) := dk_167 0 23 (dk_at dksX3_amend_0 18 rfl rfl)
theorem dX3_amend_21 : decode cX3_amend 21 = .ok (.iload_n 3, 1) := dk_29 (dk_at dksX3_amend_0 21 rfl rfl)
theorem dX3_amend_22 : decode cX3_amend 22 = .ok (.iconst 1, 1) := dk_4 (dk_at dksX3_amend_0 22 rfl rfl)
theorem dX3_amend_23 : decode cX3_amend 23 = .ok (.ldc 100, 2) := dk_18 100 (dk_at dksX3_amend_1 0 rfl rfl)
theorem dX3_amend_25 : decode cX3_amend 25 = .ok (.invokestatic 86, 3) := dk_184 0 86 (dk_at dksX3_amend_1 2 rfl rfl)
theorem dX3_amend_28 : decode cX3_amend 28 = .ok (.ifCond .eq 8, 3) := dk_153 0 8 (dk_at dksX3_amend_1 5 rfl rfl)
theorem dX3_amend_31 : decode cX3_amend 31 = .ok (.iload_n 1, 1) := dk_27 (dk_at dksX3_amend_1 8 rfl rfl)
theorem dX3_amend_32 : decode cX3_amend 32 = .ok (.iload_n 2, 1) := dk_28 (dk_at dksX3_amend_1 9 rfl rfl)
theorem dX3_amend_33 : decode cX3_amend 33 = .ok (.if_icmp .ne 7, 3) := dk_160 0 7 (dk_at dksX3_amend_1 10 rfl rfl)
theorem dX3_amend_36 : decode cX3_amend 36 = .ok (.iconst 2, 1) := dk_5 (dk_at dksX3_amend_1 13 rfl rfl)
theorem dX3_amend_37 : decode cX3_amend 37 = .ok (.goto 4, 3) := dk_167 0 4 (dk_at dksX3_amend_1 14 rfl rfl)
theorem dX3_amend_40 : decode cX3_amend 40 = .ok (.iconst 0, 1) := dk_3 (dk_at dksX3_amend_1 17 rfl rfl)
theorem dX3_amend_41 : decode cX3_amend 41 = .ok (.putfield 83, 3) := dk_181 0 83 (dk_at dksX3_amend_1 18 rfl rfl)
theorem dX3_amend_44 : decode cX3_amend 44 = .ok (.aload_n 0, 1) := dk_42 (dk_at dksX3_amend_1 21 rfl rfl)
theorem dX3_amend_45 : decode cX3_amend 45 = .ok (.getfield 83, 3) := dk_180 0 83 (dk_at dksX3_amend_2 0 rfl rfl)
theorem dX3_amend_48 : decode cX3_amend 48 = .ok (.ifCond .le 5, 3) := dk_158 0 5 (dk_at dksX3_amend_2 3 rfl rfl)
theorem dX3_amend_51 : decode cX3_amend 51 = .ok (.iconst 0, 1) := dk_3 (dk_at dksX3_amend_2 6 rfl rfl)
theorem dX3_amend_52 : decode cX3_amend 52 = .ok (.ireturn, 1) := dk_172 (dk_at dksX3_amend_2 7 rfl rfl)
theorem dX3_amend_53 : decode cX3_amend 53 = .ok (.iload 4, 2) := dk_21 4 (dk_at dksX3_amend_2 8 rfl rfl)
theorem dX3_amend_55 : decode cX3_amend 55 = .ok (.ifCond .ne 23, 3) := dk_154 0 23 (dk_at dksX3_amend_2 10 rfl rfl)
theorem dX3_amend_58 : decode cX3_amend 58 = .ok (.aload_n 0, 1) := dk_42 (dk_at dksX3_amend_2 13 rfl rfl)
theorem dX3_amend_59 : decode cX3_amend 59 = .ok (.getfield 41, 3) := dk_180 0 41 (dk_at dksX3_amend_2 14 rfl rfl)
theorem dX3_amend_62 : decode cX3_amend 62 = .ok (.iload_n 1, 1) := dk_27 (dk_at dksX3_amend_2 17 rfl rfl)
theorem dX3_amend_63 : decode cX3_amend 63 = .ok (.iaload, 1) := dk_46 (dk_at dksX3_amend_2 18 rfl rfl)
theorem dX3_amend_64 : decode cX3_amend 64 = .ok (.iload_n 3, 1) := dk_29 (dk_at dksX3_amend_2 19 rfl rfl)
theorem dX3_amend_65 : decode cX3_amend 65 = .ok (.iadd, 1) := dk_96 (dk_at dksX3_amend_2 20 rfl rfl)
theorem dX3_amend_66 : decode cX3_amend 66 = .ok (.aload_n 0, 1) := dk_42 (dk_at dksX3_amend_2 21 rfl rfl)
theorem dX3_amend_67 : decode cX3_amend 67 = .ok (.getfield 35, 3) := dk_180 0 35 (dk_at dksX3_amend_3 0 rfl rfl)
theorem dX3_amend_70 : decode cX3_amend 70 = .ok (.iload_n 1, 1) := dk_27 (dk_at dksX3_amend_3 3 rfl rfl)
theorem dX3_amend_71 : decode cX3_amend 71 = .ok (.iaload, 1) := dk_46 (dk_at dksX3_amend_3 4 rfl rfl)
theorem dX3_amend_72 : decode cX3_amend 72 = .ok (.bipush 10, 2) := dk_16 10 (dk_at dksX3_amend_3 5 rfl rfl)
theorem dX3_amend_74 : decode cX3_amend 74 = .ok (.idiv, 1) := dk_108 (dk_at dksX3_amend_3 7 rfl rfl)
theorem dX3_amend_75 : decode cX3_amend 75 = .ok (.if_icmp .gt 7, 3) := dk_163 0 7 (dk_at dksX3_amend_3 8 rfl rfl)
theorem dX3_amend_78 : decode cX3_amend 78 = .ok (.iconst 1, 1) := dk_4 (dk_at dksX3_amend_3 11 rfl rfl)
theorem dX3_amend_79 : decode cX3_amend 79 = .ok (.goto 4, 3) := dk_167 0 4 (dk_at dksX3_amend_3 12 rfl rfl)
theorem dX3_amend_82 : decode cX3_amend 82 = .ok (.iconst 0, 1) := dk_3 (dk_at dksX3_amend_3 15 rfl rfl)
theorem dX3_amend_83 : decode cX3_amend 83 = .ok (.istore 5, 2) := dk_54 5 (dk_at dksX3_amend_3 16 rfl rfl)
theorem dX3_amend_85 : decode cX3_amend 85 = .ok (.aload_n 0, 1) := dk_42 (dk_at dksX3_amend_3 18 rfl rfl)
theorem dX3_amend_86 : decode cX3_amend 86 = .ok (.getfield 32, 3) := dk_180 0 32 (dk_at dksX3_amend_3 19 rfl rfl)
theorem dX3_amend_89 : decode cX3_amend 89 = .ok (.iload_n 1, 1) := dk_27 (dk_at dksX3_amend_3 22 rfl rfl)
theorem dX3_amend_90 : decode cX3_amend 90 = .ok (.iaload, 1) := dk_46 (dk_at dksX3_amend_3 23 rfl rfl)
theorem dX3_amend_91 : decode cX3_amend 91 = .ok (.ifCond .eq 26, 3) := dk_153 0 26 (dk_at dksX3_amend_4 0 rfl rfl)
theorem dX3_amend_94 : decode cX3_amend 94 = .ok (.aload_n 0, 1) := dk_42 (dk_at dksX3_amend_4 3 rfl rfl)
theorem dX3_amend_95 : decode cX3_amend 95 = .ok (.getfield 32, 3) := dk_180 0 32 (dk_at dksX3_amend_4 4 rfl rfl)
theorem dX3_amend_98 : decode cX3_amend 98 = .ok (.iload_n 2, 1) := dk_28 (dk_at dksX3_amend_4 7 rfl rfl)
theorem dX3_amend_99 : decode cX3_amend 99 = .ok (.iaload, 1) := dk_46 (dk_at dksX3_amend_4 8 rfl rfl)
theorem dX3_amend_100 : decode cX3_amend 100 = .ok (.ifCond .eq 17, 3) := dk_153 0 17 (dk_at dksX3_amend_4 9 rfl rfl)
theorem dX3_amend_103 : decode cX3_amend 103 = .ok (.aload_n 0, 1) := dk_42 (dk_at dksX3_amend_4 12 rfl rfl)
theorem dX3_amend_104 : decode cX3_amend 104 = .ok (.iload_n 1, 1) := dk_27 (dk_at dksX3_amend_4 13 rfl rfl)
theorem dX3_amend_105 : decode cX3_amend 105 = .ok (.invokevirtual 113, 3) := dk_182 0 113 (dk_at dksX3_amend_4 14 rfl rfl)
theorem dX3_amend_108 : decode cX3_amend 108 = .ok (.iload_n 3, 1) := dk_29 (dk_at dksX3_amend_4 17 rfl rfl)
theorem dX3_amend_109 : decode cX3_amend 109 = .ok (.if_icmp .lt 8, 3) := dk_161 0 8 (dk_at dksX3_amend_4 18 rfl rfl)
theorem dX3_amend_112 : decode cX3_amend 112 = .ok (.iload 5, 2) := dk_21 5 (dk_at dksX3_amend_4 21 rfl rfl)
theorem dX3_amend_114 : decode cX3_amend 114 = .ok (.ifCond .ne 9, 3) := dk_154 0 9 (dk_at dksX3_amend_5 0 rfl rfl)
theorem dX3_amend_117 : decode cX3_amend 117 = .ok (.aload_n 0, 1) := dk_42 (dk_at dksX3_amend_5 3 rfl rfl)
theorem dX3_amend_118 : decode cX3_amend 118 = .ok (.iconst 3, 1) := dk_6 (dk_at dksX3_amend_5 4 rfl rfl)
theorem dX3_amend_119 : decode cX3_amend 119 = .ok (.invokevirtual 117, 3) := dk_182 0 117 (dk_at dksX3_amend_5 5 rfl rfl)
theorem dX3_amend_122 : decode cX3_amend 122 = .ok (.ireturn, 1) := dk_172 (dk_at dksX3_amend_5 8 rfl rfl)
theorem dX3_amend_123 : decode cX3_amend 123 = .ok (.aload_n 0, 1) := dk_42 (dk_at dksX3_amend_5 9 rfl rfl)
theorem dX3_amend_124 : decode cX3_amend 124 = .ok (.getfield 38, 3) := dk_180 0 38 (dk_at dksX3_amend_5 10 rfl rfl)
theorem dX3_amend_127 : decode cX3_amend 127 = .ok (.iload_n 1, 1) := dk_27 (dk_at dksX3_amend_5 13 rfl rfl)
theorem dX3_amend_128 : decode cX3_amend 128 = .ok (.dup2, 1) := dk_92 (dk_at dksX3_amend_5 14 rfl rfl)
theorem dX3_amend_129 : decode cX3_amend 129 = .ok (.iaload, 1) := dk_46 (dk_at dksX3_amend_5 15 rfl rfl)
theorem dX3_amend_130 : decode cX3_amend 130 = .ok (.iload_n 3, 1) := dk_29 (dk_at dksX3_amend_5 16 rfl rfl)
theorem dX3_amend_131 : decode cX3_amend 131 = .ok (.isub, 1) := dk_100 (dk_at dksX3_amend_5 17 rfl rfl)
theorem dX3_amend_132 : decode cX3_amend 132 = .ok (.iastore, 1) := dk_79 (dk_at dksX3_amend_5 18 rfl rfl)
theorem dX3_amend_133 : decode cX3_amend 133 = .ok (.aload_n 0, 1) := dk_42 (dk_at dksX3_amend_5 19 rfl rfl)
theorem dX3_amend_134 : decode cX3_amend 134 = .ok (.getfield 38, 3) := dk_180 0 38 (dk_at dksX3_amend_5 20 rfl rfl)
theorem dX3_amend_137 : decode cX3_amend 137 = .ok (.iload_n 2, 1) := dk_28 (dk_at dksX3_amend_5 23 rfl rfl)
theorem dX3_amend_138 : decode cX3_amend 138 = .ok (.dup2, 1) := dk_92 (dk_at dksX3_amend_6 0 rfl rfl)
theorem dX3_amend_139 : decode cX3_amend 139 = .ok (.iaload, 1) := dk_46 (dk_at dksX3_amend_6 1 rfl rfl)
theorem dX3_amend_140 : decode cX3_amend 140 = .ok (.iload_n 3, 1) := dk_29 (dk_at dksX3_amend_6 2 rfl rfl)
theorem dX3_amend_141 : decode cX3_amend 141 = .ok (.iadd, 1) := dk_96 (dk_at dksX3_amend_6 3 rfl rfl)
theorem dX3_amend_142 : decode cX3_amend 142 = .ok (.iastore, 1) := dk_79 (dk_at dksX3_amend_6 4 rfl rfl)
theorem dX3_amend_143 : decode cX3_amend 143 = .ok (.aload_n 0, 1) := dk_42 (dk_at dksX3_amend_6 5 rfl rfl)
theorem dX3_amend_144 : decode cX3_amend 144 = .ok (.getfield 41, 3) := dk_180 0 41 (dk_at dksX3_amend_6 6 rfl rfl)
theorem dX3_amend_147 : decode cX3_amend 147 = .ok (.iload_n 1, 1) := dk_27 (dk_at dksX3_amend_6 9 rfl rfl)
theorem dX3_amend_148 : decode cX3_amend 148 = .ok (.dup2, 1) := dk_92 (dk_at dksX3_amend_6 10 rfl rfl)
theorem dX3_amend_149 : decode cX3_amend 149 = .ok (.iaload, 1) := dk_46 (dk_at dksX3_amend_6 11 rfl rfl)
theorem dX3_amend_150 : decode cX3_amend 150 = .ok (.iload 4, 2) := dk_21 4 (dk_at dksX3_amend_6 12 rfl rfl)
theorem dX3_amend_152 : decode cX3_amend 152 = .ok (.ifCond .eq 7, 3) := dk_153 0 7 (dk_at dksX3_amend_6 14 rfl rfl)
theorem dX3_amend_155 : decode cX3_amend 155 = .ok (.iconst 0, 1) := dk_3 (dk_at dksX3_amend_6 17 rfl rfl)
theorem dX3_amend_156 : decode cX3_amend 156 = .ok (.goto 4, 3) := dk_167 0 4 (dk_at dksX3_amend_6 18 rfl rfl)
theorem dX3_amend_159 : decode cX3_amend 159 = .ok (.iload_n 3, 1) := dk_29 (dk_at dksX3_amend_6 21 rfl rfl)
theorem dX3_amend_160 : decode cX3_amend 160 = .ok (.iadd, 1) := dk_96 (dk_at dksX3_amend_6 22 rfl rfl)
theorem dX3_amend_161 : decode cX3_amend 161 = .ok (.iastore, 1) := dk_79 (dk_at dksX3_amend_6 23 rfl rfl)
theorem dX3_amend_162 : decode cX3_amend 162 = .ok (.aload_n 0, 1) := dk_42 (dk_at dksX3_amend_7 0 rfl rfl)
theorem dX3_amend_163 : decode cX3_amend 163 = .ok (.iload_n 1, 1) := dk_27 (dk_at dksX3_amend_7 1 rfl rfl)
theorem dX3_amend_164 : decode cX3_amend 164 = .ok (.invokevirtual 113, 3) := dk_182 0 113 (dk_at dksX3_amend_7 2 rfl rfl)
theorem dX3_amend_167 : decode cX3_amend 167 = .ok (.ireturn, 1) := dk_172 (dk_at dksX3_amend_7 5 rfl rfl)
abbrev cX3_leftOf : ByteArray := prog_13_method_19_code
def yX3_leftOf : MethodName := ⟨RX3, "leftOf", "(I)I"⟩
def dkwX3_leftOf_0 : List UInt8 := [42, 180, 0, 35, 27, 46, 42, 180, 0, 38, 27, 46, 96, 42, 180, 0, 44, 27, 46, 100, 172]
abbrev dktX3_leftOf_0 : List UInt8 := dkwX3_leftOf_0 ++ []
theorem dksX3_leftOf_0 : cX3_leftOf.data.toList.drop 0 = dktX3_leftOf_0 := by decide +kernel
theorem dX3_leftOf_0 : decode cX3_leftOf 0 = .ok (.aload_n 0, 1) := dk_42 (dk_at dksX3_leftOf_0 0 rfl rfl)
theorem dX3_leftOf_1 : decode cX3_leftOf 1 = .ok (.getfield 35, 3) := dk_180 0 35 (dk_at dksX3_leftOf_0 1 rfl rfl)
theorem dX3_leftOf_4 : decode cX3_leftOf 4 = .ok (.iload_n 1, 1) := dk_27 (dk_at dksX3_leftOf_0 4 rfl rfl)
theorem dX3_leftOf_5 : decode cX3_leftOf 5 = .ok (.iaload, 1) := dk_46 (dk_at dksX3_leftOf_0 5 rfl rfl)
theorem dX3_leftOf_6 : decode cX3_leftOf 6 = .ok (.aload_n 0, 1) := dk_42 (dk_at dksX3_leftOf_0 6 rfl rfl)
theorem dX3_leftOf_7 : decode cX3_leftOf 7 = .ok (.getfield 38, 3) := dk_180 0 38 (dk_at dksX3_leftOf_0 7 rfl rfl)
theorem dX3_leftOf_10 : decode cX3_leftOf 10 = .ok (.iload_n 1, 1) := dk_27 (dk_at dksX3_leftOf_0 10 rfl rfl)
theorem dX3_leftOf_11 : decode cX3_leftOf 11 = .ok (.iaload, 1) := dk_46 (dk_at dksX3_leftOf_0 11 rfl rfl)
theorem dX3_leftOf_12 : decode cX3_leftOf 12 = .ok (.iadd, 1) := dk_96 (dk_at dksX3_leftOf_0 12 rfl rfl)
theorem dX3_leftOf_13 : decode cX3_leftOf 13 = .ok (.aload_n 0, 1) := dk_42 (dk_at dksX3_leftOf_0 13 rfl rfl)
theorem dX3_leftOf_14 : decode cX3_leftOf 14 = .ok (.getfield 44, 3) := dk_180 0 44 (dk_at dksX3_leftOf_0 14 rfl rfl)
theorem dX3_leftOf_17 : decode cX3_leftOf 17 = .ok (.iload_n 1, 1) := dk_27 (dk_at dksX3_leftOf_0 17 rfl rfl)
theorem dX3_leftOf_18 : decode cX3_leftOf 18 = .ok (.iaload, 1) := dk_46 (dk_at dksX3_leftOf_0 18 rfl rfl)
theorem dX3_leftOf_19 : decode cX3_leftOf 19 = .ok (.isub, 1) := dk_100 (dk_at dksX3_leftOf_0 19 rfl rfl)
theorem dX3_leftOf_20 : decode cX3_leftOf 20 = .ok (.ireturn, 1) := dk_172 (dk_at dksX3_leftOf_0 20 rfl rfl)
abbrev cX3_fails : ByteArray := prog_13_method_3_code
def yX3_fails : MethodName := ⟨RX3, "fails", "(I)I"⟩
def dkwX3_fails_0 : List UInt8 := [42, 27, 181, 0, 83, 3, 172]
abbrev dktX3_fails_0 : List UInt8 := dkwX3_fails_0 ++ []
theorem dksX3_fails_0 : cX3_fails.data.toList.drop 0 = dktX3_fails_0 := by decide +kernel
theorem dX3_fails_0 : decode cX3_fails 0 = .ok (.aload_n 0, 1) := dk_42 (dk_at dksX3_fails_0 0 rfl rfl)
theorem dX3_fails_1 : decode cX3_fails 1 = .ok (.iload_n 1, 1) := dk_27 (dk_at dksX3_fails_0 1 rfl rfl)
theorem dX3_fails_2 : decode cX3_fails 2 = .ok (.putfield 83, 3) := dk_181 0 83 (dk_at dksX3_fails_0 2 rfl rfl)
theorem dX3_fails_5 : decode cX3_fails 5 = .ok (.iconst 0, 1) := dk_3 (dk_at dksX3_fails_0 5 rfl rfl)
theorem dX3_fails_6 : decode cX3_fails 6 = .ok (.ireturn, 1) := dk_172 (dk_at dksX3_fails_0 6 rfl rfl)
abbrev cX3_left : ByteArray := prog_13_method_21_code
def yX3_left : MethodName := ⟨RX3, "left", "(I)I"⟩
def dkwX3_left_1 : List UInt8 := [3, 172, 42, 180, 0, 32, 27, 46, 4, 160, 0, 11, 42, 27, 182, 0, 113, 167, 0, 4, 2, 172]
abbrev dktX3_left_1 : List UInt8 := dkwX3_left_1 ++ []
def dkwX3_left_0 : List UInt8 := [42, 42, 27, 182, 0, 90, 153, 0, 7, 3, 167, 0, 4, 4, 181, 0, 83, 42, 180, 0, 83, 158, 0, 5]
abbrev dktX3_left_0 : List UInt8 := dkwX3_left_0 ++ dktX3_left_1
theorem dksX3_left_0 : cX3_left.data.toList.drop 0 = dktX3_left_0 := by decide +kernel
theorem dksX3_left_1 : cX3_left.data.toList.drop 24 = dktX3_left_1 := dk_seg dksX3_left_0 24 rfl rfl
theorem dX3_left_0 : decode cX3_left 0 = .ok (.aload_n 0, 1) := dk_42 (dk_at dksX3_left_0 0 rfl rfl)
theorem dX3_left_1 : decode cX3_left 1 = .ok (.aload_n 0, 1) := dk_42 (dk_at dksX3_left_0 1 rfl rfl)
theorem dX3_left_2 : decode cX3_left 2 = .ok (.iload_n 1, 1) := dk_27 (dk_at dksX3_left_0 2 rfl rfl)
theorem dX3_left_3 : decode cX3_left 3 = .ok (.invokevirtual 90, 3) := dk_182 0 90 (dk_at dksX3_left_0 3 rfl rfl)
theorem dX3_left_6 : decode cX3_left 6 = .ok (.ifCond .eq 7, 3) := dk_153 0 7 (dk_at dksX3_left_0 6 rfl rfl)
theorem dX3_left_9 : decode cX3_left 9 = .ok (.iconst 0, 1) := dk_3 (dk_at dksX3_left_0 9 rfl rfl)
theorem dX3_left_10 : decode cX3_left 10 = .ok (.goto 4, 3) := dk_167 0 4 (dk_at dksX3_left_0 10 rfl rfl)
theorem dX3_left_13 : decode cX3_left 13 = .ok (.iconst 1, 1) := dk_4 (dk_at dksX3_left_0 13 rfl rfl)
theorem dX3_left_14 : decode cX3_left 14 = .ok (.putfield 83, 3) := dk_181 0 83 (dk_at dksX3_left_0 14 rfl rfl)
theorem dX3_left_17 : decode cX3_left 17 = .ok (.aload_n 0, 1) := dk_42 (dk_at dksX3_left_0 17 rfl rfl)
theorem dX3_left_18 : decode cX3_left 18 = .ok (.getfield 83, 3) := dk_180 0 83 (dk_at dksX3_left_0 18 rfl rfl)
theorem dX3_left_21 : decode cX3_left 21 = .ok (.ifCond .le 5, 3) := dk_158 0 5 (dk_at dksX3_left_0 21 rfl rfl)
theorem dX3_left_24 : decode cX3_left 24 = .ok (.iconst 0, 1) := dk_3 (dk_at dksX3_left_1 0 rfl rfl)
theorem dX3_left_25 : decode cX3_left 25 = .ok (.ireturn, 1) := dk_172 (dk_at dksX3_left_1 1 rfl rfl)
theorem dX3_left_26 : decode cX3_left 26 = .ok (.aload_n 0, 1) := dk_42 (dk_at dksX3_left_1 2 rfl rfl)
theorem dX3_left_27 : decode cX3_left 27 = .ok (.getfield 32, 3) := dk_180 0 32 (dk_at dksX3_left_1 3 rfl rfl)
theorem dX3_left_30 : decode cX3_left 30 = .ok (.iload_n 1, 1) := dk_27 (dk_at dksX3_left_1 6 rfl rfl)
theorem dX3_left_31 : decode cX3_left 31 = .ok (.iaload, 1) := dk_46 (dk_at dksX3_left_1 7 rfl rfl)
theorem dX3_left_32 : decode cX3_left 32 = .ok (.iconst 1, 1) := dk_4 (dk_at dksX3_left_1 8 rfl rfl)
theorem dX3_left_33 : decode cX3_left 33 = .ok (.if_icmp .ne 11, 3) := dk_160 0 11 (dk_at dksX3_left_1 9 rfl rfl)
theorem dX3_left_36 : decode cX3_left 36 = .ok (.aload_n 0, 1) := dk_42 (dk_at dksX3_left_1 12 rfl rfl)
theorem dX3_left_37 : decode cX3_left 37 = .ok (.iload_n 1, 1) := dk_27 (dk_at dksX3_left_1 13 rfl rfl)
theorem dX3_left_38 : decode cX3_left 38 = .ok (.invokevirtual 113, 3) := dk_182 0 113 (dk_at dksX3_left_1 14 rfl rfl)
theorem dX3_left_41 : decode cX3_left 41 = .ok (.goto 4, 3) := dk_167 0 4 (dk_at dksX3_left_1 17 rfl rfl)
theorem dX3_left_44 : decode cX3_left 44 = .ok (.iconst (-1), 1) := dk_2 (dk_at dksX3_left_1 20 rfl rfl)
theorem dX3_left_45 : decode cX3_left 45 = .ok (.ireturn, 1) := dk_172 (dk_at dksX3_left_1 21 rfl rfl)
abbrev cX3_setLimit : ByteArray := prog_13_method_22_code
def yX3_setLimit : MethodName := ⟨RX3, "setLimit", "(I)I"⟩
def dkwX3_setLimit_2 : List UInt8 := [167, 0, 4, 3, 172]
abbrev dktX3_setLimit_2 : List UInt8 := dkwX3_setLimit_2 ++ []
def dkwX3_setLimit_1 : List UInt8 := [42, 42, 180, 0, 83, 154, 0, 7, 27, 167, 0, 4, 28, 181, 0, 47, 42, 180, 0, 83, 154, 0, 7, 28]
abbrev dktX3_setLimit_1 : List UInt8 := dkwX3_setLimit_1 ++ dktX3_setLimit_2
def dkwX3_setLimit_0 : List UInt8 := [42, 27, 4, 18, 100, 184, 0, 86, 153, 0, 7, 3, 167, 0, 4, 4, 181, 0, 83, 42, 180, 0, 47, 61]
abbrev dktX3_setLimit_0 : List UInt8 := dkwX3_setLimit_0 ++ dktX3_setLimit_1
theorem dksX3_setLimit_0 : cX3_setLimit.data.toList.drop 0 = dktX3_setLimit_0 := by decide +kernel
theorem dksX3_setLimit_1 : cX3_setLimit.data.toList.drop 24 = dktX3_setLimit_1 := dk_seg dksX3_setLimit_0 24 rfl rfl
theorem dksX3_setLimit_2 : cX3_setLimit.data.toList.drop 48 = dktX3_setLimit_2 := dk_seg dksX3_setLimit_1 24 rfl rfl
theorem dX3_setLimit_0 : decode cX3_setLimit 0 = .ok (.aload_n 0, 1) := dk_42 (dk_at dksX3_setLimit_0 0 rfl rfl)
theorem dX3_setLimit_1 : decode cX3_setLimit 1 = .ok (.iload_n 1, 1) := dk_27 (dk_at dksX3_setLimit_0 1 rfl rfl)
theorem dX3_setLimit_2 : decode cX3_setLimit 2 = .ok (.iconst 1, 1) := dk_4 (dk_at dksX3_setLimit_0 2 rfl rfl)
theorem dX3_setLimit_3 : decode cX3_setLimit 3 = .ok (.ldc 100, 2) := dk_18 100 (dk_at dksX3_setLimit_0 3 rfl rfl)
theorem dX3_setLimit_5 : decode cX3_setLimit 5 = .ok (.invokestatic 86, 3) := dk_184 0 86 (dk_at dksX3_setLimit_0 5 rfl rfl)
theorem dX3_setLimit_8 : decode cX3_setLimit 8 = .ok (.ifCond .eq 7, 3) := dk_153 0 7 (dk_at dksX3_setLimit_0 8 rfl rfl)
theorem dX3_setLimit_11 : decode cX3_setLimit 11 = .ok (.iconst 0, 1) := dk_3 (dk_at dksX3_setLimit_0 11 rfl rfl)
theorem dX3_setLimit_12 : decode cX3_setLimit 12 = .ok (.goto 4, 3) := dk_167 0 4 (dk_at dksX3_setLimit_0 12 rfl rfl)
theorem dX3_setLimit_15 : decode cX3_setLimit 15 = .ok (.iconst 1, 1) := dk_4 (dk_at dksX3_setLimit_0 15 rfl rfl)
theorem dX3_setLimit_16 : decode cX3_setLimit 16 = .ok (.putfield 83, 3) := dk_181 0 83 (dk_at dksX3_setLimit_0 16 rfl rfl)
theorem dX3_setLimit_19 : decode cX3_setLimit 19 = .ok (.aload_n 0, 1) := dk_42 (dk_at dksX3_setLimit_0 19 rfl rfl)
theorem dX3_setLimit_20 : decode cX3_setLimit 20 = .ok (.getfield 47, 3) := dk_180 0 47 (dk_at dksX3_setLimit_0 20 rfl rfl)
theorem dX3_setLimit_23 : decode cX3_setLimit 23 = .ok (.istore_n 2, 1) := dk_61 (dk_at dksX3_setLimit_0 23 rfl rfl)
theorem dX3_setLimit_24 : decode cX3_setLimit 24 = .ok (.aload_n 0, 1) := dk_42 (dk_at dksX3_setLimit_1 0 rfl rfl)
theorem dX3_setLimit_25 : decode cX3_setLimit 25 = .ok (.aload_n 0, 1) := dk_42 (dk_at dksX3_setLimit_1 1 rfl rfl)
theorem dX3_setLimit_26 : decode cX3_setLimit 26 = .ok (.getfield 83, 3) := dk_180 0 83 (dk_at dksX3_setLimit_1 2 rfl rfl)
theorem dX3_setLimit_29 : decode cX3_setLimit 29 = .ok (.ifCond .ne 7, 3) := dk_154 0 7 (dk_at dksX3_setLimit_1 5 rfl rfl)
theorem dX3_setLimit_32 : decode cX3_setLimit 32 = .ok (.iload_n 1, 1) := dk_27 (dk_at dksX3_setLimit_1 8 rfl rfl)
theorem dX3_setLimit_33 : decode cX3_setLimit 33 = .ok (.goto 4, 3) := dk_167 0 4 (dk_at dksX3_setLimit_1 9 rfl rfl)
theorem dX3_setLimit_36 : decode cX3_setLimit 36 = .ok (.iload_n 2, 1) := dk_28 (dk_at dksX3_setLimit_1 12 rfl rfl)
theorem dX3_setLimit_37 : decode cX3_setLimit 37 = .ok (.putfield 47, 3) := dk_181 0 47 (dk_at dksX3_setLimit_1 13 rfl rfl)
theorem dX3_setLimit_40 : decode cX3_setLimit 40 = .ok (.aload_n 0, 1) := dk_42 (dk_at dksX3_setLimit_1 16 rfl rfl)
theorem dX3_setLimit_41 : decode cX3_setLimit 41 = .ok (.getfield 83, 3) := dk_180 0 83 (dk_at dksX3_setLimit_1 17 rfl rfl)
theorem dX3_setLimit_44 : decode cX3_setLimit 44 = .ok (.ifCond .ne 7, 3) := dk_154 0 7 (dk_at dksX3_setLimit_1 20 rfl rfl)
theorem dX3_setLimit_47 : decode cX3_setLimit 47 = .ok (.iload_n 2, 1) := dk_28 (dk_at dksX3_setLimit_1 23 rfl rfl)
theorem dX3_setLimit_48 : decode cX3_setLimit 48 = .ok (.goto 4, 3) := dk_167 0 4 (dk_at dksX3_setLimit_2 0 rfl rfl)
theorem dX3_setLimit_51 : decode cX3_setLimit 51 = .ok (.iconst 0, 1) := dk_3 (dk_at dksX3_setLimit_2 3 rfl rfl)
theorem dX3_setLimit_52 : decode cX3_setLimit 52 = .ok (.ireturn, 1) := dk_172 (dk_at dksX3_setLimit_2 4 rfl rfl)
abbrev cX3_prepare : ByteArray := prog_13_method_23_code
def yX3_prepare : MethodName := ⟨RX3, "prepare", "(IIII)I"⟩
def dkwX3_prepare_6 : List UInt8 := [42, 180, 0, 97, 79, 42, 89, 180, 0, 120, 4, 96, 181, 0, 120, 42, 180, 0, 120, 4, 100, 172]
abbrev dktX3_prepare_6 : List UInt8 := dkwX3_prepare_6 ++ []
def dkwX3_prepare_5 : List UInt8 := [180, 0, 120, 29, 79, 42, 180, 0, 59, 42, 180, 0, 120, 21, 4, 79, 42, 180, 0, 62, 42, 180, 0, 120]
abbrev dktX3_prepare_5 : List UInt8 := dkwX3_prepare_5 ++ dktX3_prepare_6
def dkwX3_prepare_4 : List UInt8 := [180, 0, 50, 42, 180, 0, 120, 27, 79, 42, 180, 0, 53, 42, 180, 0, 120, 28, 79, 42, 180, 0, 56, 42]
abbrev dktX3_prepare_4 : List UInt8 := dkwX3_prepare_4 ++ dktX3_prepare_5
def dkwX3_prepare_3 : List UInt8 := [180, 0, 97, 16, 12, 163, 0, 12, 42, 180, 0, 120, 16, 40, 160, 0, 9, 42, 6, 182, 0, 117, 172, 42]
abbrev dktX3_prepare_3 : List UInt8 := dkwX3_prepare_3 ++ dktX3_prepare_4
def dkwX3_prepare_2 : List UInt8 := [3, 181, 0, 83, 42, 180, 0, 83, 158, 0, 5, 3, 172, 42, 180, 0, 32, 27, 46, 153, 0, 21, 42]
abbrev dktX3_prepare_2 : List UInt8 := dkwX3_prepare_2 ++ dktX3_prepare_3
def dkwX3_prepare_1 : List UInt8 := [184, 0, 86, 154, 0, 7, 4, 167, 0, 18, 29, 4, 18, 100, 184, 0, 86, 154, 0, 7, 5, 167, 0, 4]
abbrev dktX3_prepare_1 : List UInt8 := dkwX3_prepare_1 ++ dktX3_prepare_2
def dkwX3_prepare_0 : List UInt8 := [42, 42, 27, 182, 0, 90, 153, 0, 23, 28, 3, 16, 9, 184, 0, 86, 153, 0, 13, 21, 4, 3, 7]
abbrev dktX3_prepare_0 : List UInt8 := dkwX3_prepare_0 ++ dktX3_prepare_1
theorem dksX3_prepare_0 : cX3_prepare.data.toList.drop 0 = dktX3_prepare_0 := by decide +kernel
theorem dksX3_prepare_1 : cX3_prepare.data.toList.drop 23 = dktX3_prepare_1 := dk_seg dksX3_prepare_0 23 rfl rfl
theorem dksX3_prepare_2 : cX3_prepare.data.toList.drop 47 = dktX3_prepare_2 := dk_seg dksX3_prepare_1 24 rfl rfl
theorem dksX3_prepare_3 : cX3_prepare.data.toList.drop 70 = dktX3_prepare_3 := dk_seg dksX3_prepare_2 23 rfl rfl
theorem dksX3_prepare_4 : cX3_prepare.data.toList.drop 94 = dktX3_prepare_4 := dk_seg dksX3_prepare_3 24 rfl rfl
theorem dksX3_prepare_5 : cX3_prepare.data.toList.drop 118 = dktX3_prepare_5 := dk_seg dksX3_prepare_4 24 rfl rfl
theorem dksX3_prepare_6 : cX3_prepare.data.toList.drop 142 = dktX3_prepare_6 := dk_seg dksX3_prepare_5 24 rfl rfl
theorem dX3_prepare_0 : decode cX3_prepare 0 = .ok (.aload_n 0, 1) := dk_42 (dk_at dksX3_prepare_0 0 rfl rfl)
theorem dX3_prepare_1 : decode cX3_prepare 1 = .ok (.aload_n 0, 1) := dk_42 (dk_at dksX3_prepare_0 1 rfl rfl)
theorem dX3_prepare_2 : decode cX3_prepare 2 = .ok (.iload_n 1, 1) := dk_27 (dk_at dksX3_prepare_0 2 rfl rfl)
theorem dX3_prepare_3 : decode cX3_prepare 3 = .ok (.invokevirtual 90, 3) := dk_182 0 90 (dk_at dksX3_prepare_0 3 rfl rfl)
theorem dX3_prepare_6 : decode cX3_prepare 6 = .ok (.ifCond .eq 23, 3) := dk_153 0 23 (dk_at dksX3_prepare_0 6 rfl rfl)
theorem dX3_prepare_9 : decode cX3_prepare 9 = .ok (.iload_n 2, 1) := dk_28 (dk_at dksX3_prepare_0 9 rfl rfl)
theorem dX3_prepare_10 : decode cX3_prepare 10 = .ok (.iconst 0, 1) := dk_3 (dk_at dksX3_prepare_0 10 rfl rfl)
theorem dX3_prepare_11 : decode cX3_prepare 11 = .ok (.bipush 9, 2) := dk_16 9 (dk_at dksX3_prepare_0 11 rfl rfl)
theorem dX3_prepare_13 : decode cX3_prepare 13 = .ok (.invokestatic 86, 3) := dk_184 0 86 (dk_at dksX3_prepare_0 13 rfl rfl)
theorem dX3_prepare_16 : decode cX3_prepare 16 = .ok (.ifCond .eq 13, 3) := dk_153 0 13 (dk_at dksX3_prepare_0 16 rfl rfl)
theorem dX3_prepare_19 : decode cX3_prepare 19 = .ok (.iload 4, 2) := dk_21 4 (dk_at dksX3_prepare_0 19 rfl rfl)
theorem dX3_prepare_21 : decode cX3_prepare 21 = .ok (.iconst 0, 1) := dk_3 (dk_at dksX3_prepare_0 21 rfl rfl)
theorem dX3_prepare_22 : decode cX3_prepare 22 = .ok (.iconst 4, 1) := dk_7 (dk_at dksX3_prepare_0 22 rfl rfl)
theorem dX3_prepare_23 : decode cX3_prepare 23 = .ok (.invokestatic 86, 3) := dk_184 0 86 (dk_at dksX3_prepare_1 0 rfl rfl)
theorem dX3_prepare_26 : decode cX3_prepare 26 = .ok (.ifCond .ne 7, 3) := dk_154 0 7 (dk_at dksX3_prepare_1 3 rfl rfl)
theorem dX3_prepare_29 : decode cX3_prepare 29 = .ok (.iconst 1, 1) := dk_4 (dk_at dksX3_prepare_1 6 rfl rfl)
theorem dX3_prepare_30 : decode cX3_prepare 30 = .ok (.goto 18, 3) := dk_167 0 18 (dk_at dksX3_prepare_1 7 rfl rfl)
theorem dX3_prepare_33 : decode cX3_prepare 33 = .ok (.iload_n 3, 1) := dk_29 (dk_at dksX3_prepare_1 10 rfl rfl)
theorem dX3_prepare_34 : decode cX3_prepare 34 = .ok (.iconst 1, 1) := dk_4 (dk_at dksX3_prepare_1 11 rfl rfl)
theorem dX3_prepare_35 : decode cX3_prepare 35 = .ok (.ldc 100, 2) := dk_18 100 (dk_at dksX3_prepare_1 12 rfl rfl)
theorem dX3_prepare_37 : decode cX3_prepare 37 = .ok (.invokestatic 86, 3) := dk_184 0 86 (dk_at dksX3_prepare_1 14 rfl rfl)
theorem dX3_prepare_40 : decode cX3_prepare 40 = .ok (.ifCond .ne 7, 3) := dk_154 0 7 (dk_at dksX3_prepare_1 17 rfl rfl)
theorem dX3_prepare_43 : decode cX3_prepare 43 = .ok (.iconst 2, 1) := dk_5 (dk_at dksX3_prepare_1 20 rfl rfl)
theorem dX3_prepare_44 : decode cX3_prepare 44 = .ok (.goto 4, 3) := dk_167 0 4 (dk_at dksX3_prepare_1 21 rfl rfl)
theorem dX3_prepare_47 : decode cX3_prepare 47 = .ok (.iconst 0, 1) := dk_3 (dk_at dksX3_prepare_2 0 rfl rfl)
theorem dX3_prepare_48 : decode cX3_prepare 48 = .ok (.putfield 83, 3) := dk_181 0 83 (dk_at dksX3_prepare_2 1 rfl rfl)
theorem dX3_prepare_51 : decode cX3_prepare 51 = .ok (.aload_n 0, 1) := dk_42 (dk_at dksX3_prepare_2 4 rfl rfl)
theorem dX3_prepare_52 : decode cX3_prepare 52 = .ok (.getfield 83, 3) := dk_180 0 83 (dk_at dksX3_prepare_2 5 rfl rfl)
theorem dX3_prepare_55 : decode cX3_prepare 55 = .ok (.ifCond .le 5, 3) := dk_158 0 5 (dk_at dksX3_prepare_2 8 rfl rfl)
theorem dX3_prepare_58 : decode cX3_prepare 58 = .ok (.iconst 0, 1) := dk_3 (dk_at dksX3_prepare_2 11 rfl rfl)
theorem dX3_prepare_59 : decode cX3_prepare 59 = .ok (.ireturn, 1) := dk_172 (dk_at dksX3_prepare_2 12 rfl rfl)
theorem dX3_prepare_60 : decode cX3_prepare 60 = .ok (.aload_n 0, 1) := dk_42 (dk_at dksX3_prepare_2 13 rfl rfl)
theorem dX3_prepare_61 : decode cX3_prepare 61 = .ok (.getfield 32, 3) := dk_180 0 32 (dk_at dksX3_prepare_2 14 rfl rfl)
theorem dX3_prepare_64 : decode cX3_prepare 64 = .ok (.iload_n 1, 1) := dk_27 (dk_at dksX3_prepare_2 17 rfl rfl)
theorem dX3_prepare_65 : decode cX3_prepare 65 = .ok (.iaload, 1) := dk_46 (dk_at dksX3_prepare_2 18 rfl rfl)
theorem dX3_prepare_66 : decode cX3_prepare 66 = .ok (.ifCond .eq 21, 3) := dk_153 0 21 (dk_at dksX3_prepare_2 19 rfl rfl)
theorem dX3_prepare_69 : decode cX3_prepare 69 = .ok (.aload_n 0, 1) := dk_42 (dk_at dksX3_prepare_2 22 rfl rfl)
theorem dX3_prepare_70 : decode cX3_prepare 70 = .ok (.getfield 97, 3) := dk_180 0 97 (dk_at dksX3_prepare_3 0 rfl rfl)
theorem dX3_prepare_73 : decode cX3_prepare 73 = .ok (.bipush 12, 2) := dk_16 12 (dk_at dksX3_prepare_3 3 rfl rfl)
theorem dX3_prepare_75 : decode cX3_prepare 75 = .ok (.if_icmp .gt 12, 3) := dk_163 0 12 (dk_at dksX3_prepare_3 5 rfl rfl)
theorem dX3_prepare_78 : decode cX3_prepare 78 = .ok (.aload_n 0, 1) := dk_42 (dk_at dksX3_prepare_3 8 rfl rfl)
theorem dX3_prepare_79 : decode cX3_prepare 79 = .ok (.getfield 120, 3) := dk_180 0 120 (dk_at dksX3_prepare_3 9 rfl rfl)
theorem dX3_prepare_82 : decode cX3_prepare 82 = .ok (.bipush 40, 2) := dk_16 40 (dk_at dksX3_prepare_3 12 rfl rfl)
theorem dX3_prepare_84 : decode cX3_prepare 84 = .ok (.if_icmp .ne 9, 3) := dk_160 0 9 (dk_at dksX3_prepare_3 14 rfl rfl)
theorem dX3_prepare_87 : decode cX3_prepare 87 = .ok (.aload_n 0, 1) := dk_42 (dk_at dksX3_prepare_3 17 rfl rfl)
theorem dX3_prepare_88 : decode cX3_prepare 88 = .ok (.iconst 3, 1) := dk_6 (dk_at dksX3_prepare_3 18 rfl rfl)
theorem dX3_prepare_89 : decode cX3_prepare 89 = .ok (.invokevirtual 117, 3) := dk_182 0 117 (dk_at dksX3_prepare_3 19 rfl rfl)
theorem dX3_prepare_92 : decode cX3_prepare 92 = .ok (.ireturn, 1) := dk_172 (dk_at dksX3_prepare_3 22 rfl rfl)
theorem dX3_prepare_93 : decode cX3_prepare 93 = .ok (.aload_n 0, 1) := dk_42 (dk_at dksX3_prepare_3 23 rfl rfl)
theorem dX3_prepare_94 : decode cX3_prepare 94 = .ok (.getfield 50, 3) := dk_180 0 50 (dk_at dksX3_prepare_4 0 rfl rfl)
theorem dX3_prepare_97 : decode cX3_prepare 97 = .ok (.aload_n 0, 1) := dk_42 (dk_at dksX3_prepare_4 3 rfl rfl)
theorem dX3_prepare_98 : decode cX3_prepare 98 = .ok (.getfield 120, 3) := dk_180 0 120 (dk_at dksX3_prepare_4 4 rfl rfl)
theorem dX3_prepare_101 : decode cX3_prepare 101 = .ok (.iload_n 1, 1) := dk_27 (dk_at dksX3_prepare_4 7 rfl rfl)
theorem dX3_prepare_102 : decode cX3_prepare 102 = .ok (.iastore, 1) := dk_79 (dk_at dksX3_prepare_4 8 rfl rfl)
theorem dX3_prepare_103 : decode cX3_prepare 103 = .ok (.aload_n 0, 1) := dk_42 (dk_at dksX3_prepare_4 9 rfl rfl)
theorem dX3_prepare_104 : decode cX3_prepare 104 = .ok (.getfield 53, 3) := dk_180 0 53 (dk_at dksX3_prepare_4 10 rfl rfl)
theorem dX3_prepare_107 : decode cX3_prepare 107 = .ok (.aload_n 0, 1) := dk_42 (dk_at dksX3_prepare_4 13 rfl rfl)
theorem dX3_prepare_108 : decode cX3_prepare 108 = .ok (.getfield 120, 3) := dk_180 0 120 (dk_at dksX3_prepare_4 14 rfl rfl)
theorem dX3_prepare_111 : decode cX3_prepare 111 = .ok (.iload_n 2, 1) := dk_28 (dk_at dksX3_prepare_4 17 rfl rfl)
theorem dX3_prepare_112 : decode cX3_prepare 112 = .ok (.iastore, 1) := dk_79 (dk_at dksX3_prepare_4 18 rfl rfl)
theorem dX3_prepare_113 : decode cX3_prepare 113 = .ok (.aload_n 0, 1) := dk_42 (dk_at dksX3_prepare_4 19 rfl rfl)
theorem dX3_prepare_114 : decode cX3_prepare 114 = .ok (.getfield 56, 3) := dk_180 0 56 (dk_at dksX3_prepare_4 20 rfl rfl)
theorem dX3_prepare_117 : decode cX3_prepare 117 = .ok (.aload_n 0, 1) := dk_42 (dk_at dksX3_prepare_4 23 rfl rfl)
theorem dX3_prepare_118 : decode cX3_prepare 118 = .ok (.getfield 120, 3) := dk_180 0 120 (dk_at dksX3_prepare_5 0 rfl rfl)
theorem dX3_prepare_121 : decode cX3_prepare 121 = .ok (.iload_n 3, 1) := dk_29 (dk_at dksX3_prepare_5 3 rfl rfl)
theorem dX3_prepare_122 : decode cX3_prepare 122 = .ok (.iastore, 1) := dk_79 (dk_at dksX3_prepare_5 4 rfl rfl)
theorem dX3_prepare_123 : decode cX3_prepare 123 = .ok (.aload_n 0, 1) := dk_42 (dk_at dksX3_prepare_5 5 rfl rfl)
theorem dX3_prepare_124 : decode cX3_prepare 124 = .ok (.getfield 59, 3) := dk_180 0 59 (dk_at dksX3_prepare_5 6 rfl rfl)
theorem dX3_prepare_127 : decode cX3_prepare 127 = .ok (.aload_n 0, 1) := dk_42 (dk_at dksX3_prepare_5 9 rfl rfl)
theorem dX3_prepare_128 : decode cX3_prepare 128 = .ok (.getfield 120, 3) := dk_180 0 120 (dk_at dksX3_prepare_5 10 rfl rfl)
theorem dX3_prepare_131 : decode cX3_prepare 131 = .ok (.iload 4, 2) := dk_21 4 (dk_at dksX3_prepare_5 13 rfl rfl)
theorem dX3_prepare_133 : decode cX3_prepare 133 = .ok (.iastore, 1) := dk_79 (dk_at dksX3_prepare_5 15 rfl rfl)
theorem dX3_prepare_134 : decode cX3_prepare 134 = .ok (.aload_n 0, 1) := dk_42 (dk_at dksX3_prepare_5 16 rfl rfl)
theorem dX3_prepare_135 : decode cX3_prepare 135 = .ok (.getfield 62, 3) := dk_180 0 62 (dk_at dksX3_prepare_5 17 rfl rfl)
theorem dX3_prepare_138 : decode cX3_prepare 138 = .ok (.aload_n 0, 1) := dk_42 (dk_at dksX3_prepare_5 20 rfl rfl)
theorem dX3_prepare_139 : decode cX3_prepare 139 = .ok (.getfield 120, 3) := dk_180 0 120 (dk_at dksX3_prepare_5 21 rfl rfl)
theorem dX3_prepare_142 : decode cX3_prepare 142 = .ok (.aload_n 0, 1) := dk_42 (dk_at dksX3_prepare_6 0 rfl rfl)
theorem dX3_prepare_143 : decode cX3_prepare 143 = .ok (.getfield 97, 3) := dk_180 0 97 (dk_at dksX3_prepare_6 1 rfl rfl)
theorem dX3_prepare_146 : decode cX3_prepare 146 = .ok (.iastore, 1) := dk_79 (dk_at dksX3_prepare_6 4 rfl rfl)
theorem dX3_prepare_147 : decode cX3_prepare 147 = .ok (.aload_n 0, 1) := dk_42 (dk_at dksX3_prepare_6 5 rfl rfl)
theorem dX3_prepare_148 : decode cX3_prepare 148 = .ok (.dup, 1) := dk_89 (dk_at dksX3_prepare_6 6 rfl rfl)
theorem dX3_prepare_149 : decode cX3_prepare 149 = .ok (.getfield 120, 3) := dk_180 0 120 (dk_at dksX3_prepare_6 7 rfl rfl)
theorem dX3_prepare_152 : decode cX3_prepare 152 = .ok (.iconst 1, 1) := dk_4 (dk_at dksX3_prepare_6 10 rfl rfl)
theorem dX3_prepare_153 : decode cX3_prepare 153 = .ok (.iadd, 1) := dk_96 (dk_at dksX3_prepare_6 11 rfl rfl)
theorem dX3_prepare_154 : decode cX3_prepare 154 = .ok (.putfield 120, 3) := dk_181 0 120 (dk_at dksX3_prepare_6 12 rfl rfl)
theorem dX3_prepare_157 : decode cX3_prepare 157 = .ok (.aload_n 0, 1) := dk_42 (dk_at dksX3_prepare_6 15 rfl rfl)
theorem dX3_prepare_158 : decode cX3_prepare 158 = .ok (.getfield 120, 3) := dk_180 0 120 (dk_at dksX3_prepare_6 16 rfl rfl)
theorem dX3_prepare_161 : decode cX3_prepare 161 = .ok (.iconst 1, 1) := dk_4 (dk_at dksX3_prepare_6 19 rfl rfl)
theorem dX3_prepare_162 : decode cX3_prepare 162 = .ok (.isub, 1) := dk_100 (dk_at dksX3_prepare_6 20 rfl rfl)
theorem dX3_prepare_163 : decode cX3_prepare 163 = .ok (.ireturn, 1) := dk_172 (dk_at dksX3_prepare_6 21 rfl rfl)
abbrev cX3_release : ByteArray := prog_13_method_26_code
def yX3_release : MethodName := ⟨RX3, "release", "(II)I"⟩
def dkwX3_release_11 : List UInt8 := [100, 172]
abbrev dktX3_release_11 : List UInt8 := dkwX3_release_11 ++ []
def dkwX3_release_10 : List UInt8 := [180, 0, 68, 27, 92, 46, 4, 28, 120, 128, 79, 21, 4, 29, 161, 0, 7, 3, 167, 0, 7, 29, 21, 4]
abbrev dktX3_release_10 : List UInt8 := dkwX3_release_10 ++ dktX3_release_11
def dkwX3_release_9 : List UInt8 := [27, 46, 96, 79, 42, 42, 180, 0, 97, 21, 5, 3, 42, 180, 0, 56, 27, 46, 182, 0, 101, 87, 42]
abbrev dktX3_release_9 : List UInt8 := dkwX3_release_9 ++ dktX3_release_10
def dkwX3_release_8 : List UInt8 := [5, 182, 0, 117, 172, 42, 180, 0, 65, 27, 4, 79, 42, 180, 0, 44, 21, 5, 92, 46, 42, 180, 0, 56]
abbrev dktX3_release_8 : List UInt8 := dkwX3_release_8 ++ dktX3_release_9
def dkwX3_release_7 : List UInt8 := [180, 0, 94, 16, 120, 159, 0, 18, 42, 21, 5, 182, 0, 113, 42, 180, 0, 56, 27, 46, 162, 0, 9, 42]
abbrev dktX3_release_7 : List UInt8 := dkwX3_release_7 ++ dktX3_release_8
def dkwX3_release_6 : List UInt8 := [180, 0, 50, 27, 46, 54, 5, 21, 4, 29, 161, 0, 83, 42, 180, 0, 97, 16, 12, 163, 0, 27, 42]
abbrev dktX3_release_6 : List UInt8 := dkwX3_release_6 ++ dktX3_release_7
def dkwX3_release_5 : List UInt8 := [21, 4, 42, 180, 0, 68, 27, 46, 21, 5, 122, 4, 126, 96, 54, 4, 132, 5, 1, 167, 255, 231, 42]
abbrev dktX3_release_5 : List UInt8 := dkwX3_release_5 ++ dktX3_release_6
def dkwX3_release_4 : List UInt8 := [182, 0, 123, 153, 0, 7, 5, 167, 0, 4, 4, 62, 4, 54, 4, 3, 54, 5, 21, 5, 8, 162, 0, 25]
abbrev dktX3_release_4 : List UInt8 := dkwX3_release_4 ++ dktX3_release_5
def dkwX3_release_3 : List UInt8 := [160, 0, 9, 42, 5, 182, 0, 117, 172, 42, 180, 0, 56, 27, 46, 42, 180, 0, 47, 162, 0, 11, 42, 27]
abbrev dktX3_release_3 : List UInt8 := dkwX3_release_3 ++ dktX3_release_4
def dkwX3_release_2 : List UInt8 := [154, 0, 27, 42, 180, 0, 59, 27, 46, 28, 159, 0, 17, 42, 180, 0, 68, 27, 46, 28, 122, 4, 126, 4]
abbrev dktX3_release_2 : List UInt8 := dkwX3_release_2 ++ dktX3_release_3
def dkwX3_release_1 : List UInt8 := [4, 167, 0, 4, 3, 181, 0, 83, 42, 180, 0, 83, 158, 0, 5, 3, 172, 42, 180, 0, 65, 27, 46]
abbrev dktX3_release_1 : List UInt8 := dkwX3_release_1 ++ dktX3_release_2
def dkwX3_release_0 : List UInt8 := [42, 27, 3, 42, 180, 0, 120, 4, 100, 184, 0, 86, 153, 0, 12, 28, 3, 7, 184, 0, 86, 154, 0, 7]
abbrev dktX3_release_0 : List UInt8 := dkwX3_release_0 ++ dktX3_release_1
theorem dksX3_release_0 : cX3_release.data.toList.drop 0 = dktX3_release_0 := by decide +kernel
theorem dksX3_release_1 : cX3_release.data.toList.drop 24 = dktX3_release_1 := dk_seg dksX3_release_0 24 rfl rfl
theorem dksX3_release_2 : cX3_release.data.toList.drop 47 = dktX3_release_2 := dk_seg dksX3_release_1 23 rfl rfl
theorem dksX3_release_3 : cX3_release.data.toList.drop 71 = dktX3_release_3 := dk_seg dksX3_release_2 24 rfl rfl
theorem dksX3_release_4 : cX3_release.data.toList.drop 95 = dktX3_release_4 := dk_seg dksX3_release_3 24 rfl rfl
theorem dksX3_release_5 : cX3_release.data.toList.drop 119 = dktX3_release_5 := dk_seg dksX3_release_4 24 rfl rfl
theorem dksX3_release_6 : cX3_release.data.toList.drop 142 = dktX3_release_6 := dk_seg dksX3_release_5 23 rfl rfl
theorem dksX3_release_7 : cX3_release.data.toList.drop 165 = dktX3_release_7 := dk_seg dksX3_release_6 23 rfl rfl
theorem dksX3_release_8 : cX3_release.data.toList.drop 189 = dktX3_release_8 := dk_seg dksX3_release_7 24 rfl rfl
theorem dksX3_release_9 : cX3_release.data.toList.drop 213 = dktX3_release_9 := dk_seg dksX3_release_8 24 rfl rfl
theorem dksX3_release_10 : cX3_release.data.toList.drop 236 = dktX3_release_10 := dk_seg dksX3_release_9 23 rfl rfl
theorem dksX3_release_11 : cX3_release.data.toList.drop 260 = dktX3_release_11 := dk_seg dksX3_release_10 24 rfl rfl
theorem dX3_release_0 : decode cX3_release 0 = .ok (.aload_n 0, 1) := dk_42 (dk_at dksX3_release_0 0 rfl rfl)
theorem dX3_release_1 : decode cX3_release 1 = .ok (.iload_n 1, 1) := dk_27 (dk_at dksX3_release_0 1 rfl rfl)
theorem dX3_release_2 : decode cX3_release 2 = .ok (.iconst 0, 1) := dk_3 (dk_at dksX3_release_0 2 rfl rfl)
theorem dX3_release_3 : decode cX3_release 3 = .ok (.aload_n 0, 1) := dk_42 (dk_at dksX3_release_0 3 rfl rfl)
theorem dX3_release_4 : decode cX3_release 4 = .ok (.getfield 120, 3) := dk_180 0 120 (dk_at dksX3_release_0 4 rfl rfl)
theorem dX3_release_7 : decode cX3_release 7 = .ok (.iconst 1, 1) := dk_4 (dk_at dksX3_release_0 7 rfl rfl)
theorem dX3_release_8 : decode cX3_release 8 = .ok (.isub, 1) := dk_100 (dk_at dksX3_release_0 8 rfl rfl)
theorem dX3_release_9 : decode cX3_release 9 = .ok (.invokestatic 86, 3) := dk_184 0 86 (dk_at dksX3_release_0 9 rfl rfl)
theorem dX3_release_12 : decode cX3_release 12 = .ok (.ifCond .eq 12, 3) := dk_153 0 12 (dk_at dksX3_release_0 12 rfl rfl)
theorem dX3_release_15 : decode cX3_release 15 = .ok (.iload_n 2, 1) := dk_28 (dk_at dksX3_release_0 15 rfl rfl)
theorem dX3_release_16 : decode cX3_release 16 = .ok (.iconst 0, 1) := dk_3 (dk_at dksX3_release_0 16 rfl rfl)
theorem dX3_release_17 : decode cX3_release 17 = .ok (.iconst 4, 1) := dk_7 (dk_at dksX3_release_0 17 rfl rfl)
theorem dX3_release_18 : decode cX3_release 18 = .ok (.invokestatic 86, 3) := dk_184 0 86 (dk_at dksX3_release_0 18 rfl rfl)
theorem dX3_release_21 : decode cX3_release 21 = .ok (.ifCond .ne 7, 3) := dk_154 0 7 (dk_at dksX3_release_0 21 rfl rfl)
theorem dX3_release_24 : decode cX3_release 24 = .ok (.iconst 1, 1) := dk_4 (dk_at dksX3_release_1 0 rfl rfl)
theorem dX3_release_25 : decode cX3_release 25 = .ok (.goto 4, 3) := dk_167 0 4 (dk_at dksX3_release_1 1 rfl rfl)
theorem dX3_release_28 : decode cX3_release 28 = .ok (.iconst 0, 1) := dk_3 (dk_at dksX3_release_1 4 rfl rfl)
theorem dX3_release_29 : decode cX3_release 29 = .ok (.putfield 83, 3) := dk_181 0 83 (dk_at dksX3_release_1 5 rfl rfl)
theorem dX3_release_32 : decode cX3_release 32 = .ok (.aload_n 0, 1) := dk_42 (dk_at dksX3_release_1 8 rfl rfl)
theorem dX3_release_33 : decode cX3_release 33 = .ok (.getfield 83, 3) := dk_180 0 83 (dk_at dksX3_release_1 9 rfl rfl)
theorem dX3_release_36 : decode cX3_release 36 = .ok (.ifCond .le 5, 3) := dk_158 0 5 (dk_at dksX3_release_1 12 rfl rfl)
theorem dX3_release_39 : decode cX3_release 39 = .ok (.iconst 0, 1) := dk_3 (dk_at dksX3_release_1 15 rfl rfl)
theorem dX3_release_40 : decode cX3_release 40 = .ok (.ireturn, 1) := dk_172 (dk_at dksX3_release_1 16 rfl rfl)
theorem dX3_release_41 : decode cX3_release 41 = .ok (.aload_n 0, 1) := dk_42 (dk_at dksX3_release_1 17 rfl rfl)
theorem dX3_release_42 : decode cX3_release 42 = .ok (.getfield 65, 3) := dk_180 0 65 (dk_at dksX3_release_1 18 rfl rfl)
theorem dX3_release_45 : decode cX3_release 45 = .ok (.iload_n 1, 1) := dk_27 (dk_at dksX3_release_1 21 rfl rfl)
theorem dX3_release_46 : decode cX3_release 46 = .ok (.iaload, 1) := dk_46 (dk_at dksX3_release_1 22 rfl rfl)
theorem dX3_release_47 : decode cX3_release 47 = .ok (.ifCond .ne 27, 3) := dk_154 0 27 (dk_at dksX3_release_2 0 rfl rfl)
theorem dX3_release_50 : decode cX3_release 50 = .ok (.aload_n 0, 1) := dk_42 (dk_at dksX3_release_2 3 rfl rfl)
theorem dX3_release_51 : decode cX3_release 51 = .ok (.getfield 59, 3) := dk_180 0 59 (dk_at dksX3_release_2 4 rfl rfl)
theorem dX3_release_54 : decode cX3_release 54 = .ok (.iload_n 1, 1) := dk_27 (dk_at dksX3_release_2 7 rfl rfl)
theorem dX3_release_55 : decode cX3_release 55 = .ok (.iaload, 1) := dk_46 (dk_at dksX3_release_2 8 rfl rfl)
theorem dX3_release_56 : decode cX3_release 56 = .ok (.iload_n 2, 1) := dk_28 (dk_at dksX3_release_2 9 rfl rfl)
theorem dX3_release_57 : decode cX3_release 57 = .ok (.if_icmp .eq 17, 3) := dk_159 0 17 (dk_at dksX3_release_2 10 rfl rfl)
theorem dX3_release_60 : decode cX3_release 60 = .ok (.aload_n 0, 1) := dk_42 (dk_at dksX3_release_2 13 rfl rfl)
theorem dX3_release_61 : decode cX3_release 61 = .ok (.getfield 68, 3) := dk_180 0 68 (dk_at dksX3_release_2 14 rfl rfl)
theorem dX3_release_64 : decode cX3_release 64 = .ok (.iload_n 1, 1) := dk_27 (dk_at dksX3_release_2 17 rfl rfl)
theorem dX3_release_65 : decode cX3_release 65 = .ok (.iaload, 1) := dk_46 (dk_at dksX3_release_2 18 rfl rfl)
theorem dX3_release_66 : decode cX3_release 66 = .ok (.iload_n 2, 1) := dk_28 (dk_at dksX3_release_2 19 rfl rfl)
theorem dX3_release_67 : decode cX3_release 67 = .ok (.ishr, 1) := dk_122 (dk_at dksX3_release_2 20 rfl rfl)
theorem dX3_release_68 : decode cX3_release 68 = .ok (.iconst 1, 1) := dk_4 (dk_at dksX3_release_2 21 rfl rfl)
theorem dX3_release_69 : decode cX3_release 69 = .ok (.iand, 1) := dk_126 (dk_at dksX3_release_2 22 rfl rfl)
theorem dX3_release_70 : decode cX3_release 70 = .ok (.iconst 1, 1) := dk_4 (dk_at dksX3_release_2 23 rfl rfl)
theorem dX3_release_71 : decode cX3_release 71 = .ok (.if_icmp .ne 9, 3) := dk_160 0 9 (dk_at dksX3_release_3 0 rfl rfl)
theorem dX3_release_74 : decode cX3_release 74 = .ok (.aload_n 0, 1) := dk_42 (dk_at dksX3_release_3 3 rfl rfl)
theorem dX3_release_75 : decode cX3_release 75 = .ok (.iconst 2, 1) := dk_5 (dk_at dksX3_release_3 4 rfl rfl)
theorem dX3_release_76 : decode cX3_release 76 = .ok (.invokevirtual 117, 3) := dk_182 0 117 (dk_at dksX3_release_3 5 rfl rfl)
theorem dX3_release_79 : decode cX3_release 79 = .ok (.ireturn, 1) := dk_172 (dk_at dksX3_release_3 8 rfl rfl)
theorem dX3_release_80 : decode cX3_release 80 = .ok (.aload_n 0, 1) := dk_42 (dk_at dksX3_release_3 9 rfl rfl)
theorem dX3_release_81 : decode cX3_release 81 = .ok (.getfield 56, 3) := dk_180 0 56 (dk_at dksX3_release_3 10 rfl rfl)
theorem dX3_release_84 : decode cX3_release 84 = .ok (.iload_n 1, 1) := dk_27 (dk_at dksX3_release_3 13 rfl rfl)
theorem dX3_release_85 : decode cX3_release 85 = .ok (.iaload, 1) := dk_46 (dk_at dksX3_release_3 14 rfl rfl)
theorem dX3_release_86 : decode cX3_release 86 = .ok (.aload_n 0, 1) := dk_42 (dk_at dksX3_release_3 15 rfl rfl)
theorem dX3_release_87 : decode cX3_release 87 = .ok (.getfield 47, 3) := dk_180 0 47 (dk_at dksX3_release_3 16 rfl rfl)
theorem dX3_release_90 : decode cX3_release 90 = .ok (.if_icmp .ge 11, 3) := dk_162 0 11 (dk_at dksX3_release_3 19 rfl rfl)
theorem dX3_release_93 : decode cX3_release 93 = .ok (.aload_n 0, 1) := dk_42 (dk_at dksX3_release_3 22 rfl rfl)
theorem dX3_release_94 : decode cX3_release 94 = .ok (.iload_n 1, 1) := dk_27 (dk_at dksX3_release_3 23 rfl rfl)
theorem dX3_release_95 : decode cX3_release 95 = .ok (.invokevirtual 123, 3) := dk_182 0 123 (dk_at dksX3_release_4 0 rfl rfl)
theorem dX3_release_98 : decode cX3_release 98 = .ok (.ifCond .eq 7, 3) := dk_153 0 7 (dk_at dksX3_release_4 3 rfl rfl)
theorem dX3_release_101 : decode cX3_release 101 = .ok (.iconst 2, 1) := dk_5 (dk_at dksX3_release_4 6 rfl rfl)
theorem dX3_release_102 : decode cX3_release 102 = .ok (.goto 4, 3) := dk_167 0 4 (dk_at dksX3_release_4 7 rfl rfl)
theorem dX3_release_105 : decode cX3_release 105 = .ok (.iconst 1, 1) := dk_4 (dk_at dksX3_release_4 10 rfl rfl)
theorem dX3_release_106 : decode cX3_release 106 = .ok (.istore_n 3, 1) := dk_62 (dk_at dksX3_release_4 11 rfl rfl)
theorem dX3_release_107 : decode cX3_release 107 = .ok (.iconst 1, 1) := dk_4 (dk_at dksX3_release_4 12 rfl rfl)
theorem dX3_release_108 : decode cX3_release 108 = .ok (.istore 4, 2) := dk_54 4 (dk_at dksX3_release_4 13 rfl rfl)
theorem dX3_release_110 : decode cX3_release 110 = .ok (.iconst 0, 1) := dk_3 (dk_at dksX3_release_4 15 rfl rfl)
theorem dX3_release_111 : decode cX3_release 111 = .ok (.istore 5, 2) := dk_54 5 (dk_at dksX3_release_4 16 rfl rfl)
theorem dX3_release_113 : decode cX3_release 113 = .ok (.iload 5, 2) := dk_21 5 (dk_at dksX3_release_4 18 rfl rfl)
theorem dX3_release_115 : decode cX3_release 115 = .ok (.iconst 5, 1) := dk_8 (dk_at dksX3_release_4 20 rfl rfl)
theorem dX3_release_116 : decode cX3_release 116 = .ok (.if_icmp .ge 25, 3) := dk_162 0 25 (dk_at dksX3_release_4 21 rfl rfl)
theorem dX3_release_119 : decode cX3_release 119 = .ok (.iload 4, 2) := dk_21 4 (dk_at dksX3_release_5 0 rfl rfl)
theorem dX3_release_121 : decode cX3_release 121 = .ok (.aload_n 0, 1) := dk_42 (dk_at dksX3_release_5 2 rfl rfl)
theorem dX3_release_122 : decode cX3_release 122 = .ok (.getfield 68, 3) := dk_180 0 68 (dk_at dksX3_release_5 3 rfl rfl)
theorem dX3_release_125 : decode cX3_release 125 = .ok (.iload_n 1, 1) := dk_27 (dk_at dksX3_release_5 6 rfl rfl)
theorem dX3_release_126 : decode cX3_release 126 = .ok (.iaload, 1) := dk_46 (dk_at dksX3_release_5 7 rfl rfl)
theorem dX3_release_127 : decode cX3_release 127 = .ok (.iload 5, 2) := dk_21 5 (dk_at dksX3_release_5 8 rfl rfl)
theorem dX3_release_129 : decode cX3_release 129 = .ok (.ishr, 1) := dk_122 (dk_at dksX3_release_5 10 rfl rfl)
theorem dX3_release_130 : decode cX3_release 130 = .ok (.iconst 1, 1) := dk_4 (dk_at dksX3_release_5 11 rfl rfl)
theorem dX3_release_131 : decode cX3_release 131 = .ok (.iand, 1) := dk_126 (dk_at dksX3_release_5 12 rfl rfl)
theorem dX3_release_132 : decode cX3_release 132 = .ok (.iadd, 1) := dk_96 (dk_at dksX3_release_5 13 rfl rfl)
theorem dX3_release_133 : decode cX3_release 133 = .ok (.istore 4, 2) := dk_54 4 (dk_at dksX3_release_5 14 rfl rfl)
theorem dX3_release_135 : decode cX3_release 135 = .ok (.iinc 5 1, 3) := dk_132 5 1 (dk_at dksX3_release_5 16 rfl rfl)
theorem dX3_release_138 : decode cX3_release 138 = .ok (.goto (-25), 3) := dk_167 255 231 (dk_at dksX3_release_5 19 rfl rfl)
theorem dX3_release_141 : decode cX3_release 141 = .ok (.aload_n 0, 1) := dk_42 (dk_at dksX3_release_5 22 rfl rfl)
theorem dX3_release_142 : decode cX3_release 142 = .ok (.getfield 50, 3) := dk_180 0 50 (dk_at dksX3_release_6 0 rfl rfl)
theorem dX3_release_145 : decode cX3_release 145 = .ok (.iload_n 1, 1) := dk_27 (dk_at dksX3_release_6 3 rfl rfl)
theorem dX3_release_146 : decode cX3_release 146 = .ok (.iaload, 1) := dk_46 (dk_at dksX3_release_6 4 rfl rfl)
theorem dX3_release_147 : decode cX3_release 147 = .ok (.istore 5, 2) := dk_54 5 (dk_at dksX3_release_6 5 rfl rfl)
theorem dX3_release_149 : decode cX3_release 149 = .ok (.iload 4, 2) := dk_21 4 (dk_at dksX3_release_6 7 rfl rfl)
theorem dX3_release_151 : decode cX3_release 151 = .ok (.iload_n 3, 1) := dk_29 (dk_at dksX3_release_6 9 rfl rfl)
theorem dX3_release_152 : decode cX3_release 152 = .ok (.if_icmp .lt 83, 3) := dk_161 0 83 (dk_at dksX3_release_6 10 rfl rfl)
theorem dX3_release_155 : decode cX3_release 155 = .ok (.aload_n 0, 1) := dk_42 (dk_at dksX3_release_6 13 rfl rfl)
theorem dX3_release_156 : decode cX3_release 156 = .ok (.getfield 97, 3) := dk_180 0 97 (dk_at dksX3_release_6 14 rfl rfl)
theorem dX3_release_159 : decode cX3_release 159 = .ok (.bipush 12, 2) := dk_16 12 (dk_at dksX3_release_6 17 rfl rfl)
theorem dX3_release_161 : decode cX3_release 161 = .ok (.if_icmp .gt 27, 3) := dk_163 0 27 (dk_at dksX3_release_6 19 rfl rfl)
theorem dX3_release_164 : decode cX3_release 164 = .ok (.aload_n 0, 1) := dk_42 (dk_at dksX3_release_6 22 rfl rfl)
theorem dX3_release_165 : decode cX3_release 165 = .ok (.getfield 94, 3) := dk_180 0 94 (dk_at dksX3_release_7 0 rfl rfl)
theorem dX3_release_168 : decode cX3_release 168 = .ok (.bipush 120, 2) := dk_16 120 (dk_at dksX3_release_7 3 rfl rfl)
theorem dX3_release_170 : decode cX3_release 170 = .ok (.if_icmp .eq 18, 3) := dk_159 0 18 (dk_at dksX3_release_7 5 rfl rfl)
theorem dX3_release_173 : decode cX3_release 173 = .ok (.aload_n 0, 1) := dk_42 (dk_at dksX3_release_7 8 rfl rfl)
theorem dX3_release_174 : decode cX3_release 174 = .ok (.iload 5, 2) := dk_21 5 (dk_at dksX3_release_7 9 rfl rfl)
theorem dX3_release_176 : decode cX3_release 176 = .ok (.invokevirtual 113, 3) := dk_182 0 113 (dk_at dksX3_release_7 11 rfl rfl)
theorem dX3_release_179 : decode cX3_release 179 = .ok (.aload_n 0, 1) := dk_42 (dk_at dksX3_release_7 14 rfl rfl)
theorem dX3_release_180 : decode cX3_release 180 = .ok (.getfield 56, 3) := dk_180 0 56 (dk_at dksX3_release_7 15 rfl rfl)
theorem dX3_release_183 : decode cX3_release 183 = .ok (.iload_n 1, 1) := dk_27 (dk_at dksX3_release_7 18 rfl rfl)
theorem dX3_release_184 : decode cX3_release 184 = .ok (.iaload, 1) := dk_46 (dk_at dksX3_release_7 19 rfl rfl)
theorem dX3_release_185 : decode cX3_release 185 = .ok (.if_icmp .ge 9, 3) := dk_162 0 9 (dk_at dksX3_release_7 20 rfl rfl)
theorem dX3_release_188 : decode cX3_release 188 = .ok (.aload_n 0, 1) := dk_42 (dk_at dksX3_release_7 23 rfl rfl)
theorem dX3_release_189 : decode cX3_release 189 = .ok (.iconst 2, 1) := dk_5 (dk_at dksX3_release_8 0 rfl rfl)
theorem dX3_release_190 : decode cX3_release 190 = .ok (.invokevirtual 117, 3) := dk_182 0 117 (dk_at dksX3_release_8 1 rfl rfl)
theorem dX3_release_193 : decode cX3_release 193 = .ok (.ireturn, 1) := dk_172 (dk_at dksX3_release_8 4 rfl rfl)
theorem dX3_release_194 : decode cX3_release 194 = .ok (.aload_n 0, 1) := dk_42 (dk_at dksX3_release_8 5 rfl rfl)
theorem dX3_release_195 : decode cX3_release 195 = .ok (.getfield 65, 3) := dk_180 0 65 (dk_at dksX3_release_8 6 rfl rfl)
theorem dX3_release_198 : decode cX3_release 198 = .ok (.iload_n 1, 1) := dk_27 (dk_at dksX3_release_8 9 rfl rfl)
theorem dX3_release_199 : decode cX3_release 199 = .ok (.iconst 1, 1) := dk_4 (dk_at dksX3_release_8 10 rfl rfl)
theorem dX3_release_200 : decode cX3_release 200 = .ok (.iastore, 1) := dk_79 (dk_at dksX3_release_8 11 rfl rfl)
theorem dX3_release_201 : decode cX3_release 201 = .ok (.aload_n 0, 1) := dk_42 (dk_at dksX3_release_8 12 rfl rfl)
theorem dX3_release_202 : decode cX3_release 202 = .ok (.getfield 44, 3) := dk_180 0 44 (dk_at dksX3_release_8 13 rfl rfl)
theorem dX3_release_205 : decode cX3_release 205 = .ok (.iload 5, 2) := dk_21 5 (dk_at dksX3_release_8 16 rfl rfl)
theorem dX3_release_207 : decode cX3_release 207 = .ok (.dup2, 1) := dk_92 (dk_at dksX3_release_8 18 rfl rfl)
theorem dX3_release_208 : decode cX3_release 208 = .ok (.iaload, 1) := dk_46 (dk_at dksX3_release_8 19 rfl rfl)
theorem dX3_release_209 : decode cX3_release 209 = .ok (.aload_n 0, 1) := dk_42 (dk_at dksX3_release_8 20 rfl rfl)
theorem dX3_release_210 : decode cX3_release 210 = .ok (.getfield 56, 3) := dk_180 0 56 (dk_at dksX3_release_8 21 rfl rfl)
theorem dX3_release_213 : decode cX3_release 213 = .ok (.iload_n 1, 1) := dk_27 (dk_at dksX3_release_9 0 rfl rfl)
theorem dX3_release_214 : decode cX3_release 214 = .ok (.iaload, 1) := dk_46 (dk_at dksX3_release_9 1 rfl rfl)
theorem dX3_release_215 : decode cX3_release 215 = .ok (.iadd, 1) := dk_96 (dk_at dksX3_release_9 2 rfl rfl)
theorem dX3_release_216 : decode cX3_release 216 = .ok (.iastore, 1) := dk_79 (dk_at dksX3_release_9 3 rfl rfl)
theorem dX3_release_217 : decode cX3_release 217 = .ok (.aload_n 0, 1) := dk_42 (dk_at dksX3_release_9 4 rfl rfl)
theorem dX3_release_218 : decode cX3_release 218 = .ok (.aload_n 0, 1) := dk_42 (dk_at dksX3_release_9 5 rfl rfl)
theorem dX3_release_219 : decode cX3_release 219 = .ok (.getfield 97, 3) := dk_180 0 97 (dk_at dksX3_release_9 6 rfl rfl)
theorem dX3_release_222 : decode cX3_release 222 = .ok (.iload 5, 2) := dk_21 5 (dk_at dksX3_release_9 9 rfl rfl)
theorem dX3_release_224 : decode cX3_release 224 = .ok (.iconst 0, 1) := dk_3 (dk_at dksX3_release_9 11 rfl rfl)
theorem dX3_release_225 : decode cX3_release 225 = .ok (.aload_n 0, 1) := dk_42 (dk_at dksX3_release_9 12 rfl rfl)
theorem dX3_release_226 : decode cX3_release 226 = .ok (.getfield 56, 3) := dk_180 0 56 (dk_at dksX3_release_9 13 rfl rfl)
theorem dX3_release_229 : decode cX3_release 229 = .ok (.iload_n 1, 1) := dk_27 (dk_at dksX3_release_9 16 rfl rfl)
theorem dX3_release_230 : decode cX3_release 230 = .ok (.iaload, 1) := dk_46 (dk_at dksX3_release_9 17 rfl rfl)
theorem dX3_release_231 : decode cX3_release 231 = .ok (.invokevirtual 101, 3) := dk_182 0 101 (dk_at dksX3_release_9 18 rfl rfl)
theorem dX3_release_234 : decode cX3_release 234 = .ok (.pop, 1) := dk_87 (dk_at dksX3_release_9 21 rfl rfl)
theorem dX3_release_235 : decode cX3_release 235 = .ok (.aload_n 0, 1) := dk_42 (dk_at dksX3_release_9 22 rfl rfl)
theorem dX3_release_236 : decode cX3_release 236 = .ok (.getfield 68, 3) := dk_180 0 68 (dk_at dksX3_release_10 0 rfl rfl)
theorem dX3_release_239 : decode cX3_release 239 = .ok (.iload_n 1, 1) := dk_27 (dk_at dksX3_release_10 3 rfl rfl)
theorem dX3_release_240 : decode cX3_release 240 = .ok (.dup2, 1) := dk_92 (dk_at dksX3_release_10 4 rfl rfl)
theorem dX3_release_241 : decode cX3_release 241 = .ok (.iaload, 1) := dk_46 (dk_at dksX3_release_10 5 rfl rfl)
theorem dX3_release_242 : decode cX3_release 242 = .ok (.iconst 1, 1) := dk_4 (dk_at dksX3_release_10 6 rfl rfl)
theorem dX3_release_243 : decode cX3_release 243 = .ok (.iload_n 2, 1) := dk_28 (dk_at dksX3_release_10 7 rfl rfl)
theorem dX3_release_244 : decode cX3_release 244 = .ok (.ishl, 1) := dk_120 (dk_at dksX3_release_10 8 rfl rfl)
theorem dX3_release_245 : decode cX3_release 245 = .ok (.ior, 1) := dk_128 (dk_at dksX3_release_10 9 rfl rfl)
theorem dX3_release_246 : decode cX3_release 246 = .ok (.iastore, 1) := dk_79 (dk_at dksX3_release_10 10 rfl rfl)
theorem dX3_release_247 : decode cX3_release 247 = .ok (.iload 4, 2) := dk_21 4 (dk_at dksX3_release_10 11 rfl rfl)
theorem dX3_release_249 : decode cX3_release 249 = .ok (.iload_n 3, 1) := dk_29 (dk_at dksX3_release_10 13 rfl rfl)
theorem dX3_release_250 : decode cX3_release 250 = .ok (.if_icmp .lt 7, 3) := dk_161 0 7 (dk_at dksX3_release_10 14 rfl rfl)
theorem dX3_release_253 : decode cX3_release 253 = .ok (.iconst 0, 1) := dk_3 (dk_at dksX3_release_10 17 rfl rfl)
theorem dX3_release_254 : decode cX3_release 254 = .ok (.goto 7, 3) := dk_167 0 7 (dk_at dksX3_release_10 18 rfl rfl)
theorem dX3_release_257 : decode cX3_release 257 = .ok (.iload_n 3, 1) := dk_29 (dk_at dksX3_release_10 21 rfl rfl)
theorem dX3_release_258 : decode cX3_release 258 = .ok (.iload 4, 2) := dk_21 4 (dk_at dksX3_release_10 22 rfl rfl)
theorem dX3_release_260 : decode cX3_release 260 = .ok (.isub, 1) := dk_100 (dk_at dksX3_release_11 0 rfl rfl)
theorem dX3_release_261 : decode cX3_release 261 = .ok (.ireturn, 1) := dk_172 (dk_at dksX3_release_11 1 rfl rfl)
abbrev cX3_splits : ByteArray := prog_13_method_25_code
def yX3_splits : MethodName := ⟨RX3, "splits", "(I)Z"⟩
def dkwX3_splits_6 : List UInt8 := [161, 0, 7, 4, 167, 0, 4, 3, 172]
abbrev dktX3_splits_6 : List UInt8 := dkwX3_splits_6 ++ []
def dkwX3_splits_5 : List UInt8 := [180, 0, 56, 29, 46, 167, 0, 4, 3, 96, 61, 132, 3, 1, 167, 255, 152, 28, 42, 180, 0, 47]
abbrev dktX3_splits_5 : List UInt8 := dkwX3_splits_5 ++ dktX3_splits_6
def dkwX3_splits_4 : List UInt8 := [180, 0, 65, 29, 46, 5, 159, 0, 25, 42, 180, 0, 56, 29, 46, 42, 180, 0, 47, 162, 0, 12, 42]
abbrev dktX3_splits_4 : List UInt8 := dkwX3_splits_4 ++ dktX3_splits_5
def dkwX3_splits_3 : List UInt8 := [46, 42, 180, 0, 62, 27, 46, 160, 0, 7, 4, 167, 0, 4, 3, 54, 4, 28, 21, 4, 153, 0, 35, 42]
abbrev dktX3_splits_3 : List UInt8 := dkwX3_splits_3 ++ dktX3_splits_4
def dkwX3_splits_2 : List UInt8 := [46, 160, 0, 37, 42, 180, 0, 53, 29, 46, 42, 180, 0, 53, 27, 46, 160, 0, 22, 42, 180, 0, 62, 29]
abbrev dktX3_splits_2 : List UInt8 := dkwX3_splits_2 ++ dktX3_splits_3
def dkwX3_splits_1 : List UInt8 := [172, 3, 61, 3, 62, 29, 42, 180, 0, 120, 162, 0, 102, 42, 180, 0, 50, 29, 46, 42, 180, 0, 50, 27]
abbrev dktX3_splits_1 : List UInt8 := dkwX3_splits_1 ++ dktX3_splits_2
def dkwX3_splits_0 : List UInt8 := [42, 180, 0, 65, 27, 46, 5, 159, 0, 16, 42, 180, 0, 56, 27, 46, 42, 180, 0, 47, 161, 0, 5, 3]
abbrev dktX3_splits_0 : List UInt8 := dkwX3_splits_0 ++ dktX3_splits_1
theorem dksX3_splits_0 : cX3_splits.data.toList.drop 0 = dktX3_splits_0 := by decide +kernel
theorem dksX3_splits_1 : cX3_splits.data.toList.drop 24 = dktX3_splits_1 := dk_seg dksX3_splits_0 24 rfl rfl
theorem dksX3_splits_2 : cX3_splits.data.toList.drop 48 = dktX3_splits_2 := dk_seg dksX3_splits_1 24 rfl rfl
theorem dksX3_splits_3 : cX3_splits.data.toList.drop 72 = dktX3_splits_3 := dk_seg dksX3_splits_2 24 rfl rfl
theorem dksX3_splits_4 : cX3_splits.data.toList.drop 96 = dktX3_splits_4 := dk_seg dksX3_splits_3 24 rfl rfl
theorem dksX3_splits_5 : cX3_splits.data.toList.drop 119 = dktX3_splits_5 := dk_seg dksX3_splits_4 23 rfl rfl
theorem dksX3_splits_6 : cX3_splits.data.toList.drop 141 = dktX3_splits_6 := dk_seg dksX3_splits_5 22 rfl rfl
theorem dX3_splits_0 : decode cX3_splits 0 = .ok (.aload_n 0, 1) := dk_42 (dk_at dksX3_splits_0 0 rfl rfl)
theorem dX3_splits_1 : decode cX3_splits 1 = .ok (.getfield 65, 3) := dk_180 0 65 (dk_at dksX3_splits_0 1 rfl rfl)
theorem dX3_splits_4 : decode cX3_splits 4 = .ok (.iload_n 1, 1) := dk_27 (dk_at dksX3_splits_0 4 rfl rfl)
theorem dX3_splits_5 : decode cX3_splits 5 = .ok (.iaload, 1) := dk_46 (dk_at dksX3_splits_0 5 rfl rfl)
theorem dX3_splits_6 : decode cX3_splits 6 = .ok (.iconst 2, 1) := dk_5 (dk_at dksX3_splits_0 6 rfl rfl)
theorem dX3_splits_7 : decode cX3_splits 7 = .ok (.if_icmp .eq 16, 3) := dk_159 0 16 (dk_at dksX3_splits_0 7 rfl rfl)
theorem dX3_splits_10 : decode cX3_splits 10 = .ok (.aload_n 0, 1) := dk_42 (dk_at dksX3_splits_0 10 rfl rfl)
theorem dX3_splits_11 : decode cX3_splits 11 = .ok (.getfield 56, 3) := dk_180 0 56 (dk_at dksX3_splits_0 11 rfl rfl)
theorem dX3_splits_14 : decode cX3_splits 14 = .ok (.iload_n 1, 1) := dk_27 (dk_at dksX3_splits_0 14 rfl rfl)
theorem dX3_splits_15 : decode cX3_splits 15 = .ok (.iaload, 1) := dk_46 (dk_at dksX3_splits_0 15 rfl rfl)
theorem dX3_splits_16 : decode cX3_splits 16 = .ok (.aload_n 0, 1) := dk_42 (dk_at dksX3_splits_0 16 rfl rfl)
theorem dX3_splits_17 : decode cX3_splits 17 = .ok (.getfield 47, 3) := dk_180 0 47 (dk_at dksX3_splits_0 17 rfl rfl)
theorem dX3_splits_20 : decode cX3_splits 20 = .ok (.if_icmp .lt 5, 3) := dk_161 0 5 (dk_at dksX3_splits_0 20 rfl rfl)
theorem dX3_splits_23 : decode cX3_splits 23 = .ok (.iconst 0, 1) := dk_3 (dk_at dksX3_splits_0 23 rfl rfl)
theorem dX3_splits_24 : decode cX3_splits 24 = .ok (.ireturn, 1) := dk_172 (dk_at dksX3_splits_1 0 rfl rfl)
theorem dX3_splits_25 : decode cX3_splits 25 = .ok (.iconst 0, 1) := dk_3 (dk_at dksX3_splits_1 1 rfl rfl)
theorem dX3_splits_26 : decode cX3_splits 26 = .ok (.istore_n 2, 1) := dk_61 (dk_at dksX3_splits_1 2 rfl rfl)
theorem dX3_splits_27 : decode cX3_splits 27 = .ok (.iconst 0, 1) := dk_3 (dk_at dksX3_splits_1 3 rfl rfl)
theorem dX3_splits_28 : decode cX3_splits 28 = .ok (.istore_n 3, 1) := dk_62 (dk_at dksX3_splits_1 4 rfl rfl)
theorem dX3_splits_29 : decode cX3_splits 29 = .ok (.iload_n 3, 1) := dk_29 (dk_at dksX3_splits_1 5 rfl rfl)
theorem dX3_splits_30 : decode cX3_splits 30 = .ok (.aload_n 0, 1) := dk_42 (dk_at dksX3_splits_1 6 rfl rfl)
theorem dX3_splits_31 : decode cX3_splits 31 = .ok (.getfield 120, 3) := dk_180 0 120 (dk_at dksX3_splits_1 7 rfl rfl)
theorem dX3_splits_34 : decode cX3_splits 34 = .ok (.if_icmp .ge 102, 3) := dk_162 0 102 (dk_at dksX3_splits_1 10 rfl rfl)
theorem dX3_splits_37 : decode cX3_splits 37 = .ok (.aload_n 0, 1) := dk_42 (dk_at dksX3_splits_1 13 rfl rfl)
theorem dX3_splits_38 : decode cX3_splits 38 = .ok (.getfield 50, 3) := dk_180 0 50 (dk_at dksX3_splits_1 14 rfl rfl)
theorem dX3_splits_41 : decode cX3_splits 41 = .ok (.iload_n 3, 1) := dk_29 (dk_at dksX3_splits_1 17 rfl rfl)
theorem dX3_splits_42 : decode cX3_splits 42 = .ok (.iaload, 1) := dk_46 (dk_at dksX3_splits_1 18 rfl rfl)
theorem dX3_splits_43 : decode cX3_splits 43 = .ok (.aload_n 0, 1) := dk_42 (dk_at dksX3_splits_1 19 rfl rfl)
theorem dX3_splits_44 : decode cX3_splits 44 = .ok (.getfield 50, 3) := dk_180 0 50 (dk_at dksX3_splits_1 20 rfl rfl)
theorem dX3_splits_47 : decode cX3_splits 47 = .ok (.iload_n 1, 1) := dk_27 (dk_at dksX3_splits_1 23 rfl rfl)
theorem dX3_splits_48 : decode cX3_splits 48 = .ok (.iaload, 1) := dk_46 (dk_at dksX3_splits_2 0 rfl rfl)
theorem dX3_splits_49 : decode cX3_splits 49 = .ok (.if_icmp .ne 37, 3) := dk_160 0 37 (dk_at dksX3_splits_2 1 rfl rfl)
theorem dX3_splits_52 : decode cX3_splits 52 = .ok (.aload_n 0, 1) := dk_42 (dk_at dksX3_splits_2 4 rfl rfl)
theorem dX3_splits_53 : decode cX3_splits 53 = .ok (.getfield 53, 3) := dk_180 0 53 (dk_at dksX3_splits_2 5 rfl rfl)
theorem dX3_splits_56 : decode cX3_splits 56 = .ok (.iload_n 3, 1) := dk_29 (dk_at dksX3_splits_2 8 rfl rfl)
theorem dX3_splits_57 : decode cX3_splits 57 = .ok (.iaload, 1) := dk_46 (dk_at dksX3_splits_2 9 rfl rfl)
theorem dX3_splits_58 : decode cX3_splits 58 = .ok (.aload_n 0, 1) := dk_42 (dk_at dksX3_splits_2 10 rfl rfl)
theorem dX3_splits_59 : decode cX3_splits 59 = .ok (.getfield 53, 3) := dk_180 0 53 (dk_at dksX3_splits_2 11 rfl rfl)
theorem dX3_splits_62 : decode cX3_splits 62 = .ok (.iload_n 1, 1) := dk_27 (dk_at dksX3_splits_2 14 rfl rfl)
theorem dX3_splits_63 : decode cX3_splits 63 = .ok (.iaload, 1) := dk_46 (dk_at dksX3_splits_2 15 rfl rfl)
theorem dX3_splits_64 : decode cX3_splits 64 = .ok (.if_icmp .ne 22, 3) := dk_160 0 22 (dk_at dksX3_splits_2 16 rfl rfl)
theorem dX3_splits_67 : decode cX3_splits 67 = .ok (.aload_n 0, 1) := dk_42 (dk_at dksX3_splits_2 19 rfl rfl)
theorem dX3_splits_68 : decode cX3_splits 68 = .ok (.getfield 62, 3) := dk_180 0 62 (dk_at dksX3_splits_2 20 rfl rfl)
theorem dX3_splits_71 : decode cX3_splits 71 = .ok (.iload_n 3, 1) := dk_29 (dk_at dksX3_splits_2 23 rfl rfl)
theorem dX3_splits_72 : decode cX3_splits 72 = .ok (.iaload, 1) := dk_46 (dk_at dksX3_splits_3 0 rfl rfl)
theorem dX3_splits_73 : decode cX3_splits 73 = .ok (.aload_n 0, 1) := dk_42 (dk_at dksX3_splits_3 1 rfl rfl)
theorem dX3_splits_74 : decode cX3_splits 74 = .ok (.getfield 62, 3) := dk_180 0 62 (dk_at dksX3_splits_3 2 rfl rfl)
theorem dX3_splits_77 : decode cX3_splits 77 = .ok (.iload_n 1, 1) := dk_27 (dk_at dksX3_splits_3 5 rfl rfl)
theorem dX3_splits_78 : decode cX3_splits 78 = .ok (.iaload, 1) := dk_46 (dk_at dksX3_splits_3 6 rfl rfl)
theorem dX3_splits_79 : decode cX3_splits 79 = .ok (.if_icmp .ne 7, 3) := dk_160 0 7 (dk_at dksX3_splits_3 7 rfl rfl)
theorem dX3_splits_82 : decode cX3_splits 82 = .ok (.iconst 1, 1) := dk_4 (dk_at dksX3_splits_3 10 rfl rfl)
theorem dX3_splits_83 : decode cX3_splits 83 = .ok (.goto 4, 3) := dk_167 0 4 (dk_at dksX3_splits_3 11 rfl rfl)
theorem dX3_splits_86 : decode cX3_splits 86 = .ok (.iconst 0, 1) := dk_3 (dk_at dksX3_splits_3 14 rfl rfl)
theorem dX3_splits_87 : decode cX3_splits 87 = .ok (.istore 4, 2) := dk_54 4 (dk_at dksX3_splits_3 15 rfl rfl)
theorem dX3_splits_89 : decode cX3_splits 89 = .ok (.iload_n 2, 1) := dk_28 (dk_at dksX3_splits_3 17 rfl rfl)
theorem dX3_splits_90 : decode cX3_splits 90 = .ok (.iload 4, 2) := dk_21 4 (dk_at dksX3_splits_3 18 rfl rfl)
theorem dX3_splits_92 : decode cX3_splits 92 = .ok (.ifCond .eq 35, 3) := dk_153 0 35 (dk_at dksX3_splits_3 20 rfl rfl)
theorem dX3_splits_95 : decode cX3_splits 95 = .ok (.aload_n 0, 1) := dk_42 (dk_at dksX3_splits_3 23 rfl rfl)
theorem dX3_splits_96 : decode cX3_splits 96 = .ok (.getfield 65, 3) := dk_180 0 65 (dk_at dksX3_splits_4 0 rfl rfl)
theorem dX3_splits_99 : decode cX3_splits 99 = .ok (.iload_n 3, 1) := dk_29 (dk_at dksX3_splits_4 3 rfl rfl)
theorem dX3_splits_100 : decode cX3_splits 100 = .ok (.iaload, 1) := dk_46 (dk_at dksX3_splits_4 4 rfl rfl)
theorem dX3_splits_101 : decode cX3_splits 101 = .ok (.iconst 2, 1) := dk_5 (dk_at dksX3_splits_4 5 rfl rfl)
theorem dX3_splits_102 : decode cX3_splits 102 = .ok (.if_icmp .eq 25, 3) := dk_159 0 25 (dk_at dksX3_splits_4 6 rfl rfl)
theorem dX3_splits_105 : decode cX3_splits 105 = .ok (.aload_n 0, 1) := dk_42 (dk_at dksX3_splits_4 9 rfl rfl)
theorem dX3_splits_106 : decode cX3_splits 106 = .ok (.getfield 56, 3) := dk_180 0 56 (dk_at dksX3_splits_4 10 rfl rfl)
theorem dX3_splits_109 : decode cX3_splits 109 = .ok (.iload_n 3, 1) := dk_29 (dk_at dksX3_splits_4 13 rfl rfl)
theorem dX3_splits_110 : decode cX3_splits 110 = .ok (.iaload, 1) := dk_46 (dk_at dksX3_splits_4 14 rfl rfl)
theorem dX3_splits_111 : decode cX3_splits 111 = .ok (.aload_n 0, 1) := dk_42 (dk_at dksX3_splits_4 15 rfl rfl)
theorem dX3_splits_112 : decode cX3_splits 112 = .ok (.getfield 47, 3) := dk_180 0 47 (dk_at dksX3_splits_4 16 rfl rfl)
theorem dX3_splits_115 : decode cX3_splits 115 = .ok (.if_icmp .ge 12, 3) := dk_162 0 12 (dk_at dksX3_splits_4 19 rfl rfl)
theorem dX3_splits_118 : decode cX3_splits 118 = .ok (.aload_n 0, 1) := dk_42 (dk_at dksX3_splits_4 22 rfl rfl)
theorem dX3_splits_119 : decode cX3_splits 119 = .ok (.getfield 56, 3) := dk_180 0 56 (dk_at dksX3_splits_5 0 rfl rfl)
theorem dX3_splits_122 : decode cX3_splits 122 = .ok (.iload_n 3, 1) := dk_29 (dk_at dksX3_splits_5 3 rfl rfl)
theorem dX3_splits_123 : decode cX3_splits 123 = .ok (.iaload, 1) := dk_46 (dk_at dksX3_splits_5 4 rfl rfl)
theorem dX3_splits_124 : decode cX3_splits 124 = .ok (.goto 4, 3) := dk_167 0 4 (dk_at dksX3_splits_5 5 rfl rfl)
theorem dX3_splits_127 : decode cX3_splits 127 = .ok (.iconst 0, 1) := dk_3 (dk_at dksX3_splits_5 8 rfl rfl)
theorem dX3_splits_128 : decode cX3_splits 128 = .ok (.iadd, 1) := dk_96 (dk_at dksX3_splits_5 9 rfl rfl)
theorem dX3_splits_129 : decode cX3_splits 129 = .ok (.istore_n 2, 1) := dk_61 (dk_at dksX3_splits_5 10 rfl rfl)
theorem dX3_splits_130 : decode cX3_splits 130 = .ok (.iinc 3 1, 3) := dk_132 3 1 (dk_at dksX3_splits_5 11 rfl rfl)
theorem dX3_splits_133 : decode cX3_splits 133 = .ok (.goto (-104), 3) := dk_167 255 152 (dk_at dksX3_splits_5 14 rfl rfl)
theorem dX3_splits_136 : decode cX3_splits 136 = .ok (.iload_n 2, 1) := dk_28 (dk_at dksX3_splits_5 17 rfl rfl)
theorem dX3_splits_137 : decode cX3_splits 137 = .ok (.aload_n 0, 1) := dk_42 (dk_at dksX3_splits_5 18 rfl rfl)
theorem dX3_splits_138 : decode cX3_splits 138 = .ok (.getfield 47, 3) := dk_180 0 47 (dk_at dksX3_splits_5 19 rfl rfl)
theorem dX3_splits_141 : decode cX3_splits 141 = .ok (.if_icmp .lt 7, 3) := dk_161 0 7 (dk_at dksX3_splits_6 0 rfl rfl)
theorem dX3_splits_144 : decode cX3_splits 144 = .ok (.iconst 1, 1) := dk_4 (dk_at dksX3_splits_6 3 rfl rfl)
theorem dX3_splits_145 : decode cX3_splits 145 = .ok (.goto 4, 3) := dk_167 0 4 (dk_at dksX3_splits_6 4 rfl rfl)
theorem dX3_splits_148 : decode cX3_splits 148 = .ok (.iconst 0, 1) := dk_3 (dk_at dksX3_splits_6 7 rfl rfl)
theorem dX3_splits_149 : decode cX3_splits 149 = .ok (.ireturn, 1) := dk_172 (dk_at dksX3_splits_6 8 rfl rfl)
abbrev cX3_refuse : ByteArray := prog_13_method_27_code
def yX3_refuse : MethodName := ⟨RX3, "refuse", "(I)I"⟩
def dkwX3_refuse_4 : List UInt8 := [29, 182, 0, 123, 154, 0, 7, 4, 167, 0, 4, 3, 96, 61, 132, 3, 1, 167, 255, 214, 28, 172]
abbrev dktX3_refuse_4 : List UInt8 := dkwX3_refuse_4 ++ []
def dkwX3_refuse_3 : List UInt8 := [42, 180, 0, 120, 162, 0, 40, 28, 29, 27, 159, 0, 25, 42, 180, 0, 71, 29, 46, 4, 160, 0, 15, 42]
abbrev dktX3_refuse_3 : List UInt8 := dkwX3_refuse_3 ++ dktX3_refuse_4
def dkwX3_refuse_2 : List UInt8 := [4, 167, 0, 4, 3, 79, 132, 2, 1, 167, 255, 226, 42, 180, 0, 65, 27, 5, 79, 3, 61, 3, 62, 29]
abbrev dktX3_refuse_2 : List UInt8 := dkwX3_refuse_2 ++ dktX3_refuse_3
def dkwX3_refuse_1 : List UInt8 := [172, 3, 61, 28, 42, 180, 0, 120, 162, 0, 28, 42, 180, 0, 71, 28, 42, 28, 182, 0, 123, 153, 0, 7]
abbrev dktX3_refuse_1 : List UInt8 := dkwX3_refuse_1 ++ dktX3_refuse_2
def dkwX3_refuse_0 : List UInt8 := [42, 27, 182, 0, 126, 154, 0, 5, 3, 172, 42, 180, 0, 65, 27, 46, 153, 0, 9, 42, 5, 182, 0, 117]
abbrev dktX3_refuse_0 : List UInt8 := dkwX3_refuse_0 ++ dktX3_refuse_1
theorem dksX3_refuse_0 : cX3_refuse.data.toList.drop 0 = dktX3_refuse_0 := by decide +kernel
theorem dksX3_refuse_1 : cX3_refuse.data.toList.drop 24 = dktX3_refuse_1 := dk_seg dksX3_refuse_0 24 rfl rfl
theorem dksX3_refuse_2 : cX3_refuse.data.toList.drop 48 = dktX3_refuse_2 := dk_seg dksX3_refuse_1 24 rfl rfl
theorem dksX3_refuse_3 : cX3_refuse.data.toList.drop 72 = dktX3_refuse_3 := dk_seg dksX3_refuse_2 24 rfl rfl
theorem dksX3_refuse_4 : cX3_refuse.data.toList.drop 96 = dktX3_refuse_4 := dk_seg dksX3_refuse_3 24 rfl rfl
theorem dX3_refuse_0 : decode cX3_refuse 0 = .ok (.aload_n 0, 1) := dk_42 (dk_at dksX3_refuse_0 0 rfl rfl)
theorem dX3_refuse_1 : decode cX3_refuse 1 = .ok (.iload_n 1, 1) := dk_27 (dk_at dksX3_refuse_0 1 rfl rfl)
theorem dX3_refuse_2 : decode cX3_refuse 2 = .ok (.invokevirtual 126, 3) := dk_182 0 126 (dk_at dksX3_refuse_0 2 rfl rfl)
theorem dX3_refuse_5 : decode cX3_refuse 5 = .ok (.ifCond .ne 5, 3) := dk_154 0 5 (dk_at dksX3_refuse_0 5 rfl rfl)
theorem dX3_refuse_8 : decode cX3_refuse 8 = .ok (.iconst 0, 1) := dk_3 (dk_at dksX3_refuse_0 8 rfl rfl)
theorem dX3_refuse_9 : decode cX3_refuse 9 = .ok (.ireturn, 1) := dk_172 (dk_at dksX3_refuse_0 9 rfl rfl)
theorem dX3_refuse_10 : decode cX3_refuse 10 = .ok (.aload_n 0, 1) := dk_42 (dk_at dksX3_refuse_0 10 rfl rfl)
theorem dX3_refuse_11 : decode cX3_refuse 11 = .ok (.getfield 65, 3) := dk_180 0 65 (dk_at dksX3_refuse_0 11 rfl rfl)
theorem dX3_refuse_14 : decode cX3_refuse 14 = .ok (.iload_n 1, 1) := dk_27 (dk_at dksX3_refuse_0 14 rfl rfl)
theorem dX3_refuse_15 : decode cX3_refuse 15 = .ok (.iaload, 1) := dk_46 (dk_at dksX3_refuse_0 15 rfl rfl)
theorem dX3_refuse_16 : decode cX3_refuse 16 = .ok (.ifCond .eq 9, 3) := dk_153 0 9 (dk_at dksX3_refuse_0 16 rfl rfl)
theorem dX3_refuse_19 : decode cX3_refuse 19 = .ok (.aload_n 0, 1) := dk_42 (dk_at dksX3_refuse_0 19 rfl rfl)
theorem dX3_refuse_20 : decode cX3_refuse 20 = .ok (.iconst 2, 1) := dk_5 (dk_at dksX3_refuse_0 20 rfl rfl)
theorem dX3_refuse_21 : decode cX3_refuse 21 = .ok (.invokevirtual 117, 3) := dk_182 0 117 (dk_at dksX3_refuse_0 21 rfl rfl)
theorem dX3_refuse_24 : decode cX3_refuse 24 = .ok (.ireturn, 1) := dk_172 (dk_at dksX3_refuse_1 0 rfl rfl)
theorem dX3_refuse_25 : decode cX3_refuse 25 = .ok (.iconst 0, 1) := dk_3 (dk_at dksX3_refuse_1 1 rfl rfl)
theorem dX3_refuse_26 : decode cX3_refuse 26 = .ok (.istore_n 2, 1) := dk_61 (dk_at dksX3_refuse_1 2 rfl rfl)
theorem dX3_refuse_27 : decode cX3_refuse 27 = .ok (.iload_n 2, 1) := dk_28 (dk_at dksX3_refuse_1 3 rfl rfl)
theorem dX3_refuse_28 : decode cX3_refuse 28 = .ok (.aload_n 0, 1) := dk_42 (dk_at dksX3_refuse_1 4 rfl rfl)
theorem dX3_refuse_29 : decode cX3_refuse 29 = .ok (.getfield 120, 3) := dk_180 0 120 (dk_at dksX3_refuse_1 5 rfl rfl)
theorem dX3_refuse_32 : decode cX3_refuse 32 = .ok (.if_icmp .ge 28, 3) := dk_162 0 28 (dk_at dksX3_refuse_1 8 rfl rfl)
theorem dX3_refuse_35 : decode cX3_refuse 35 = .ok (.aload_n 0, 1) := dk_42 (dk_at dksX3_refuse_1 11 rfl rfl)
theorem dX3_refuse_36 : decode cX3_refuse 36 = .ok (.getfield 71, 3) := dk_180 0 71 (dk_at dksX3_refuse_1 12 rfl rfl)
theorem dX3_refuse_39 : decode cX3_refuse 39 = .ok (.iload_n 2, 1) := dk_28 (dk_at dksX3_refuse_1 15 rfl rfl)
theorem dX3_refuse_40 : decode cX3_refuse 40 = .ok (.aload_n 0, 1) := dk_42 (dk_at dksX3_refuse_1 16 rfl rfl)
theorem dX3_refuse_41 : decode cX3_refuse 41 = .ok (.iload_n 2, 1) := dk_28 (dk_at dksX3_refuse_1 17 rfl rfl)
theorem dX3_refuse_42 : decode cX3_refuse 42 = .ok (.invokevirtual 123, 3) := dk_182 0 123 (dk_at dksX3_refuse_1 18 rfl rfl)
theorem dX3_refuse_45 : decode cX3_refuse 45 = .ok (.ifCond .eq 7, 3) := dk_153 0 7 (dk_at dksX3_refuse_1 21 rfl rfl)
theorem dX3_refuse_48 : decode cX3_refuse 48 = .ok (.iconst 1, 1) := dk_4 (dk_at dksX3_refuse_2 0 rfl rfl)
theorem dX3_refuse_49 : decode cX3_refuse 49 = .ok (.goto 4, 3) := dk_167 0 4 (dk_at dksX3_refuse_2 1 rfl rfl)
theorem dX3_refuse_52 : decode cX3_refuse 52 = .ok (.iconst 0, 1) := dk_3 (dk_at dksX3_refuse_2 4 rfl rfl)
theorem dX3_refuse_53 : decode cX3_refuse 53 = .ok (.iastore, 1) := dk_79 (dk_at dksX3_refuse_2 5 rfl rfl)
theorem dX3_refuse_54 : decode cX3_refuse 54 = .ok (.iinc 2 1, 3) := dk_132 2 1 (dk_at dksX3_refuse_2 6 rfl rfl)
theorem dX3_refuse_57 : decode cX3_refuse 57 = .ok (.goto (-30), 3) := dk_167 255 226 (dk_at dksX3_refuse_2 9 rfl rfl)
theorem dX3_refuse_60 : decode cX3_refuse 60 = .ok (.aload_n 0, 1) := dk_42 (dk_at dksX3_refuse_2 12 rfl rfl)
theorem dX3_refuse_61 : decode cX3_refuse 61 = .ok (.getfield 65, 3) := dk_180 0 65 (dk_at dksX3_refuse_2 13 rfl rfl)
theorem dX3_refuse_64 : decode cX3_refuse 64 = .ok (.iload_n 1, 1) := dk_27 (dk_at dksX3_refuse_2 16 rfl rfl)
theorem dX3_refuse_65 : decode cX3_refuse 65 = .ok (.iconst 2, 1) := dk_5 (dk_at dksX3_refuse_2 17 rfl rfl)
theorem dX3_refuse_66 : decode cX3_refuse 66 = .ok (.iastore, 1) := dk_79 (dk_at dksX3_refuse_2 18 rfl rfl)
theorem dX3_refuse_67 : decode cX3_refuse 67 = .ok (.iconst 0, 1) := dk_3 (dk_at dksX3_refuse_2 19 rfl rfl)
theorem dX3_refuse_68 : decode cX3_refuse 68 = .ok (.istore_n 2, 1) := dk_61 (dk_at dksX3_refuse_2 20 rfl rfl)
theorem dX3_refuse_69 : decode cX3_refuse 69 = .ok (.iconst 0, 1) := dk_3 (dk_at dksX3_refuse_2 21 rfl rfl)
theorem dX3_refuse_70 : decode cX3_refuse 70 = .ok (.istore_n 3, 1) := dk_62 (dk_at dksX3_refuse_2 22 rfl rfl)
theorem dX3_refuse_71 : decode cX3_refuse 71 = .ok (.iload_n 3, 1) := dk_29 (dk_at dksX3_refuse_2 23 rfl rfl)
theorem dX3_refuse_72 : decode cX3_refuse 72 = .ok (.aload_n 0, 1) := dk_42 (dk_at dksX3_refuse_3 0 rfl rfl)
theorem dX3_refuse_73 : decode cX3_refuse 73 = .ok (.getfield 120, 3) := dk_180 0 120 (dk_at dksX3_refuse_3 1 rfl rfl)
theorem dX3_refuse_76 : decode cX3_refuse 76 = .ok (.if_icmp .ge 40, 3) := dk_162 0 40 (dk_at dksX3_refuse_3 4 rfl rfl)
theorem dX3_refuse_79 : decode cX3_refuse 79 = .ok (.iload_n 2, 1) := dk_28 (dk_at dksX3_refuse_3 7 rfl rfl)
theorem dX3_refuse_80 : decode cX3_refuse 80 = .ok (.iload_n 3, 1) := dk_29 (dk_at dksX3_refuse_3 8 rfl rfl)
theorem dX3_refuse_81 : decode cX3_refuse 81 = .ok (.iload_n 1, 1) := dk_27 (dk_at dksX3_refuse_3 9 rfl rfl)
theorem dX3_refuse_82 : decode cX3_refuse 82 = .ok (.if_icmp .eq 25, 3) := dk_159 0 25 (dk_at dksX3_refuse_3 10 rfl rfl)
theorem dX3_refuse_85 : decode cX3_refuse 85 = .ok (.aload_n 0, 1) := dk_42 (dk_at dksX3_refuse_3 13 rfl rfl)
theorem dX3_refuse_86 : decode cX3_refuse 86 = .ok (.getfield 71, 3) := dk_180 0 71 (dk_at dksX3_refuse_3 14 rfl rfl)
theorem dX3_refuse_89 : decode cX3_refuse 89 = .ok (.iload_n 3, 1) := dk_29 (dk_at dksX3_refuse_3 17 rfl rfl)
theorem dX3_refuse_90 : decode cX3_refuse 90 = .ok (.iaload, 1) := dk_46 (dk_at dksX3_refuse_3 18 rfl rfl)
theorem dX3_refuse_91 : decode cX3_refuse 91 = .ok (.iconst 1, 1) := dk_4 (dk_at dksX3_refuse_3 19 rfl rfl)
theorem dX3_refuse_92 : decode cX3_refuse 92 = .ok (.if_icmp .ne 15, 3) := dk_160 0 15 (dk_at dksX3_refuse_3 20 rfl rfl)
theorem dX3_refuse_95 : decode cX3_refuse 95 = .ok (.aload_n 0, 1) := dk_42 (dk_at dksX3_refuse_3 23 rfl rfl)
theorem dX3_refuse_96 : decode cX3_refuse 96 = .ok (.iload_n 3, 1) := dk_29 (dk_at dksX3_refuse_4 0 rfl rfl)
theorem dX3_refuse_97 : decode cX3_refuse 97 = .ok (.invokevirtual 123, 3) := dk_182 0 123 (dk_at dksX3_refuse_4 1 rfl rfl)
theorem dX3_refuse_100 : decode cX3_refuse 100 = .ok (.ifCond .ne 7, 3) := dk_154 0 7 (dk_at dksX3_refuse_4 4 rfl rfl)
theorem dX3_refuse_103 : decode cX3_refuse 103 = .ok (.iconst 1, 1) := dk_4 (dk_at dksX3_refuse_4 7 rfl rfl)
theorem dX3_refuse_104 : decode cX3_refuse 104 = .ok (.goto 4, 3) := dk_167 0 4 (dk_at dksX3_refuse_4 8 rfl rfl)
theorem dX3_refuse_107 : decode cX3_refuse 107 = .ok (.iconst 0, 1) := dk_3 (dk_at dksX3_refuse_4 11 rfl rfl)
theorem dX3_refuse_108 : decode cX3_refuse 108 = .ok (.iadd, 1) := dk_96 (dk_at dksX3_refuse_4 12 rfl rfl)
theorem dX3_refuse_109 : decode cX3_refuse 109 = .ok (.istore_n 2, 1) := dk_61 (dk_at dksX3_refuse_4 13 rfl rfl)
theorem dX3_refuse_110 : decode cX3_refuse 110 = .ok (.iinc 3 1, 3) := dk_132 3 1 (dk_at dksX3_refuse_4 14 rfl rfl)
theorem dX3_refuse_113 : decode cX3_refuse 113 = .ok (.goto (-42), 3) := dk_167 255 214 (dk_at dksX3_refuse_4 17 rfl rfl)
theorem dX3_refuse_116 : decode cX3_refuse 116 = .ok (.iload_n 2, 1) := dk_28 (dk_at dksX3_refuse_4 20 rfl rfl)
theorem dX3_refuse_117 : decode cX3_refuse 117 = .ok (.ireturn, 1) := dk_172 (dk_at dksX3_refuse_4 21 rfl rfl)
abbrev cX3_isPayment : ByteArray := prog_13_method_24_code
def yX3_isPayment : MethodName := ⟨RX3, "isPayment", "(I)Z"⟩
def dkwX3_isPayment_1 : List UInt8 := [180, 0, 83, 154, 0, 7, 4, 167, 0, 4, 3, 172]
abbrev dktX3_isPayment_1 : List UInt8 := dkwX3_isPayment_1 ++ []
def dkwX3_isPayment_0 : List UInt8 := [42, 27, 3, 42, 180, 0, 120, 4, 100, 184, 0, 86, 153, 0, 7, 3, 167, 0, 4, 4, 181, 0, 83, 42]
abbrev dktX3_isPayment_0 : List UInt8 := dkwX3_isPayment_0 ++ dktX3_isPayment_1
theorem dksX3_isPayment_0 : cX3_isPayment.data.toList.drop 0 = dktX3_isPayment_0 := by decide +kernel
theorem dksX3_isPayment_1 : cX3_isPayment.data.toList.drop 24 = dktX3_isPayment_1 := dk_seg dksX3_isPayment_0 24 rfl rfl
theorem dX3_isPayment_0 : decode cX3_isPayment 0 = .ok (.aload_n 0, 1) := dk_42 (dk_at dksX3_isPayment_0 0 rfl rfl)
theorem dX3_isPayment_1 : decode cX3_isPayment 1 = .ok (.iload_n 1, 1) := dk_27 (dk_at dksX3_isPayment_0 1 rfl rfl)
theorem dX3_isPayment_2 : decode cX3_isPayment 2 = .ok (.iconst 0, 1) := dk_3 (dk_at dksX3_isPayment_0 2 rfl rfl)
theorem dX3_isPayment_3 : decode cX3_isPayment 3 = .ok (.aload_n 0, 1) := dk_42 (dk_at dksX3_isPayment_0 3 rfl rfl)
theorem dX3_isPayment_4 : decode cX3_isPayment 4 = .ok (.getfield 120, 3) := dk_180 0 120 (dk_at dksX3_isPayment_0 4 rfl rfl)
theorem dX3_isPayment_7 : decode cX3_isPayment 7 = .ok (.iconst 1, 1) := dk_4 (dk_at dksX3_isPayment_0 7 rfl rfl)
theorem dX3_isPayment_8 : decode cX3_isPayment 8 = .ok (.isub, 1) := dk_100 (dk_at dksX3_isPayment_0 8 rfl rfl)
theorem dX3_isPayment_9 : decode cX3_isPayment 9 = .ok (.invokestatic 86, 3) := dk_184 0 86 (dk_at dksX3_isPayment_0 9 rfl rfl)
theorem dX3_isPayment_12 : decode cX3_isPayment 12 = .ok (.ifCond .eq 7, 3) := dk_153 0 7 (dk_at dksX3_isPayment_0 12 rfl rfl)
theorem dX3_isPayment_15 : decode cX3_isPayment 15 = .ok (.iconst 0, 1) := dk_3 (dk_at dksX3_isPayment_0 15 rfl rfl)
theorem dX3_isPayment_16 : decode cX3_isPayment 16 = .ok (.goto 4, 3) := dk_167 0 4 (dk_at dksX3_isPayment_0 16 rfl rfl)
theorem dX3_isPayment_19 : decode cX3_isPayment 19 = .ok (.iconst 1, 1) := dk_4 (dk_at dksX3_isPayment_0 19 rfl rfl)
theorem dX3_isPayment_20 : decode cX3_isPayment 20 = .ok (.putfield 83, 3) := dk_181 0 83 (dk_at dksX3_isPayment_0 20 rfl rfl)
theorem dX3_isPayment_23 : decode cX3_isPayment 23 = .ok (.aload_n 0, 1) := dk_42 (dk_at dksX3_isPayment_0 23 rfl rfl)
theorem dX3_isPayment_24 : decode cX3_isPayment 24 = .ok (.getfield 83, 3) := dk_180 0 83 (dk_at dksX3_isPayment_1 0 rfl rfl)
theorem dX3_isPayment_27 : decode cX3_isPayment 27 = .ok (.ifCond .ne 7, 3) := dk_154 0 7 (dk_at dksX3_isPayment_1 3 rfl rfl)
theorem dX3_isPayment_30 : decode cX3_isPayment 30 = .ok (.iconst 1, 1) := dk_4 (dk_at dksX3_isPayment_1 6 rfl rfl)
theorem dX3_isPayment_31 : decode cX3_isPayment 31 = .ok (.goto 4, 3) := dk_167 0 4 (dk_at dksX3_isPayment_1 7 rfl rfl)
theorem dX3_isPayment_34 : decode cX3_isPayment 34 = .ok (.iconst 0, 1) := dk_3 (dk_at dksX3_isPayment_1 10 rfl rfl)
theorem dX3_isPayment_35 : decode cX3_isPayment 35 = .ok (.ireturn, 1) := dk_172 (dk_at dksX3_isPayment_1 11 rfl rfl)
abbrev cX3_stateOf : ByteArray := prog_13_method_28_code
def yX3_stateOf : MethodName := ⟨RX3, "stateOf", "(I)I"⟩
def dkwX3_stateOf_0 : List UInt8 := [42, 27, 182, 0, 126, 153, 0, 12, 42, 180, 0, 65, 27, 46, 167, 0, 4, 3, 172]
abbrev dktX3_stateOf_0 : List UInt8 := dkwX3_stateOf_0 ++ []
theorem dksX3_stateOf_0 : cX3_stateOf.data.toList.drop 0 = dktX3_stateOf_0 := by decide +kernel
theorem dX3_stateOf_0 : decode cX3_stateOf 0 = .ok (.aload_n 0, 1) := dk_42 (dk_at dksX3_stateOf_0 0 rfl rfl)
theorem dX3_stateOf_1 : decode cX3_stateOf 1 = .ok (.iload_n 1, 1) := dk_27 (dk_at dksX3_stateOf_0 1 rfl rfl)
theorem dX3_stateOf_2 : decode cX3_stateOf 2 = .ok (.invokevirtual 126, 3) := dk_182 0 126 (dk_at dksX3_stateOf_0 2 rfl rfl)
theorem dX3_stateOf_5 : decode cX3_stateOf 5 = .ok (.ifCond .eq 12, 3) := dk_153 0 12 (dk_at dksX3_stateOf_0 5 rfl rfl)
theorem dX3_stateOf_8 : decode cX3_stateOf 8 = .ok (.aload_n 0, 1) := dk_42 (dk_at dksX3_stateOf_0 8 rfl rfl)
theorem dX3_stateOf_9 : decode cX3_stateOf 9 = .ok (.getfield 65, 3) := dk_180 0 65 (dk_at dksX3_stateOf_0 9 rfl rfl)
theorem dX3_stateOf_12 : decode cX3_stateOf 12 = .ok (.iload_n 1, 1) := dk_27 (dk_at dksX3_stateOf_0 12 rfl rfl)
theorem dX3_stateOf_13 : decode cX3_stateOf 13 = .ok (.iaload, 1) := dk_46 (dk_at dksX3_stateOf_0 13 rfl rfl)
theorem dX3_stateOf_14 : decode cX3_stateOf 14 = .ok (.goto 4, 3) := dk_167 0 4 (dk_at dksX3_stateOf_0 14 rfl rfl)
theorem dX3_stateOf_17 : decode cX3_stateOf 17 = .ok (.iconst 0, 1) := dk_3 (dk_at dksX3_stateOf_0 17 rfl rfl)
theorem dX3_stateOf_18 : decode cX3_stateOf 18 = .ok (.ireturn, 1) := dk_172 (dk_at dksX3_stateOf_0 18 rfl rfl)
abbrev cX3_isSplit : ByteArray := prog_13_method_29_code
def yX3_isSplit : MethodName := ⟨RX3, "isSplit", "(I)Z"⟩
def dkwX3_isSplit_0 : List UInt8 := [42, 27, 182, 0, 126, 153, 0, 15, 42, 27, 182, 0, 123, 153, 0, 7, 4, 167, 0, 4, 3, 172]
abbrev dktX3_isSplit_0 : List UInt8 := dkwX3_isSplit_0 ++ []
theorem dksX3_isSplit_0 : cX3_isSplit.data.toList.drop 0 = dktX3_isSplit_0 := by decide +kernel
theorem dX3_isSplit_0 : decode cX3_isSplit 0 = .ok (.aload_n 0, 1) := dk_42 (dk_at dksX3_isSplit_0 0 rfl rfl)
theorem dX3_isSplit_1 : decode cX3_isSplit 1 = .ok (.iload_n 1, 1) := dk_27 (dk_at dksX3_isSplit_0 1 rfl rfl)
theorem dX3_isSplit_2 : decode cX3_isSplit 2 = .ok (.invokevirtual 126, 3) := dk_182 0 126 (dk_at dksX3_isSplit_0 2 rfl rfl)
theorem dX3_isSplit_5 : decode cX3_isSplit 5 = .ok (.ifCond .eq 15, 3) := dk_153 0 15 (dk_at dksX3_isSplit_0 5 rfl rfl)
theorem dX3_isSplit_8 : decode cX3_isSplit 8 = .ok (.aload_n 0, 1) := dk_42 (dk_at dksX3_isSplit_0 8 rfl rfl)
theorem dX3_isSplit_9 : decode cX3_isSplit 9 = .ok (.iload_n 1, 1) := dk_27 (dk_at dksX3_isSplit_0 9 rfl rfl)
theorem dX3_isSplit_10 : decode cX3_isSplit 10 = .ok (.invokevirtual 123, 3) := dk_182 0 123 (dk_at dksX3_isSplit_0 10 rfl rfl)
theorem dX3_isSplit_13 : decode cX3_isSplit 13 = .ok (.ifCond .eq 7, 3) := dk_153 0 7 (dk_at dksX3_isSplit_0 13 rfl rfl)
theorem dX3_isSplit_16 : decode cX3_isSplit 16 = .ok (.iconst 1, 1) := dk_4 (dk_at dksX3_isSplit_0 16 rfl rfl)
theorem dX3_isSplit_17 : decode cX3_isSplit 17 = .ok (.goto 4, 3) := dk_167 0 4 (dk_at dksX3_isSplit_0 17 rfl rfl)
theorem dX3_isSplit_20 : decode cX3_isSplit 20 = .ok (.iconst 0, 1) := dk_3 (dk_at dksX3_isSplit_0 20 rfl rfl)
theorem dX3_isSplit_21 : decode cX3_isSplit 21 = .ok (.ireturn, 1) := dk_172 (dk_at dksX3_isSplit_0 21 rfl rfl)
abbrev cX3_advance : ByteArray := prog_13_method_30_code
def yX3_advance : MethodName := ⟨RX3, "advance", "(II)I"⟩
def dkwX3_advance_6 : List UInt8 := [182, 0, 101, 87, 42, 89, 180, 0, 129, 4, 96, 181, 0, 129, 42, 180, 0, 129, 4, 100, 172]
abbrev dktX3_advance_6 : List UInt8 := dkwX3_advance_6 ++ []
def dkwX3_advance_5 : List UInt8 := [180, 0, 129, 27, 79, 42, 180, 0, 77, 42, 180, 0, 129, 28, 79, 42, 42, 180, 0, 97, 4, 3, 28]
abbrev dktX3_advance_5 : List UInt8 := dkwX3_advance_5 ++ dktX3_advance_6
def dkwX3_advance_4 : List UInt8 := [3, 181, 0, 83, 132, 3, 1, 167, 255, 210, 42, 180, 0, 83, 158, 0, 5, 3, 172, 42, 180, 0, 74, 42]
abbrev dktX3_advance_4 : List UInt8 := dkwX3_advance_4 ++ dktX3_advance_5
def dkwX3_advance_3 : List UInt8 := [42, 42, 180, 0, 74, 29, 46, 27, 160, 0, 16, 42, 180, 0, 80, 29, 46, 154, 0, 7, 6, 167, 0, 4]
abbrev dktX3_advance_3 : List UInt8 := dkwX3_advance_3 ++ dktX3_advance_4
def dkwX3_advance_2 : List UInt8 := [167, 0, 4, 3, 181, 0, 83, 3, 62, 29, 42, 180, 0, 129, 162, 0, 44, 42, 180, 0, 83, 154, 0, 37]
abbrev dktX3_advance_2 : List UInt8 := dkwX3_advance_2 ++ dktX3_advance_3
def dkwX3_advance_1 : List UInt8 := [5, 167, 0, 26, 42, 180, 0, 97, 16, 12, 163, 0, 12, 42, 180, 0, 94, 16, 120, 160, 0, 7, 6]
abbrev dktX3_advance_1 : List UInt8 := dkwX3_advance_1 ++ dktX3_advance_2
def dkwX3_advance_0 : List UInt8 := [42, 27, 3, 7, 184, 0, 86, 154, 0, 7, 4, 167, 0, 40, 28, 4, 18, 100, 184, 0, 86, 154, 0, 7]
abbrev dktX3_advance_0 : List UInt8 := dkwX3_advance_0 ++ dktX3_advance_1
theorem dksX3_advance_0 : cX3_advance.data.toList.drop 0 = dktX3_advance_0 := by decide +kernel
theorem dksX3_advance_1 : cX3_advance.data.toList.drop 24 = dktX3_advance_1 := dk_seg dksX3_advance_0 24 rfl rfl
theorem dksX3_advance_2 : cX3_advance.data.toList.drop 47 = dktX3_advance_2 := dk_seg dksX3_advance_1 23 rfl rfl
theorem dksX3_advance_3 : cX3_advance.data.toList.drop 71 = dktX3_advance_3 := dk_seg dksX3_advance_2 24 rfl rfl
theorem dksX3_advance_4 : cX3_advance.data.toList.drop 95 = dktX3_advance_4 := dk_seg dksX3_advance_3 24 rfl rfl
theorem dksX3_advance_5 : cX3_advance.data.toList.drop 119 = dktX3_advance_5 := dk_seg dksX3_advance_4 24 rfl rfl
theorem dksX3_advance_6 : cX3_advance.data.toList.drop 142 = dktX3_advance_6 := dk_seg dksX3_advance_5 23 rfl rfl
theorem dX3_advance_0 : decode cX3_advance 0 = .ok (.aload_n 0, 1) := dk_42 (dk_at dksX3_advance_0 0 rfl rfl)
theorem dX3_advance_1 : decode cX3_advance 1 = .ok (.iload_n 1, 1) := dk_27 (dk_at dksX3_advance_0 1 rfl rfl)
theorem dX3_advance_2 : decode cX3_advance 2 = .ok (.iconst 0, 1) := dk_3 (dk_at dksX3_advance_0 2 rfl rfl)
theorem dX3_advance_3 : decode cX3_advance 3 = .ok (.iconst 4, 1) := dk_7 (dk_at dksX3_advance_0 3 rfl rfl)
theorem dX3_advance_4 : decode cX3_advance 4 = .ok (.invokestatic 86, 3) := dk_184 0 86 (dk_at dksX3_advance_0 4 rfl rfl)
theorem dX3_advance_7 : decode cX3_advance 7 = .ok (.ifCond .ne 7, 3) := dk_154 0 7 (dk_at dksX3_advance_0 7 rfl rfl)
theorem dX3_advance_10 : decode cX3_advance 10 = .ok (.iconst 1, 1) := dk_4 (dk_at dksX3_advance_0 10 rfl rfl)
theorem dX3_advance_11 : decode cX3_advance 11 = .ok (.goto 40, 3) := dk_167 0 40 (dk_at dksX3_advance_0 11 rfl rfl)
theorem dX3_advance_14 : decode cX3_advance 14 = .ok (.iload_n 2, 1) := dk_28 (dk_at dksX3_advance_0 14 rfl rfl)
theorem dX3_advance_15 : decode cX3_advance 15 = .ok (.iconst 1, 1) := dk_4 (dk_at dksX3_advance_0 15 rfl rfl)
theorem dX3_advance_16 : decode cX3_advance 16 = .ok (.ldc 100, 2) := dk_18 100 (dk_at dksX3_advance_0 16 rfl rfl)
theorem dX3_advance_18 : decode cX3_advance 18 = .ok (.invokestatic 86, 3) := dk_184 0 86 (dk_at dksX3_advance_0 18 rfl rfl)
theorem dX3_advance_21 : decode cX3_advance 21 = .ok (.ifCond .ne 7, 3) := dk_154 0 7 (dk_at dksX3_advance_0 21 rfl rfl)
theorem dX3_advance_24 : decode cX3_advance 24 = .ok (.iconst 2, 1) := dk_5 (dk_at dksX3_advance_1 0 rfl rfl)
theorem dX3_advance_25 : decode cX3_advance 25 = .ok (.goto 26, 3) := dk_167 0 26 (dk_at dksX3_advance_1 1 rfl rfl)
theorem dX3_advance_28 : decode cX3_advance 28 = .ok (.aload_n 0, 1) := dk_42 (dk_at dksX3_advance_1 4 rfl rfl)
theorem dX3_advance_29 : decode cX3_advance 29 = .ok (.getfield 97, 3) := dk_180 0 97 (dk_at dksX3_advance_1 5 rfl rfl)
theorem dX3_advance_32 : decode cX3_advance 32 = .ok (.bipush 12, 2) := dk_16 12 (dk_at dksX3_advance_1 8 rfl rfl)
theorem dX3_advance_34 : decode cX3_advance 34 = .ok (.if_icmp .gt 12, 3) := dk_163 0 12 (dk_at dksX3_advance_1 10 rfl rfl)
theorem dX3_advance_37 : decode cX3_advance 37 = .ok (.aload_n 0, 1) := dk_42 (dk_at dksX3_advance_1 13 rfl rfl)
theorem dX3_advance_38 : decode cX3_advance 38 = .ok (.getfield 94, 3) := dk_180 0 94 (dk_at dksX3_advance_1 14 rfl rfl)
theorem dX3_advance_41 : decode cX3_advance 41 = .ok (.bipush 120, 2) := dk_16 120 (dk_at dksX3_advance_1 17 rfl rfl)
theorem dX3_advance_43 : decode cX3_advance 43 = .ok (.if_icmp .ne 7, 3) := dk_160 0 7 (dk_at dksX3_advance_1 19 rfl rfl)
theorem dX3_advance_46 : decode cX3_advance 46 = .ok (.iconst 3, 1) := dk_6 (dk_at dksX3_advance_1 22 rfl rfl)
theorem dX3_advance_47 : decode cX3_advance 47 = .ok (.goto 4, 3) := dk_167 0 4 (dk_at dksX3_advance_2 0 rfl rfl)
theorem dX3_advance_50 : decode cX3_advance 50 = .ok (.iconst 0, 1) := dk_3 (dk_at dksX3_advance_2 3 rfl rfl)
theorem dX3_advance_51 : decode cX3_advance 51 = .ok (.putfield 83, 3) := dk_181 0 83 (dk_at dksX3_advance_2 4 rfl rfl)
theorem dX3_advance_54 : decode cX3_advance 54 = .ok (.iconst 0, 1) := dk_3 (dk_at dksX3_advance_2 7 rfl rfl)
theorem dX3_advance_55 : decode cX3_advance 55 = .ok (.istore_n 3, 1) := dk_62 (dk_at dksX3_advance_2 8 rfl rfl)
theorem dX3_advance_56 : decode cX3_advance 56 = .ok (.iload_n 3, 1) := dk_29 (dk_at dksX3_advance_2 9 rfl rfl)
theorem dX3_advance_57 : decode cX3_advance 57 = .ok (.aload_n 0, 1) := dk_42 (dk_at dksX3_advance_2 10 rfl rfl)
theorem dX3_advance_58 : decode cX3_advance 58 = .ok (.getfield 129, 3) := dk_180 0 129 (dk_at dksX3_advance_2 11 rfl rfl)
theorem dX3_advance_61 : decode cX3_advance 61 = .ok (.if_icmp .ge 44, 3) := dk_162 0 44 (dk_at dksX3_advance_2 14 rfl rfl)
theorem dX3_advance_64 : decode cX3_advance 64 = .ok (.aload_n 0, 1) := dk_42 (dk_at dksX3_advance_2 17 rfl rfl)
theorem dX3_advance_65 : decode cX3_advance 65 = .ok (.getfield 83, 3) := dk_180 0 83 (dk_at dksX3_advance_2 18 rfl rfl)
theorem dX3_advance_68 : decode cX3_advance 68 = .ok (.ifCond .ne 37, 3) := dk_154 0 37 (dk_at dksX3_advance_2 21 rfl rfl)
theorem dX3_advance_71 : decode cX3_advance 71 = .ok (.aload_n 0, 1) := dk_42 (dk_at dksX3_advance_3 0 rfl rfl)
theorem dX3_advance_72 : decode cX3_advance 72 = .ok (.aload_n 0, 1) := dk_42 (dk_at dksX3_advance_3 1 rfl rfl)
theorem dX3_advance_73 : decode cX3_advance 73 = .ok (.getfield 74, 3) := dk_180 0 74 (dk_at dksX3_advance_3 2 rfl rfl)
theorem dX3_advance_76 : decode cX3_advance 76 = .ok (.iload_n 3, 1) := dk_29 (dk_at dksX3_advance_3 5 rfl rfl)
theorem dX3_advance_77 : decode cX3_advance 77 = .ok (.iaload, 1) := dk_46 (dk_at dksX3_advance_3 6 rfl rfl)
theorem dX3_advance_78 : decode cX3_advance 78 = .ok (.iload_n 1, 1) := dk_27 (dk_at dksX3_advance_3 7 rfl rfl)
theorem dX3_advance_79 : decode cX3_advance 79 = .ok (.if_icmp .ne 16, 3) := dk_160 0 16 (dk_at dksX3_advance_3 8 rfl rfl)
theorem dX3_advance_82 : decode cX3_advance 82 = .ok (.aload_n 0, 1) := dk_42 (dk_at dksX3_advance_3 11 rfl rfl)
theorem dX3_advance_83 : decode cX3_advance 83 = .ok (.getfield 80, 3) := dk_180 0 80 (dk_at dksX3_advance_3 12 rfl rfl)
theorem dX3_advance_86 : decode cX3_advance 86 = .ok (.iload_n 3, 1) := dk_29 (dk_at dksX3_advance_3 15 rfl rfl)
theorem dX3_advance_87 : decode cX3_advance 87 = .ok (.iaload, 1) := dk_46 (dk_at dksX3_advance_3 16 rfl rfl)
theorem dX3_advance_88 : decode cX3_advance 88 = .ok (.ifCond .ne 7, 3) := dk_154 0 7 (dk_at dksX3_advance_3 17 rfl rfl)
theorem dX3_advance_91 : decode cX3_advance 91 = .ok (.iconst 3, 1) := dk_6 (dk_at dksX3_advance_3 20 rfl rfl)
theorem dX3_advance_92 : decode cX3_advance 92 = .ok (.goto 4, 3) := dk_167 0 4 (dk_at dksX3_advance_3 21 rfl rfl)
theorem dX3_advance_95 : decode cX3_advance 95 = .ok (.iconst 0, 1) := dk_3 (dk_at dksX3_advance_4 0 rfl rfl)
theorem dX3_advance_96 : decode cX3_advance 96 = .ok (.putfield 83, 3) := dk_181 0 83 (dk_at dksX3_advance_4 1 rfl rfl)
theorem dX3_advance_99 : decode cX3_advance 99 = .ok (.iinc 3 1, 3) := dk_132 3 1 (dk_at dksX3_advance_4 4 rfl rfl)
theorem dX3_advance_102 : decode cX3_advance 102 = .ok (.goto (-46), 3) := dk_167 255 210 (dk_at dksX3_advance_4 7 rfl rfl)
theorem dX3_advance_105 : decode cX3_advance 105 = .ok (.aload_n 0, 1) := dk_42 (dk_at dksX3_advance_4 10 rfl rfl)
theorem dX3_advance_106 : decode cX3_advance 106 = .ok (.getfield 83, 3) := dk_180 0 83 (dk_at dksX3_advance_4 11 rfl rfl)
theorem dX3_advance_109 : decode cX3_advance 109 = .ok (.ifCond .le 5, 3) := dk_158 0 5 (dk_at dksX3_advance_4 14 rfl rfl)
theorem dX3_advance_112 : decode cX3_advance 112 = .ok (.iconst 0, 1) := dk_3 (dk_at dksX3_advance_4 17 rfl rfl)
theorem dX3_advance_113 : decode cX3_advance 113 = .ok (.ireturn, 1) := dk_172 (dk_at dksX3_advance_4 18 rfl rfl)
theorem dX3_advance_114 : decode cX3_advance 114 = .ok (.aload_n 0, 1) := dk_42 (dk_at dksX3_advance_4 19 rfl rfl)
theorem dX3_advance_115 : decode cX3_advance 115 = .ok (.getfield 74, 3) := dk_180 0 74 (dk_at dksX3_advance_4 20 rfl rfl)
theorem dX3_advance_118 : decode cX3_advance 118 = .ok (.aload_n 0, 1) := dk_42 (dk_at dksX3_advance_4 23 rfl rfl)
theorem dX3_advance_119 : decode cX3_advance 119 = .ok (.getfield 129, 3) := dk_180 0 129 (dk_at dksX3_advance_5 0 rfl rfl)
theorem dX3_advance_122 : decode cX3_advance 122 = .ok (.iload_n 1, 1) := dk_27 (dk_at dksX3_advance_5 3 rfl rfl)
theorem dX3_advance_123 : decode cX3_advance 123 = .ok (.iastore, 1) := dk_79 (dk_at dksX3_advance_5 4 rfl rfl)
theorem dX3_advance_124 : decode cX3_advance 124 = .ok (.aload_n 0, 1) := dk_42 (dk_at dksX3_advance_5 5 rfl rfl)
theorem dX3_advance_125 : decode cX3_advance 125 = .ok (.getfield 77, 3) := dk_180 0 77 (dk_at dksX3_advance_5 6 rfl rfl)
theorem dX3_advance_128 : decode cX3_advance 128 = .ok (.aload_n 0, 1) := dk_42 (dk_at dksX3_advance_5 9 rfl rfl)
theorem dX3_advance_129 : decode cX3_advance 129 = .ok (.getfield 129, 3) := dk_180 0 129 (dk_at dksX3_advance_5 10 rfl rfl)
theorem dX3_advance_132 : decode cX3_advance 132 = .ok (.iload_n 2, 1) := dk_28 (dk_at dksX3_advance_5 13 rfl rfl)
theorem dX3_advance_133 : decode cX3_advance 133 = .ok (.iastore, 1) := dk_79 (dk_at dksX3_advance_5 14 rfl rfl)
theorem dX3_advance_134 : decode cX3_advance 134 = .ok (.aload_n 0, 1) := dk_42 (dk_at dksX3_advance_5 15 rfl rfl)
theorem dX3_advance_135 : decode cX3_advance 135 = .ok (.aload_n 0, 1) := dk_42 (dk_at dksX3_advance_5 16 rfl rfl)
theorem dX3_advance_136 : decode cX3_advance 136 = .ok (.getfield 97, 3) := dk_180 0 97 (dk_at dksX3_advance_5 17 rfl rfl)
theorem dX3_advance_139 : decode cX3_advance 139 = .ok (.iconst 1, 1) := dk_4 (dk_at dksX3_advance_5 20 rfl rfl)
theorem dX3_advance_140 : decode cX3_advance 140 = .ok (.iconst 0, 1) := dk_3 (dk_at dksX3_advance_5 21 rfl rfl)
theorem dX3_advance_141 : decode cX3_advance 141 = .ok (.iload_n 2, 1) := dk_28 (dk_at dksX3_advance_5 22 rfl rfl)
theorem dX3_advance_142 : decode cX3_advance 142 = .ok (.invokevirtual 101, 3) := dk_182 0 101 (dk_at dksX3_advance_6 0 rfl rfl)
theorem dX3_advance_145 : decode cX3_advance 145 = .ok (.pop, 1) := dk_87 (dk_at dksX3_advance_6 3 rfl rfl)
theorem dX3_advance_146 : decode cX3_advance 146 = .ok (.aload_n 0, 1) := dk_42 (dk_at dksX3_advance_6 4 rfl rfl)
theorem dX3_advance_147 : decode cX3_advance 147 = .ok (.dup, 1) := dk_89 (dk_at dksX3_advance_6 5 rfl rfl)
theorem dX3_advance_148 : decode cX3_advance 148 = .ok (.getfield 129, 3) := dk_180 0 129 (dk_at dksX3_advance_6 6 rfl rfl)
theorem dX3_advance_151 : decode cX3_advance 151 = .ok (.iconst 1, 1) := dk_4 (dk_at dksX3_advance_6 9 rfl rfl)
theorem dX3_advance_152 : decode cX3_advance 152 = .ok (.iadd, 1) := dk_96 (dk_at dksX3_advance_6 10 rfl rfl)
theorem dX3_advance_153 : decode cX3_advance 153 = .ok (.putfield 129, 3) := dk_181 0 129 (dk_at dksX3_advance_6 11 rfl rfl)
theorem dX3_advance_156 : decode cX3_advance 156 = .ok (.aload_n 0, 1) := dk_42 (dk_at dksX3_advance_6 14 rfl rfl)
theorem dX3_advance_157 : decode cX3_advance 157 = .ok (.getfield 129, 3) := dk_180 0 129 (dk_at dksX3_advance_6 15 rfl rfl)
theorem dX3_advance_160 : decode cX3_advance 160 = .ok (.iconst 1, 1) := dk_4 (dk_at dksX3_advance_6 18 rfl rfl)
theorem dX3_advance_161 : decode cX3_advance 161 = .ok (.isub, 1) := dk_100 (dk_at dksX3_advance_6 19 rfl rfl)
theorem dX3_advance_162 : decode cX3_advance 162 = .ok (.ireturn, 1) := dk_172 (dk_at dksX3_advance_6 20 rfl rfl)
abbrev cX3_settle : ByteArray := prog_13_method_31_code
def yX3_settle : MethodName := ⟨RX3, "settle", "(III)I"⟩
def dkwX3_settle_7 : List UInt8 := [180, 0, 97, 3, 4, 21, 4, 182, 0, 101, 87, 21, 4, 172]
abbrev dktX3_settle_7 : List UInt8 := dkwX3_settle_7 ++ []
def dkwX3_settle_6 : List UInt8 := [158, 0, 15, 42, 42, 180, 0, 97, 28, 4, 29, 182, 0, 101, 87, 21, 4, 158, 0, 16, 42, 42]
abbrev dktX3_settle_6 : List UInt8 := dkwX3_settle_6 ++ dktX3_settle_7
def dkwX3_settle_5 : List UInt8 := [79, 42, 180, 0, 44, 28, 92, 46, 29, 96, 79, 42, 180, 0, 77, 27, 46, 29, 100, 54, 4, 29]
abbrev dktX3_settle_5 : List UInt8 := dkwX3_settle_5 ++ dktX3_settle_6
def dkwX3_settle_4 : List UInt8 := [163, 0, 12, 42, 180, 0, 94, 16, 118, 164, 0, 9, 42, 6, 182, 0, 117, 172, 42, 180, 0, 80, 27, 4]
abbrev dktX3_settle_4 : List UInt8 := dkwX3_settle_4 ++ dktX3_settle_5
def dkwX3_settle_3 : List UInt8 := [180, 0, 32, 28, 46, 153, 0, 30, 42, 28, 182, 0, 113, 29, 161, 0, 21, 42, 180, 0, 97, 16, 12]
abbrev dktX3_settle_3 : List UInt8 := dkwX3_settle_3 ++ dktX3_settle_4
def dkwX3_settle_2 : List UInt8 := [181, 0, 83, 42, 180, 0, 83, 158, 0, 5, 3, 172, 42, 180, 0, 80, 27, 46, 4, 159, 0, 39, 42]
abbrev dktX3_settle_2 : List UInt8 := dkwX3_settle_2 ++ dktX3_settle_3
def dkwX3_settle_1 : List UInt8 := [167, 0, 22, 29, 3, 42, 180, 0, 77, 27, 46, 184, 0, 86, 154, 0, 7, 5, 167, 0, 4, 3]
abbrev dktX3_settle_1 : List UInt8 := dkwX3_settle_1 ++ dktX3_settle_2
def dkwX3_settle_0 : List UInt8 := [42, 27, 3, 42, 180, 0, 129, 4, 100, 184, 0, 86, 153, 0, 11, 42, 28, 182, 0, 90, 154, 0, 7, 4]
abbrev dktX3_settle_0 : List UInt8 := dkwX3_settle_0 ++ dktX3_settle_1
theorem dksX3_settle_0 : cX3_settle.data.toList.drop 0 = dktX3_settle_0 := by decide +kernel
theorem dksX3_settle_1 : cX3_settle.data.toList.drop 24 = dktX3_settle_1 := dk_seg dksX3_settle_0 24 rfl rfl
theorem dksX3_settle_2 : cX3_settle.data.toList.drop 46 = dktX3_settle_2 := dk_seg dksX3_settle_1 22 rfl rfl
theorem dksX3_settle_3 : cX3_settle.data.toList.drop 69 = dktX3_settle_3 := dk_seg dksX3_settle_2 23 rfl rfl
theorem dksX3_settle_4 : cX3_settle.data.toList.drop 92 = dktX3_settle_4 := dk_seg dksX3_settle_3 23 rfl rfl
theorem dksX3_settle_5 : cX3_settle.data.toList.drop 116 = dktX3_settle_5 := dk_seg dksX3_settle_4 24 rfl rfl
theorem dksX3_settle_6 : cX3_settle.data.toList.drop 138 = dktX3_settle_6 := dk_seg dksX3_settle_5 22 rfl rfl
theorem dksX3_settle_7 : cX3_settle.data.toList.drop 160 = dktX3_settle_7 := dk_seg dksX3_settle_6 22 rfl rfl
theorem dX3_settle_0 : decode cX3_settle 0 = .ok (.aload_n 0, 1) := dk_42 (dk_at dksX3_settle_0 0 rfl rfl)
theorem dX3_settle_1 : decode cX3_settle 1 = .ok (.iload_n 1, 1) := dk_27 (dk_at dksX3_settle_0 1 rfl rfl)
theorem dX3_settle_2 : decode cX3_settle 2 = .ok (.iconst 0, 1) := dk_3 (dk_at dksX3_settle_0 2 rfl rfl)
theorem dX3_settle_3 : decode cX3_settle 3 = .ok (.aload_n 0, 1) := dk_42 (dk_at dksX3_settle_0 3 rfl rfl)
theorem dX3_settle_4 : decode cX3_settle 4 = .ok (.getfield 129, 3) := dk_180 0 129 (dk_at dksX3_settle_0 4 rfl rfl)
theorem dX3_settle_7 : decode cX3_settle 7 = .ok (.iconst 1, 1) := dk_4 (dk_at dksX3_settle_0 7 rfl rfl)
theorem dX3_settle_8 : decode cX3_settle 8 = .ok (.isub, 1) := dk_100 (dk_at dksX3_settle_0 8 rfl rfl)
theorem dX3_settle_9 : decode cX3_settle 9 = .ok (.invokestatic 86, 3) := dk_184 0 86 (dk_at dksX3_settle_0 9 rfl rfl)
theorem dX3_settle_12 : decode cX3_settle 12 = .ok (.ifCond .eq 11, 3) := dk_153 0 11 (dk_at dksX3_settle_0 12 rfl rfl)
theorem dX3_settle_15 : decode cX3_settle 15 = .ok (.aload_n 0, 1) := dk_42 (dk_at dksX3_settle_0 15 rfl rfl)
theorem dX3_settle_16 : decode cX3_settle 16 = .ok (.iload_n 2, 1) := dk_28 (dk_at dksX3_settle_0 16 rfl rfl)
theorem dX3_settle_17 : decode cX3_settle 17 = .ok (.invokevirtual 90, 3) := dk_182 0 90 (dk_at dksX3_settle_0 17 rfl rfl)
theorem dX3_settle_20 : decode cX3_settle 20 = .ok (.ifCond .ne 7, 3) := dk_154 0 7 (dk_at dksX3_settle_0 20 rfl rfl)
theorem dX3_settle_23 : decode cX3_settle 23 = .ok (.iconst 1, 1) := dk_4 (dk_at dksX3_settle_0 23 rfl rfl)
theorem dX3_settle_24 : decode cX3_settle 24 = .ok (.goto 22, 3) := dk_167 0 22 (dk_at dksX3_settle_1 0 rfl rfl)
theorem dX3_settle_27 : decode cX3_settle 27 = .ok (.iload_n 3, 1) := dk_29 (dk_at dksX3_settle_1 3 rfl rfl)
theorem dX3_settle_28 : decode cX3_settle 28 = .ok (.iconst 0, 1) := dk_3 (dk_at dksX3_settle_1 4 rfl rfl)
theorem dX3_settle_29 : decode cX3_settle 29 = .ok (.aload_n 0, 1) := dk_42 (dk_at dksX3_settle_1 5 rfl rfl)
theorem dX3_settle_30 : decode cX3_settle 30 = .ok (.getfield 77, 3) := dk_180 0 77 (dk_at dksX3_settle_1 6 rfl rfl)
theorem dX3_settle_33 : decode cX3_settle 33 = .ok (.iload_n 1, 1) := dk_27 (dk_at dksX3_settle_1 9 rfl rfl)
theorem dX3_settle_34 : decode cX3_settle 34 = .ok (.iaload, 1) := dk_46 (dk_at dksX3_settle_1 10 rfl rfl)
theorem dX3_settle_35 : decode cX3_settle 35 = .ok (.invokestatic 86, 3) := dk_184 0 86 (dk_at dksX3_settle_1 11 rfl rfl)
theorem dX3_settle_38 : decode cX3_settle 38 = .ok (.ifCond .ne 7, 3) := dk_154 0 7 (dk_at dksX3_settle_1 14 rfl rfl)
theorem dX3_settle_41 : decode cX3_settle 41 = .ok (.iconst 2, 1) := dk_5 (dk_at dksX3_settle_1 17 rfl rfl)
theorem dX3_settle_42 : decode cX3_settle 42 = .ok (.goto 4, 3) := dk_167 0 4 (dk_at dksX3_settle_1 18 rfl rfl)
theorem dX3_settle_45 : decode cX3_settle 45 = .ok (.iconst 0, 1) := dk_3 (dk_at dksX3_settle_1 21 rfl rfl)
theorem dX3_settle_46 : decode cX3_settle 46 = .ok (.putfield 83, 3) := dk_181 0 83 (dk_at dksX3_settle_2 0 rfl rfl)
theorem dX3_settle_49 : decode cX3_settle 49 = .ok (.aload_n 0, 1) := dk_42 (dk_at dksX3_settle_2 3 rfl rfl)
theorem dX3_settle_50 : decode cX3_settle 50 = .ok (.getfield 83, 3) := dk_180 0 83 (dk_at dksX3_settle_2 4 rfl rfl)
theorem dX3_settle_53 : decode cX3_settle 53 = .ok (.ifCond .le 5, 3) := dk_158 0 5 (dk_at dksX3_settle_2 7 rfl rfl)
theorem dX3_settle_56 : decode cX3_settle 56 = .ok (.iconst 0, 1) := dk_3 (dk_at dksX3_settle_2 10 rfl rfl)
theorem dX3_settle_57 : decode cX3_settle 57 = .ok (.ireturn, 1) := dk_172 (dk_at dksX3_settle_2 11 rfl rfl)
theorem dX3_settle_58 : decode cX3_settle 58 = .ok (.aload_n 0, 1) := dk_42 (dk_at dksX3_settle_2 12 rfl rfl)
theorem dX3_settle_59 : decode cX3_settle 59 = .ok (.getfield 80, 3) := dk_180 0 80 (dk_at dksX3_settle_2 13 rfl rfl)
theorem dX3_settle_62 : decode cX3_settle 62 = .ok (.iload_n 1, 1) := dk_27 (dk_at dksX3_settle_2 16 rfl rfl)
theorem dX3_settle_63 : decode cX3_settle 63 = .ok (.iaload, 1) := dk_46 (dk_at dksX3_settle_2 17 rfl rfl)
theorem dX3_settle_64 : decode cX3_settle 64 = .ok (.iconst 1, 1) := dk_4 (dk_at dksX3_settle_2 18 rfl rfl)
theorem dX3_settle_65 : decode cX3_settle 65 = .ok (.if_icmp .eq 39, 3) := dk_159 0 39 (dk_at dksX3_settle_2 19 rfl rfl)
theorem dX3_settle_68 : decode cX3_settle 68 = .ok (.aload_n 0, 1) := dk_42 (dk_at dksX3_settle_2 22 rfl rfl)
theorem dX3_settle_69 : decode cX3_settle 69 = .ok (.getfield 32, 3) := dk_180 0 32 (dk_at dksX3_settle_3 0 rfl rfl)
theorem dX3_settle_72 : decode cX3_settle 72 = .ok (.iload_n 2, 1) := dk_28 (dk_at dksX3_settle_3 3 rfl rfl)
theorem dX3_settle_73 : decode cX3_settle 73 = .ok (.iaload, 1) := dk_46 (dk_at dksX3_settle_3 4 rfl rfl)
theorem dX3_settle_74 : decode cX3_settle 74 = .ok (.ifCond .eq 30, 3) := dk_153 0 30 (dk_at dksX3_settle_3 5 rfl rfl)
theorem dX3_settle_77 : decode cX3_settle 77 = .ok (.aload_n 0, 1) := dk_42 (dk_at dksX3_settle_3 8 rfl rfl)
theorem dX3_settle_78 : decode cX3_settle 78 = .ok (.iload_n 2, 1) := dk_28 (dk_at dksX3_settle_3 9 rfl rfl)
theorem dX3_settle_79 : decode cX3_settle 79 = .ok (.invokevirtual 113, 3) := dk_182 0 113 (dk_at dksX3_settle_3 10 rfl rfl)
theorem dX3_settle_82 : decode cX3_settle 82 = .ok (.iload_n 3, 1) := dk_29 (dk_at dksX3_settle_3 13 rfl rfl)
theorem dX3_settle_83 : decode cX3_settle 83 = .ok (.if_icmp .lt 21, 3) := dk_161 0 21 (dk_at dksX3_settle_3 14 rfl rfl)
theorem dX3_settle_86 : decode cX3_settle 86 = .ok (.aload_n 0, 1) := dk_42 (dk_at dksX3_settle_3 17 rfl rfl)
theorem dX3_settle_87 : decode cX3_settle 87 = .ok (.getfield 97, 3) := dk_180 0 97 (dk_at dksX3_settle_3 18 rfl rfl)
theorem dX3_settle_90 : decode cX3_settle 90 = .ok (.bipush 12, 2) := dk_16 12 (dk_at dksX3_settle_3 21 rfl rfl)
theorem dX3_settle_92 : decode cX3_settle 92 = .ok (.if_icmp .gt 12, 3) := dk_163 0 12 (dk_at dksX3_settle_4 0 rfl rfl)
theorem dX3_settle_95 : decode cX3_settle 95 = .ok (.aload_n 0, 1) := dk_42 (dk_at dksX3_settle_4 3 rfl rfl)
theorem dX3_settle_96 : decode cX3_settle 96 = .ok (.getfield 94, 3) := dk_180 0 94 (dk_at dksX3_settle_4 4 rfl rfl)
theorem dX3_settle_99 : decode cX3_settle 99 = .ok (.bipush 118, 2) := dk_16 118 (dk_at dksX3_settle_4 7 rfl rfl)
theorem dX3_settle_101 : decode cX3_settle 101 = .ok (.if_icmp .le 9, 3) := dk_164 0 9 (dk_at dksX3_settle_4 9 rfl rfl)
theorem dX3_settle_104 : decode cX3_settle 104 = .ok (.aload_n 0, 1) := dk_42 (dk_at dksX3_settle_4 12 rfl rfl)
theorem dX3_settle_105 : decode cX3_settle 105 = .ok (.iconst 3, 1) := dk_6 (dk_at dksX3_settle_4 13 rfl rfl)
theorem dX3_settle_106 : decode cX3_settle 106 = .ok (.invokevirtual 117, 3) := dk_182 0 117 (dk_at dksX3_settle_4 14 rfl rfl)
theorem dX3_settle_109 : decode cX3_settle 109 = .ok (.ireturn, 1) := dk_172 (dk_at dksX3_settle_4 17 rfl rfl)
theorem dX3_settle_110 : decode cX3_settle 110 = .ok (.aload_n 0, 1) := dk_42 (dk_at dksX3_settle_4 18 rfl rfl)
theorem dX3_settle_111 : decode cX3_settle 111 = .ok (.getfield 80, 3) := dk_180 0 80 (dk_at dksX3_settle_4 19 rfl rfl)
theorem dX3_settle_114 : decode cX3_settle 114 = .ok (.iload_n 1, 1) := dk_27 (dk_at dksX3_settle_4 22 rfl rfl)
theorem dX3_settle_115 : decode cX3_settle 115 = .ok (.iconst 1, 1) := dk_4 (dk_at dksX3_settle_4 23 rfl rfl)
theorem dX3_settle_116 : decode cX3_settle 116 = .ok (.iastore, 1) := dk_79 (dk_at dksX3_settle_5 0 rfl rfl)
theorem dX3_settle_117 : decode cX3_settle 117 = .ok (.aload_n 0, 1) := dk_42 (dk_at dksX3_settle_5 1 rfl rfl)
theorem dX3_settle_118 : decode cX3_settle 118 = .ok (.getfield 44, 3) := dk_180 0 44 (dk_at dksX3_settle_5 2 rfl rfl)
theorem dX3_settle_121 : decode cX3_settle 121 = .ok (.iload_n 2, 1) := dk_28 (dk_at dksX3_settle_5 5 rfl rfl)
theorem dX3_settle_122 : decode cX3_settle 122 = .ok (.dup2, 1) := dk_92 (dk_at dksX3_settle_5 6 rfl rfl)
theorem dX3_settle_123 : decode cX3_settle 123 = .ok (.iaload, 1) := dk_46 (dk_at dksX3_settle_5 7 rfl rfl)
theorem dX3_settle_124 : decode cX3_settle 124 = .ok (.iload_n 3, 1) := dk_29 (dk_at dksX3_settle_5 8 rfl rfl)
theorem dX3_settle_125 : decode cX3_settle 125 = .ok (.iadd, 1) := dk_96 (dk_at dksX3_settle_5 9 rfl rfl)
theorem dX3_settle_126 : decode cX3_settle 126 = .ok (.iastore, 1) := dk_79 (dk_at dksX3_settle_5 10 rfl rfl)
theorem dX3_settle_127 : decode cX3_settle 127 = .ok (.aload_n 0, 1) := dk_42 (dk_at dksX3_settle_5 11 rfl rfl)
theorem dX3_settle_128 : decode cX3_settle 128 = .ok (.getfield 77, 3) := dk_180 0 77 (dk_at dksX3_settle_5 12 rfl rfl)
theorem dX3_settle_131 : decode cX3_settle 131 = .ok (.iload_n 1, 1) := dk_27 (dk_at dksX3_settle_5 15 rfl rfl)
theorem dX3_settle_132 : decode cX3_settle 132 = .ok (.iaload, 1) := dk_46 (dk_at dksX3_settle_5 16 rfl rfl)
theorem dX3_settle_133 : decode cX3_settle 133 = .ok (.iload_n 3, 1) := dk_29 (dk_at dksX3_settle_5 17 rfl rfl)
theorem dX3_settle_134 : decode cX3_settle 134 = .ok (.isub, 1) := dk_100 (dk_at dksX3_settle_5 18 rfl rfl)
theorem dX3_settle_135 : decode cX3_settle 135 = .ok (.istore 4, 2) := dk_54 4 (dk_at dksX3_settle_5 19 rfl rfl)
theorem dX3_settle_137 : decode cX3_settle 137 = .ok (.iload_n 3, 1) := dk_29 (dk_at dksX3_settle_5 21 rfl rfl)
theorem dX3_settle_138 : decode cX3_settle 138 = .ok (.ifCond .le 15, 3) := dk_158 0 15 (dk_at dksX3_settle_6 0 rfl rfl)
theorem dX3_settle_141 : decode cX3_settle 141 = .ok (.aload_n 0, 1) := dk_42 (dk_at dksX3_settle_6 3 rfl rfl)
theorem dX3_settle_142 : decode cX3_settle 142 = .ok (.aload_n 0, 1) := dk_42 (dk_at dksX3_settle_6 4 rfl rfl)
theorem dX3_settle_143 : decode cX3_settle 143 = .ok (.getfield 97, 3) := dk_180 0 97 (dk_at dksX3_settle_6 5 rfl rfl)
theorem dX3_settle_146 : decode cX3_settle 146 = .ok (.iload_n 2, 1) := dk_28 (dk_at dksX3_settle_6 8 rfl rfl)
theorem dX3_settle_147 : decode cX3_settle 147 = .ok (.iconst 1, 1) := dk_4 (dk_at dksX3_settle_6 9 rfl rfl)
theorem dX3_settle_148 : decode cX3_settle 148 = .ok (.iload_n 3, 1) := dk_29 (dk_at dksX3_settle_6 10 rfl rfl)
theorem dX3_settle_149 : decode cX3_settle 149 = .ok (.invokevirtual 101, 3) := dk_182 0 101 (dk_at dksX3_settle_6 11 rfl rfl)
theorem dX3_settle_152 : decode cX3_settle 152 = .ok (.pop, 1) := dk_87 (dk_at dksX3_settle_6 14 rfl rfl)
theorem dX3_settle_153 : decode cX3_settle 153 = .ok (.iload 4, 2) := dk_21 4 (dk_at dksX3_settle_6 15 rfl rfl)
theorem dX3_settle_155 : decode cX3_settle 155 = .ok (.ifCond .le 16, 3) := dk_158 0 16 (dk_at dksX3_settle_6 17 rfl rfl)
theorem dX3_settle_158 : decode cX3_settle 158 = .ok (.aload_n 0, 1) := dk_42 (dk_at dksX3_settle_6 20 rfl rfl)
theorem dX3_settle_159 : decode cX3_settle 159 = .ok (.aload_n 0, 1) := dk_42 (dk_at dksX3_settle_6 21 rfl rfl)
theorem dX3_settle_160 : decode cX3_settle 160 = .ok (.getfield 97, 3) := dk_180 0 97 (dk_at dksX3_settle_7 0 rfl rfl)
theorem dX3_settle_163 : decode cX3_settle 163 = .ok (.iconst 0, 1) := dk_3 (dk_at dksX3_settle_7 3 rfl rfl)
theorem dX3_settle_164 : decode cX3_settle 164 = .ok (.iconst 1, 1) := dk_4 (dk_at dksX3_settle_7 4 rfl rfl)
theorem dX3_settle_165 : decode cX3_settle 165 = .ok (.iload 4, 2) := dk_21 4 (dk_at dksX3_settle_7 5 rfl rfl)
theorem dX3_settle_167 : decode cX3_settle 167 = .ok (.invokevirtual 101, 3) := dk_182 0 101 (dk_at dksX3_settle_7 7 rfl rfl)
theorem dX3_settle_170 : decode cX3_settle 170 = .ok (.pop, 1) := dk_87 (dk_at dksX3_settle_7 10 rfl rfl)
theorem dX3_settle_171 : decode cX3_settle 171 = .ok (.iload 4, 2) := dk_21 4 (dk_at dksX3_settle_7 11 rfl rfl)
theorem dX3_settle_173 : decode cX3_settle 173 = .ok (.ireturn, 1) := dk_172 (dk_at dksX3_settle_7 13 rfl rfl)
theorem q27 : (Jvm.Cond.initialized "TownPurseModel") ∈ lw_all := lw_g (lw_at lw_m1 10 rfl) rfl
theorem q153 : (Jvm.Cond.selects "TownPurseModel" ({ cls := "java/lang/Object", name := "getClass", desc := "()Ljava/lang/Class;" } : Jvm.MethodName) ({ cls := "java/lang/Object", name := "getClass", desc := "()Ljava/lang/Class;" } : Jvm.MethodName)) ∈ lw_all := lw_g (lw_at lw_m1 136 rfl) rfl
theorem q752 : (Jvm.Cond.instantiable "TownPurseModel" (29 : Nat)) ∈ lw_all := lw_g (lw_at lw_m4 15 rfl) rfl
theorem q754 : (Jvm.Cond.instanceMethod ({ cls := "TownPurseModel", name := "<init>", desc := "()V" } : Jvm.MethodName)) ∈ lw_all := lw_g (lw_at lw_m4 17 rfl) rfl
theorem q755 : (Jvm.Cond.code ({ cls := "TownPurseModel", name := "<init>", desc := "()V" } : Jvm.MethodName) prog_13_method_1_code (1 : Nat) (Option.none : Option Jvm.ClassFile.FieldType)) ∈ lw_all := lw_g (lw_at lw_m4 18 rfl) rfl
theorem q756 : (Jvm.Cond.methodLink "TownPurseModel" (1 : Nat) ({ cls := "java/lang/Object", name := "<init>", desc := "()V" } : Jvm.MethodName)) ∈ lw_all := lw_g (lw_at lw_m4 19 rfl) rfl
theorem q757 : (Jvm.Cond.fieldLink "TownPurseModel" (7 : Nat) "TownPurseModel" "accounts" "I") ∈ lw_all := lw_g (lw_at lw_m4 20 rfl) rfl
theorem q758 : (Jvm.Cond.fieldLink "TownPurseModel" (13 : Nat) "TownPurseModel" "aboves" "[I") ∈ lw_all := lw_g (lw_at lw_m4 21 rfl) rfl
theorem q759 : (Jvm.Cond.fieldLink "TownPurseModel" (97 : Nat) "TownPurseModel" "open" "I") ∈ lw_all := lw_g (lw_at lw_m4 22 rfl) rfl
theorem q760 : (Jvm.Cond.fieldLink "TownPurseModel" (94 : Nat) "TownPurseModel" "entries" "I") ∈ lw_all := lw_g (lw_at lw_m4 23 rfl) rfl
theorem q761 : (Jvm.Cond.fieldLink "TownPurseModel" (17 : Nat) "TownPurseModel" "periods" "[I") ∈ lw_all := lw_g (lw_at lw_m4 24 rfl) rfl
theorem q762 : (Jvm.Cond.fieldLink "TownPurseModel" (20 : Nat) "TownPurseModel" "tos" "[I") ∈ lw_all := lw_g (lw_at lw_m4 25 rfl) rfl
theorem q763 : (Jvm.Cond.fieldLink "TownPurseModel" (23 : Nat) "TownPurseModel" "froms" "[I") ∈ lw_all := lw_g (lw_at lw_m4 26 rfl) rfl
theorem q764 : (Jvm.Cond.fieldLink "TownPurseModel" (26 : Nat) "TownPurseModel" "amounts" "[I") ∈ lw_all := lw_g (lw_at lw_m4 27 rfl) rfl
theorem q765 : (Jvm.Cond.fieldLink "TownPurseModel" (29 : Nat) "TownPurseModel" "lates" "[I") ∈ lw_all := lw_g (lw_at lw_m4 28 rfl) rfl
theorem q766 : (Jvm.Cond.fieldLink "TownPurseModel" (32 : Nat) "TownPurseModel" "has" "[I") ∈ lw_all := lw_g (lw_at lw_m4 29 rfl) rfl
theorem q767 : (Jvm.Cond.fieldLink "TownPurseModel" (35 : Nat) "TownPurseModel" "granted" "[I") ∈ lw_all := lw_g (lw_at lw_m4 30 rfl) rfl
theorem q768 : (Jvm.Cond.fieldLink "TownPurseModel" (38 : Nat) "TownPurseModel" "moved" "[I") ∈ lw_all := lw_g (lw_at lw_m4 31 rfl) rfl
theorem q769 : (Jvm.Cond.fieldLink "TownPurseModel" (41 : Nat) "TownPurseModel" "alone" "[I") ∈ lw_all := lw_g (lw_at lw_m4 32 rfl) rfl
theorem q770 : (Jvm.Cond.fieldLink "TownPurseModel" (44 : Nat) "TownPurseModel" "used" "[I") ∈ lw_all := lw_g (lw_at lw_m4 33 rfl) rfl
theorem q771 : (Jvm.Cond.fieldLink "TownPurseModel" (47 : Nat) "TownPurseModel" "limit" "I") ∈ lw_all := lw_g (lw_at lw_m4 34 rfl) rfl
theorem q772 : (Jvm.Cond.fieldLink "TownPurseModel" (120 : Nat) "TownPurseModel" "payments" "I") ∈ lw_all := lw_g (lw_at lw_m4 35 rfl) rfl
theorem q773 : (Jvm.Cond.fieldLink "TownPurseModel" (50 : Nat) "TownPurseModel" "ofAccount" "[I") ∈ lw_all := lw_g (lw_at lw_m4 36 rfl) rfl
theorem q774 : (Jvm.Cond.fieldLink "TownPurseModel" (53 : Nat) "TownPurseModel" "payees" "[I") ∈ lw_all := lw_g (lw_at lw_m4 37 rfl) rfl
theorem q775 : (Jvm.Cond.fieldLink "TownPurseModel" (56 : Nat) "TownPurseModel" "sums" "[I") ∈ lw_all := lw_g (lw_at lw_m4 38 rfl) rfl
theorem q776 : (Jvm.Cond.fieldLink "TownPurseModel" (59 : Nat) "TownPurseModel" "preparers" "[I") ∈ lw_all := lw_g (lw_at lw_m4 39 rfl) rfl
theorem q777 : (Jvm.Cond.fieldLink "TownPurseModel" (62 : Nat) "TownPurseModel" "since" "[I") ∈ lw_all := lw_g (lw_at lw_m4 40 rfl) rfl
theorem q778 : (Jvm.Cond.fieldLink "TownPurseModel" (65 : Nat) "TownPurseModel" "states" "[I") ∈ lw_all := lw_g (lw_at lw_m4 41 rfl) rfl
theorem q779 : (Jvm.Cond.fieldLink "TownPurseModel" (68 : Nat) "TownPurseModel" "releasers" "[I") ∈ lw_all := lw_g (lw_at lw_m4 42 rfl) rfl
theorem q780 : (Jvm.Cond.fieldLink "TownPurseModel" (71 : Nat) "TownPurseModel" "before" "[I") ∈ lw_all := lw_g (lw_at lw_m4 43 rfl) rfl
theorem q781 : (Jvm.Cond.fieldLink "TownPurseModel" (129 : Nat) "TownPurseModel" "advances" "I") ∈ lw_all := lw_g (lw_at lw_m4 44 rfl) rfl
theorem q782 : (Jvm.Cond.fieldLink "TownPurseModel" (74 : Nat) "TownPurseModel" "people" "[I") ∈ lw_all := lw_g (lw_at lw_m4 45 rfl) rfl
theorem q783 : (Jvm.Cond.fieldLink "TownPurseModel" (77 : Nat) "TownPurseModel" "given" "[I") ∈ lw_all := lw_g (lw_at lw_m4 46 rfl) rfl
theorem q784 : (Jvm.Cond.fieldLink "TownPurseModel" (80 : Nat) "TownPurseModel" "settled" "[I") ∈ lw_all := lw_g (lw_at lw_m4 47 rfl) rfl
theorem q785 : (Jvm.Cond.fieldLink "TownPurseModel" (83 : Nat) "TownPurseModel" "thrown" "I") ∈ lw_all := lw_g (lw_at lw_m4 48 rfl) rfl
theorem q786 : (Jvm.Cond.lays "TownPurseModel" "TownPurseModel" "accounts" "I") ∈ lw_all := lw_g (lw_at lw_m4 49 rfl) rfl
theorem q787 : (Jvm.Cond.soleField "TownPurseModel" "accounts") ∈ lw_all := lw_g (lw_at lw_m4 50 rfl) rfl
theorem q788 : (Jvm.Cond.laysFinal "TownPurseModel" "TownPurseModel" "aboves" "[I") ∈ lw_all := lw_g (lw_at lw_m4 51 rfl) rfl
theorem q789 : (Jvm.Cond.soleField "TownPurseModel" "aboves") ∈ lw_all := lw_g (lw_at lw_m4 52 rfl) rfl
theorem q790 : (Jvm.Cond.lays "TownPurseModel" "TownPurseModel" "open" "I") ∈ lw_all := lw_g (lw_at lw_m4 53 rfl) rfl
theorem q791 : (Jvm.Cond.soleField "TownPurseModel" "open") ∈ lw_all := lw_g (lw_at lw_m4 54 rfl) rfl
theorem q792 : (Jvm.Cond.lays "TownPurseModel" "TownPurseModel" "entries" "I") ∈ lw_all := lw_g (lw_at lw_m4 55 rfl) rfl
theorem q793 : (Jvm.Cond.soleField "TownPurseModel" "entries") ∈ lw_all := lw_g (lw_at lw_m4 56 rfl) rfl
theorem q794 : (Jvm.Cond.laysFinal "TownPurseModel" "TownPurseModel" "periods" "[I") ∈ lw_all := lw_g (lw_at lw_m4 57 rfl) rfl
theorem q795 : (Jvm.Cond.soleField "TownPurseModel" "periods") ∈ lw_all := lw_g (lw_at lw_m4 58 rfl) rfl
theorem q796 : (Jvm.Cond.laysFinal "TownPurseModel" "TownPurseModel" "tos" "[I") ∈ lw_all := lw_g (lw_at lw_m4 59 rfl) rfl
theorem q797 : (Jvm.Cond.soleField "TownPurseModel" "tos") ∈ lw_all := lw_g (lw_at lw_m4 60 rfl) rfl
theorem q798 : (Jvm.Cond.laysFinal "TownPurseModel" "TownPurseModel" "froms" "[I") ∈ lw_all := lw_g (lw_at lw_m4 61 rfl) rfl
theorem q799 : (Jvm.Cond.soleField "TownPurseModel" "froms") ∈ lw_all := lw_g (lw_at lw_m4 62 rfl) rfl
theorem q800 : (Jvm.Cond.laysFinal "TownPurseModel" "TownPurseModel" "amounts" "[I") ∈ lw_all := lw_g (lw_at lw_m4 63 rfl) rfl
theorem q801 : (Jvm.Cond.soleField "TownPurseModel" "amounts") ∈ lw_all := lw_g (lw_at lw_m4 64 rfl) rfl
theorem q802 : (Jvm.Cond.laysFinal "TownPurseModel" "TownPurseModel" "lates" "[I") ∈ lw_all := lw_g (lw_at lw_m4 65 rfl) rfl
theorem q803 : (Jvm.Cond.soleField "TownPurseModel" "lates") ∈ lw_all := lw_g (lw_at lw_m4 66 rfl) rfl
theorem q804 : (Jvm.Cond.laysFinal "TownPurseModel" "TownPurseModel" "has" "[I") ∈ lw_all := lw_g (lw_at lw_m4 67 rfl) rfl
theorem q805 : (Jvm.Cond.soleField "TownPurseModel" "has") ∈ lw_all := lw_g (lw_at lw_m4 68 rfl) rfl
theorem q806 : (Jvm.Cond.laysFinal "TownPurseModel" "TownPurseModel" "granted" "[I") ∈ lw_all := lw_g (lw_at lw_m4 69 rfl) rfl
theorem q807 : (Jvm.Cond.soleField "TownPurseModel" "granted") ∈ lw_all := lw_g (lw_at lw_m4 70 rfl) rfl
theorem q808 : (Jvm.Cond.laysFinal "TownPurseModel" "TownPurseModel" "moved" "[I") ∈ lw_all := lw_g (lw_at lw_m4 71 rfl) rfl
theorem q809 : (Jvm.Cond.soleField "TownPurseModel" "moved") ∈ lw_all := lw_g (lw_at lw_m4 72 rfl) rfl
theorem q810 : (Jvm.Cond.laysFinal "TownPurseModel" "TownPurseModel" "alone" "[I") ∈ lw_all := lw_g (lw_at lw_m4 73 rfl) rfl
theorem q811 : (Jvm.Cond.soleField "TownPurseModel" "alone") ∈ lw_all := lw_g (lw_at lw_m4 74 rfl) rfl
theorem q812 : (Jvm.Cond.laysFinal "TownPurseModel" "TownPurseModel" "used" "[I") ∈ lw_all := lw_g (lw_at lw_m4 75 rfl) rfl
theorem q813 : (Jvm.Cond.soleField "TownPurseModel" "used") ∈ lw_all := lw_g (lw_at lw_m4 76 rfl) rfl
theorem q814 : (Jvm.Cond.lays "TownPurseModel" "TownPurseModel" "limit" "I") ∈ lw_all := lw_g (lw_at lw_m4 77 rfl) rfl
theorem q815 : (Jvm.Cond.soleField "TownPurseModel" "limit") ∈ lw_all := lw_g (lw_at lw_m4 78 rfl) rfl
theorem q816 : (Jvm.Cond.lays "TownPurseModel" "TownPurseModel" "payments" "I") ∈ lw_all := lw_g (lw_at lw_m4 79 rfl) rfl
theorem q817 : (Jvm.Cond.soleField "TownPurseModel" "payments") ∈ lw_all := lw_g (lw_at lw_m4 80 rfl) rfl
theorem q818 : (Jvm.Cond.laysFinal "TownPurseModel" "TownPurseModel" "ofAccount" "[I") ∈ lw_all := lw_g (lw_at lw_m4 81 rfl) rfl
theorem q819 : (Jvm.Cond.soleField "TownPurseModel" "ofAccount") ∈ lw_all := lw_g (lw_at lw_m4 82 rfl) rfl
theorem q820 : (Jvm.Cond.laysFinal "TownPurseModel" "TownPurseModel" "payees" "[I") ∈ lw_all := lw_g (lw_at lw_m4 83 rfl) rfl
theorem q821 : (Jvm.Cond.soleField "TownPurseModel" "payees") ∈ lw_all := lw_g (lw_at lw_m4 84 rfl) rfl
theorem q822 : (Jvm.Cond.laysFinal "TownPurseModel" "TownPurseModel" "sums" "[I") ∈ lw_all := lw_g (lw_at lw_m4 85 rfl) rfl
theorem q823 : (Jvm.Cond.soleField "TownPurseModel" "sums") ∈ lw_all := lw_g (lw_at lw_m4 86 rfl) rfl
theorem q824 : (Jvm.Cond.laysFinal "TownPurseModel" "TownPurseModel" "preparers" "[I") ∈ lw_all := lw_g (lw_at lw_m4 87 rfl) rfl
theorem q825 : (Jvm.Cond.soleField "TownPurseModel" "preparers") ∈ lw_all := lw_g (lw_at lw_m4 88 rfl) rfl
theorem q826 : (Jvm.Cond.laysFinal "TownPurseModel" "TownPurseModel" "since" "[I") ∈ lw_all := lw_g (lw_at lw_m4 89 rfl) rfl
theorem q827 : (Jvm.Cond.soleField "TownPurseModel" "since") ∈ lw_all := lw_g (lw_at lw_m4 90 rfl) rfl
theorem q828 : (Jvm.Cond.laysFinal "TownPurseModel" "TownPurseModel" "states" "[I") ∈ lw_all := lw_g (lw_at lw_m4 91 rfl) rfl
theorem q829 : (Jvm.Cond.soleField "TownPurseModel" "states") ∈ lw_all := lw_g (lw_at lw_m4 92 rfl) rfl
theorem q830 : (Jvm.Cond.laysFinal "TownPurseModel" "TownPurseModel" "releasers" "[I") ∈ lw_all := lw_g (lw_at lw_m4 93 rfl) rfl
theorem q831 : (Jvm.Cond.soleField "TownPurseModel" "releasers") ∈ lw_all := lw_g (lw_at lw_m4 94 rfl) rfl
theorem q832 : (Jvm.Cond.laysFinal "TownPurseModel" "TownPurseModel" "before" "[I") ∈ lw_all := lw_g (lw_at lw_m4 95 rfl) rfl
theorem q833 : (Jvm.Cond.soleField "TownPurseModel" "before") ∈ lw_all := lw_g (lw_at lw_m4 96 rfl) rfl
theorem q834 : (Jvm.Cond.lays "TownPurseModel" "TownPurseModel" "advances" "I") ∈ lw_all := lw_g (lw_at lw_m4 97 rfl) rfl
theorem q835 : (Jvm.Cond.soleField "TownPurseModel" "advances") ∈ lw_all := lw_g (lw_at lw_m4 98 rfl) rfl
theorem q836 : (Jvm.Cond.laysFinal "TownPurseModel" "TownPurseModel" "people" "[I") ∈ lw_all := lw_g (lw_at lw_m4 99 rfl) rfl
theorem q837 : (Jvm.Cond.soleField "TownPurseModel" "people") ∈ lw_all := lw_g (lw_at lw_m4 100 rfl) rfl
theorem q838 : (Jvm.Cond.laysFinal "TownPurseModel" "TownPurseModel" "given" "[I") ∈ lw_all := lw_g (lw_at lw_m4 101 rfl) rfl
theorem q839 : (Jvm.Cond.soleField "TownPurseModel" "given") ∈ lw_all := lw_g (lw_at lw_m4 102 rfl) rfl
theorem q840 : (Jvm.Cond.laysFinal "TownPurseModel" "TownPurseModel" "settled" "[I") ∈ lw_all := lw_g (lw_at lw_m4 103 rfl) rfl
theorem q841 : (Jvm.Cond.soleField "TownPurseModel" "settled") ∈ lw_all := lw_g (lw_at lw_m4 104 rfl) rfl
theorem q842 : (Jvm.Cond.lays "TownPurseModel" "TownPurseModel" "thrown" "I") ∈ lw_all := lw_g (lw_at lw_m4 105 rfl) rfl
theorem q843 : (Jvm.Cond.soleField "TownPurseModel" "thrown") ∈ lw_all := lw_g (lw_at lw_m4 106 rfl) rfl
theorem q844 : (Jvm.Cond.superclass "TownPurseModel" "java/lang/Object") ∈ lw_all := lw_g (lw_at lw_m4 107 rfl) rfl
theorem q846 : (Jvm.Cond.instanceMethod ({ cls := "TownPurseModel", name := "thrown", desc := "()I" } : Jvm.MethodName)) ∈ lw_all := lw_g (lw_at lw_m4 109 rfl) rfl
theorem q847 : (Jvm.Cond.selects "TownPurseModel" ({ cls := "TownPurseModel", name := "thrown", desc := "()I" } : Jvm.MethodName) ({ cls := "TownPurseModel", name := "thrown", desc := "()I" } : Jvm.MethodName)) ∈ lw_all := lw_g (lw_at lw_m4 110 rfl) rfl
theorem q848 : (Jvm.Cond.code ({ cls := "TownPurseModel", name := "thrown", desc := "()I" } : Jvm.MethodName) prog_13_method_2_code (1 : Nat) (Option.some Jvm.ClassFile.FieldType.int)) ∈ lw_all := lw_g (lw_at lw_m4 111 rfl) rfl
theorem q850 : (Jvm.Cond.instanceMethod ({ cls := "TownPurseModel", name := "addAccount", desc := "(I)I" } : Jvm.MethodName)) ∈ lw_all := lw_g (lw_at lw_m4 113 rfl) rfl
theorem q851 : (Jvm.Cond.selects "TownPurseModel" ({ cls := "TownPurseModel", name := "addAccount", desc := "(I)I" } : Jvm.MethodName) ({ cls := "TownPurseModel", name := "addAccount", desc := "(I)I" } : Jvm.MethodName)) ∈ lw_all := lw_g (lw_at lw_m4 114 rfl) rfl
theorem q852 : (Jvm.Cond.code ({ cls := "TownPurseModel", name := "addAccount", desc := "(I)I" } : Jvm.MethodName) prog_13_method_6_code (2 : Nat) (Option.some Jvm.ClassFile.FieldType.int)) ∈ lw_all := lw_g (lw_at lw_m4 115 rfl) rfl
theorem q853 : (Jvm.Cond.methodLink "TownPurseModel" (90 : Nat) ({ cls := "TownPurseModel", name := "isAccount", desc := "(I)Z" } : Jvm.MethodName)) ∈ lw_all := lw_g (lw_at lw_m4 116 rfl) rfl
theorem q854 : (Jvm.Cond.privateMethod ({ cls := "TownPurseModel", name := "isAccount", desc := "(I)Z" } : Jvm.MethodName)) ∈ lw_tbl := lw_at lw_m4 117 rfl
theorem q855 : (Jvm.Cond.instanceMethod ({ cls := "TownPurseModel", name := "isAccount", desc := "(I)Z" } : Jvm.MethodName)) ∈ lw_all := lw_g (lw_at lw_m4 118 rfl) rfl
theorem q856 : (Jvm.Cond.code ({ cls := "TownPurseModel", name := "isAccount", desc := "(I)Z" } : Jvm.MethodName) prog_13_method_5_code (2 : Nat) (Option.some Jvm.ClassFile.FieldType.boolean)) ∈ lw_all := lw_g (lw_at lw_m4 119 rfl) rfl
theorem q857 : (Jvm.Cond.methodLink "TownPurseModel" (86 : Nat) ({ cls := "TownPurseModel", name := "in", desc := "(III)Z" } : Jvm.MethodName)) ∈ lw_all := lw_g (lw_at lw_m4 120 rfl) rfl
theorem q858 : (Jvm.Cond.static ({ cls := "TownPurseModel", name := "in", desc := "(III)Z" } : Jvm.MethodName)) ∈ lw_all := lw_g (lw_at lw_m4 121 rfl) rfl
theorem q859 : (Jvm.Cond.code ({ cls := "TownPurseModel", name := "in", desc := "(III)Z" } : Jvm.MethodName) prog_13_method_4_code (3 : Nat) (Option.some Jvm.ClassFile.FieldType.boolean)) ∈ lw_all := lw_g (lw_at lw_m4 122 rfl) rfl
theorem q861 : (Jvm.Cond.instanceMethod ({ cls := "TownPurseModel", name := "enter", desc := "(IIII)I" } : Jvm.MethodName)) ∈ lw_all := lw_g (lw_at lw_m4 124 rfl) rfl
theorem q862 : (Jvm.Cond.selects "TownPurseModel" ({ cls := "TownPurseModel", name := "enter", desc := "(IIII)I" } : Jvm.MethodName) ({ cls := "TownPurseModel", name := "enter", desc := "(IIII)I" } : Jvm.MethodName)) ∈ lw_all := lw_g (lw_at lw_m4 125 rfl) rfl
theorem q863 : (Jvm.Cond.code ({ cls := "TownPurseModel", name := "enter", desc := "(IIII)I" } : Jvm.MethodName) prog_13_method_8_code (5 : Nat) (Option.some Jvm.ClassFile.FieldType.int)) ∈ lw_all := lw_g (lw_at lw_m4 126 rfl) rfl
theorem q864 : (Jvm.Cond.constant "TownPurseModel" (100 : Nat) (1000000 : Int32)) ∈ lw_all := lw_g (lw_at lw_m4 127 rfl) rfl
theorem q865 : (Jvm.Cond.methodLink "TownPurseModel" (101 : Nat) ({ cls := "TownPurseModel", name := "enters", desc := "(IIII)I" } : Jvm.MethodName)) ∈ lw_all := lw_g (lw_at lw_m4 128 rfl) rfl
theorem q866 : (Jvm.Cond.privateMethod ({ cls := "TownPurseModel", name := "enters", desc := "(IIII)I" } : Jvm.MethodName)) ∈ lw_tbl := lw_at lw_m4 129 rfl
theorem q867 : (Jvm.Cond.instanceMethod ({ cls := "TownPurseModel", name := "enters", desc := "(IIII)I" } : Jvm.MethodName)) ∈ lw_all := lw_g (lw_at lw_m4 130 rfl) rfl
theorem q868 : (Jvm.Cond.code ({ cls := "TownPurseModel", name := "enters", desc := "(IIII)I" } : Jvm.MethodName) prog_13_method_7_code (5 : Nat) (Option.some Jvm.ClassFile.FieldType.int)) ∈ lw_all := lw_g (lw_at lw_m4 131 rfl) rfl
theorem q870 : (Jvm.Cond.instanceMethod ({ cls := "TownPurseModel", name := "close", desc := "()I" } : Jvm.MethodName)) ∈ lw_all := lw_g (lw_at lw_m4 133 rfl) rfl
theorem q871 : (Jvm.Cond.selects "TownPurseModel" ({ cls := "TownPurseModel", name := "close", desc := "()I" } : Jvm.MethodName) ({ cls := "TownPurseModel", name := "close", desc := "()I" } : Jvm.MethodName)) ∈ lw_all := lw_g (lw_at lw_m4 134 rfl) rfl
theorem q872 : (Jvm.Cond.code ({ cls := "TownPurseModel", name := "close", desc := "()I" } : Jvm.MethodName) prog_13_method_9_code (1 : Nat) (Option.some Jvm.ClassFile.FieldType.int)) ∈ lw_all := lw_g (lw_at lw_m4 135 rfl) rfl
theorem q874 : (Jvm.Cond.instanceMethod ({ cls := "TownPurseModel", name := "period", desc := "()I" } : Jvm.MethodName)) ∈ lw_all := lw_g (lw_at lw_m4 137 rfl) rfl
theorem q875 : (Jvm.Cond.selects "TownPurseModel" ({ cls := "TownPurseModel", name := "period", desc := "()I" } : Jvm.MethodName) ({ cls := "TownPurseModel", name := "period", desc := "()I" } : Jvm.MethodName)) ∈ lw_all := lw_g (lw_at lw_m4 138 rfl) rfl
theorem q876 : (Jvm.Cond.code ({ cls := "TownPurseModel", name := "period", desc := "()I" } : Jvm.MethodName) prog_13_method_10_code (1 : Nat) (Option.some Jvm.ClassFile.FieldType.int)) ∈ lw_all := lw_g (lw_at lw_m4 139 rfl) rfl
theorem q878 : (Jvm.Cond.instanceMethod ({ cls := "TownPurseModel", name := "entries", desc := "()I" } : Jvm.MethodName)) ∈ lw_all := lw_g (lw_at lw_m4 141 rfl) rfl
theorem q879 : (Jvm.Cond.selects "TownPurseModel" ({ cls := "TownPurseModel", name := "entries", desc := "()I" } : Jvm.MethodName) ({ cls := "TownPurseModel", name := "entries", desc := "()I" } : Jvm.MethodName)) ∈ lw_all := lw_g (lw_at lw_m4 142 rfl) rfl
theorem q880 : (Jvm.Cond.code ({ cls := "TownPurseModel", name := "entries", desc := "()I" } : Jvm.MethodName) prog_13_method_11_code (1 : Nat) (Option.some Jvm.ClassFile.FieldType.int)) ∈ lw_all := lw_g (lw_at lw_m4 143 rfl) rfl
theorem q882 : (Jvm.Cond.instanceMethod ({ cls := "TownPurseModel", name := "periodOf", desc := "(I)I" } : Jvm.MethodName)) ∈ lw_all := lw_g (lw_at lw_m4 145 rfl) rfl
theorem q883 : (Jvm.Cond.selects "TownPurseModel" ({ cls := "TownPurseModel", name := "periodOf", desc := "(I)I" } : Jvm.MethodName) ({ cls := "TownPurseModel", name := "periodOf", desc := "(I)I" } : Jvm.MethodName)) ∈ lw_all := lw_g (lw_at lw_m4 146 rfl) rfl
theorem q884 : (Jvm.Cond.code ({ cls := "TownPurseModel", name := "periodOf", desc := "(I)I" } : Jvm.MethodName) prog_13_method_12_code (2 : Nat) (Option.some Jvm.ClassFile.FieldType.int)) ∈ lw_all := lw_g (lw_at lw_m4 147 rfl) rfl
theorem q886 : (Jvm.Cond.instanceMethod ({ cls := "TownPurseModel", name := "isLate", desc := "(I)Z" } : Jvm.MethodName)) ∈ lw_all := lw_g (lw_at lw_m4 149 rfl) rfl
theorem q887 : (Jvm.Cond.selects "TownPurseModel" ({ cls := "TownPurseModel", name := "isLate", desc := "(I)Z" } : Jvm.MethodName) ({ cls := "TownPurseModel", name := "isLate", desc := "(I)Z" } : Jvm.MethodName)) ∈ lw_all := lw_g (lw_at lw_m4 150 rfl) rfl
theorem q888 : (Jvm.Cond.code ({ cls := "TownPurseModel", name := "isLate", desc := "(I)Z" } : Jvm.MethodName) prog_13_method_13_code (2 : Nat) (Option.some Jvm.ClassFile.FieldType.boolean)) ∈ lw_all := lw_g (lw_at lw_m4 151 rfl) rfl
theorem q890 : (Jvm.Cond.instanceMethod ({ cls := "TownPurseModel", name := "balance", desc := "(II)I" } : Jvm.MethodName)) ∈ lw_all := lw_g (lw_at lw_m4 153 rfl) rfl
theorem q891 : (Jvm.Cond.selects "TownPurseModel" ({ cls := "TownPurseModel", name := "balance", desc := "(II)I" } : Jvm.MethodName) ({ cls := "TownPurseModel", name := "balance", desc := "(II)I" } : Jvm.MethodName)) ∈ lw_all := lw_g (lw_at lw_m4 154 rfl) rfl
theorem q892 : (Jvm.Cond.code ({ cls := "TownPurseModel", name := "balance", desc := "(II)I" } : Jvm.MethodName) prog_13_method_16_code (3 : Nat) (Option.some Jvm.ClassFile.FieldType.int)) ∈ lw_all := lw_g (lw_at lw_m4 155 rfl) rfl
theorem q893 : (Jvm.Cond.methodLink "TownPurseModel" (109 : Nat) ({ cls := "TownPurseModel", name := "balanceOf", desc := "(II)I" } : Jvm.MethodName)) ∈ lw_all := lw_g (lw_at lw_m4 156 rfl) rfl
theorem q894 : (Jvm.Cond.privateMethod ({ cls := "TownPurseModel", name := "balanceOf", desc := "(II)I" } : Jvm.MethodName)) ∈ lw_tbl := lw_at lw_m4 157 rfl
theorem q895 : (Jvm.Cond.instanceMethod ({ cls := "TownPurseModel", name := "balanceOf", desc := "(II)I" } : Jvm.MethodName)) ∈ lw_all := lw_g (lw_at lw_m4 158 rfl) rfl
theorem q896 : (Jvm.Cond.code ({ cls := "TownPurseModel", name := "balanceOf", desc := "(II)I" } : Jvm.MethodName) prog_13_method_15_code (5 : Nat) (Option.some Jvm.ClassFile.FieldType.int)) ∈ lw_all := lw_g (lw_at lw_m4 159 rfl) rfl
theorem q897 : (Jvm.Cond.methodLink "TownPurseModel" (105 : Nat) ({ cls := "TownPurseModel", name := "isUnder", desc := "(II)Z" } : Jvm.MethodName)) ∈ lw_all := lw_g (lw_at lw_m4 160 rfl) rfl
theorem q898 : (Jvm.Cond.privateMethod ({ cls := "TownPurseModel", name := "isUnder", desc := "(II)Z" } : Jvm.MethodName)) ∈ lw_tbl := lw_at lw_m4 161 rfl
theorem q899 : (Jvm.Cond.instanceMethod ({ cls := "TownPurseModel", name := "isUnder", desc := "(II)Z" } : Jvm.MethodName)) ∈ lw_all := lw_g (lw_at lw_m4 162 rfl) rfl
theorem q900 : (Jvm.Cond.code ({ cls := "TownPurseModel", name := "isUnder", desc := "(II)Z" } : Jvm.MethodName) prog_13_method_14_code (4 : Nat) (Option.some Jvm.ClassFile.FieldType.boolean)) ∈ lw_all := lw_g (lw_at lw_m4 163 rfl) rfl
theorem q902 : (Jvm.Cond.instanceMethod ({ cls := "TownPurseModel", name := "balanceByEntries", desc := "(II)I" } : Jvm.MethodName)) ∈ lw_all := lw_g (lw_at lw_m4 165 rfl) rfl
theorem q903 : (Jvm.Cond.selects "TownPurseModel" ({ cls := "TownPurseModel", name := "balanceByEntries", desc := "(II)I" } : Jvm.MethodName) ({ cls := "TownPurseModel", name := "balanceByEntries", desc := "(II)I" } : Jvm.MethodName)) ∈ lw_all := lw_g (lw_at lw_m4 166 rfl) rfl
theorem q904 : (Jvm.Cond.code ({ cls := "TownPurseModel", name := "balanceByEntries", desc := "(II)I" } : Jvm.MethodName) prog_13_method_17_code (3 : Nat) (Option.some Jvm.ClassFile.FieldType.int)) ∈ lw_all := lw_g (lw_at lw_m4 167 rfl) rfl
theorem q906 : (Jvm.Cond.instanceMethod ({ cls := "TownPurseModel", name := "grant", desc := "(II)V" } : Jvm.MethodName)) ∈ lw_all := lw_g (lw_at lw_m4 169 rfl) rfl
theorem q907 : (Jvm.Cond.selects "TownPurseModel" ({ cls := "TownPurseModel", name := "grant", desc := "(II)V" } : Jvm.MethodName) ({ cls := "TownPurseModel", name := "grant", desc := "(II)V" } : Jvm.MethodName)) ∈ lw_all := lw_g (lw_at lw_m4 170 rfl) rfl
theorem q908 : (Jvm.Cond.code ({ cls := "TownPurseModel", name := "grant", desc := "(II)V" } : Jvm.MethodName) prog_13_method_18_code (3 : Nat) (Option.none : Option Jvm.ClassFile.FieldType)) ∈ lw_all := lw_g (lw_at lw_m4 171 rfl) rfl
theorem q910 : (Jvm.Cond.instanceMethod ({ cls := "TownPurseModel", name := "amend", desc := "(IIIZ)I" } : Jvm.MethodName)) ∈ lw_all := lw_g (lw_at lw_m4 173 rfl) rfl
theorem q911 : (Jvm.Cond.selects "TownPurseModel" ({ cls := "TownPurseModel", name := "amend", desc := "(IIIZ)I" } : Jvm.MethodName) ({ cls := "TownPurseModel", name := "amend", desc := "(IIIZ)I" } : Jvm.MethodName)) ∈ lw_all := lw_g (lw_at lw_m4 174 rfl) rfl
theorem q912 : (Jvm.Cond.code ({ cls := "TownPurseModel", name := "amend", desc := "(IIIZ)I" } : Jvm.MethodName) prog_13_method_20_code (6 : Nat) (Option.some Jvm.ClassFile.FieldType.int)) ∈ lw_all := lw_g (lw_at lw_m4 175 rfl) rfl
theorem q913 : (Jvm.Cond.methodLink "TownPurseModel" (113 : Nat) ({ cls := "TownPurseModel", name := "leftOf", desc := "(I)I" } : Jvm.MethodName)) ∈ lw_all := lw_g (lw_at lw_m4 176 rfl) rfl
theorem q914 : (Jvm.Cond.privateMethod ({ cls := "TownPurseModel", name := "leftOf", desc := "(I)I" } : Jvm.MethodName)) ∈ lw_tbl := lw_at lw_m4 177 rfl
theorem q915 : (Jvm.Cond.instanceMethod ({ cls := "TownPurseModel", name := "leftOf", desc := "(I)I" } : Jvm.MethodName)) ∈ lw_all := lw_g (lw_at lw_m4 178 rfl) rfl
theorem q916 : (Jvm.Cond.code ({ cls := "TownPurseModel", name := "leftOf", desc := "(I)I" } : Jvm.MethodName) prog_13_method_19_code (2 : Nat) (Option.some Jvm.ClassFile.FieldType.int)) ∈ lw_all := lw_g (lw_at lw_m4 179 rfl) rfl
theorem q917 : (Jvm.Cond.methodLink "TownPurseModel" (117 : Nat) ({ cls := "TownPurseModel", name := "fails", desc := "(I)I" } : Jvm.MethodName)) ∈ lw_all := lw_g (lw_at lw_m4 180 rfl) rfl
theorem q918 : (Jvm.Cond.privateMethod ({ cls := "TownPurseModel", name := "fails", desc := "(I)I" } : Jvm.MethodName)) ∈ lw_tbl := lw_at lw_m4 181 rfl
theorem q919 : (Jvm.Cond.instanceMethod ({ cls := "TownPurseModel", name := "fails", desc := "(I)I" } : Jvm.MethodName)) ∈ lw_all := lw_g (lw_at lw_m4 182 rfl) rfl
theorem q920 : (Jvm.Cond.code ({ cls := "TownPurseModel", name := "fails", desc := "(I)I" } : Jvm.MethodName) prog_13_method_3_code (2 : Nat) (Option.some Jvm.ClassFile.FieldType.int)) ∈ lw_all := lw_g (lw_at lw_m4 183 rfl) rfl
theorem q922 : (Jvm.Cond.instanceMethod ({ cls := "TownPurseModel", name := "left", desc := "(I)I" } : Jvm.MethodName)) ∈ lw_all := lw_g (lw_at lw_m4 185 rfl) rfl
theorem q923 : (Jvm.Cond.selects "TownPurseModel" ({ cls := "TownPurseModel", name := "left", desc := "(I)I" } : Jvm.MethodName) ({ cls := "TownPurseModel", name := "left", desc := "(I)I" } : Jvm.MethodName)) ∈ lw_all := lw_g (lw_at lw_m4 186 rfl) rfl
theorem q924 : (Jvm.Cond.code ({ cls := "TownPurseModel", name := "left", desc := "(I)I" } : Jvm.MethodName) prog_13_method_21_code (2 : Nat) (Option.some Jvm.ClassFile.FieldType.int)) ∈ lw_all := lw_g (lw_at lw_m4 187 rfl) rfl
theorem q926 : (Jvm.Cond.instanceMethod ({ cls := "TownPurseModel", name := "setLimit", desc := "(I)I" } : Jvm.MethodName)) ∈ lw_all := lw_g (lw_at lw_m4 189 rfl) rfl
theorem q927 : (Jvm.Cond.selects "TownPurseModel" ({ cls := "TownPurseModel", name := "setLimit", desc := "(I)I" } : Jvm.MethodName) ({ cls := "TownPurseModel", name := "setLimit", desc := "(I)I" } : Jvm.MethodName)) ∈ lw_all := lw_g (lw_at lw_m4 190 rfl) rfl
theorem q928 : (Jvm.Cond.code ({ cls := "TownPurseModel", name := "setLimit", desc := "(I)I" } : Jvm.MethodName) prog_13_method_22_code (3 : Nat) (Option.some Jvm.ClassFile.FieldType.int)) ∈ lw_all := lw_g (lw_at lw_m4 191 rfl) rfl
theorem q930 : (Jvm.Cond.instanceMethod ({ cls := "TownPurseModel", name := "prepare", desc := "(IIII)I" } : Jvm.MethodName)) ∈ lw_all := lw_g (lw_at lw_m4 193 rfl) rfl
theorem q931 : (Jvm.Cond.selects "TownPurseModel" ({ cls := "TownPurseModel", name := "prepare", desc := "(IIII)I" } : Jvm.MethodName) ({ cls := "TownPurseModel", name := "prepare", desc := "(IIII)I" } : Jvm.MethodName)) ∈ lw_all := lw_g (lw_at lw_m4 194 rfl) rfl
theorem q932 : (Jvm.Cond.code ({ cls := "TownPurseModel", name := "prepare", desc := "(IIII)I" } : Jvm.MethodName) prog_13_method_23_code (5 : Nat) (Option.some Jvm.ClassFile.FieldType.int)) ∈ lw_all := lw_g (lw_at lw_m4 195 rfl) rfl
theorem q934 : (Jvm.Cond.instanceMethod ({ cls := "TownPurseModel", name := "release", desc := "(II)I" } : Jvm.MethodName)) ∈ lw_all := lw_g (lw_at lw_m4 197 rfl) rfl
theorem q935 : (Jvm.Cond.selects "TownPurseModel" ({ cls := "TownPurseModel", name := "release", desc := "(II)I" } : Jvm.MethodName) ({ cls := "TownPurseModel", name := "release", desc := "(II)I" } : Jvm.MethodName)) ∈ lw_all := lw_g (lw_at lw_m4 198 rfl) rfl
theorem q936 : (Jvm.Cond.code ({ cls := "TownPurseModel", name := "release", desc := "(II)I" } : Jvm.MethodName) prog_13_method_26_code (6 : Nat) (Option.some Jvm.ClassFile.FieldType.int)) ∈ lw_all := lw_g (lw_at lw_m4 199 rfl) rfl
theorem q937 : (Jvm.Cond.methodLink "TownPurseModel" (123 : Nat) ({ cls := "TownPurseModel", name := "splits", desc := "(I)Z" } : Jvm.MethodName)) ∈ lw_all := lw_g (lw_at lw_m4 200 rfl) rfl
theorem q938 : (Jvm.Cond.privateMethod ({ cls := "TownPurseModel", name := "splits", desc := "(I)Z" } : Jvm.MethodName)) ∈ lw_tbl := lw_at lw_m4 201 rfl
theorem q939 : (Jvm.Cond.instanceMethod ({ cls := "TownPurseModel", name := "splits", desc := "(I)Z" } : Jvm.MethodName)) ∈ lw_all := lw_g (lw_at lw_m4 202 rfl) rfl
theorem q940 : (Jvm.Cond.code ({ cls := "TownPurseModel", name := "splits", desc := "(I)Z" } : Jvm.MethodName) prog_13_method_25_code (5 : Nat) (Option.some Jvm.ClassFile.FieldType.boolean)) ∈ lw_all := lw_g (lw_at lw_m4 203 rfl) rfl
theorem q942 : (Jvm.Cond.instanceMethod ({ cls := "TownPurseModel", name := "refuse", desc := "(I)I" } : Jvm.MethodName)) ∈ lw_all := lw_g (lw_at lw_m4 205 rfl) rfl
theorem q943 : (Jvm.Cond.selects "TownPurseModel" ({ cls := "TownPurseModel", name := "refuse", desc := "(I)I" } : Jvm.MethodName) ({ cls := "TownPurseModel", name := "refuse", desc := "(I)I" } : Jvm.MethodName)) ∈ lw_all := lw_g (lw_at lw_m4 206 rfl) rfl
theorem q944 : (Jvm.Cond.code ({ cls := "TownPurseModel", name := "refuse", desc := "(I)I" } : Jvm.MethodName) prog_13_method_27_code (4 : Nat) (Option.some Jvm.ClassFile.FieldType.int)) ∈ lw_all := lw_g (lw_at lw_m4 207 rfl) rfl
theorem q945 : (Jvm.Cond.methodLink "TownPurseModel" (126 : Nat) ({ cls := "TownPurseModel", name := "isPayment", desc := "(I)Z" } : Jvm.MethodName)) ∈ lw_all := lw_g (lw_at lw_m4 208 rfl) rfl
theorem q946 : (Jvm.Cond.privateMethod ({ cls := "TownPurseModel", name := "isPayment", desc := "(I)Z" } : Jvm.MethodName)) ∈ lw_tbl := lw_at lw_m4 209 rfl
theorem q947 : (Jvm.Cond.instanceMethod ({ cls := "TownPurseModel", name := "isPayment", desc := "(I)Z" } : Jvm.MethodName)) ∈ lw_all := lw_g (lw_at lw_m4 210 rfl) rfl
theorem q948 : (Jvm.Cond.code ({ cls := "TownPurseModel", name := "isPayment", desc := "(I)Z" } : Jvm.MethodName) prog_13_method_24_code (2 : Nat) (Option.some Jvm.ClassFile.FieldType.boolean)) ∈ lw_all := lw_g (lw_at lw_m4 211 rfl) rfl
theorem q950 : (Jvm.Cond.instanceMethod ({ cls := "TownPurseModel", name := "stateOf", desc := "(I)I" } : Jvm.MethodName)) ∈ lw_all := lw_g (lw_at lw_m4 213 rfl) rfl
theorem q951 : (Jvm.Cond.selects "TownPurseModel" ({ cls := "TownPurseModel", name := "stateOf", desc := "(I)I" } : Jvm.MethodName) ({ cls := "TownPurseModel", name := "stateOf", desc := "(I)I" } : Jvm.MethodName)) ∈ lw_all := lw_g (lw_at lw_m4 214 rfl) rfl
theorem q952 : (Jvm.Cond.code ({ cls := "TownPurseModel", name := "stateOf", desc := "(I)I" } : Jvm.MethodName) prog_13_method_28_code (2 : Nat) (Option.some Jvm.ClassFile.FieldType.int)) ∈ lw_all := lw_g (lw_at lw_m4 215 rfl) rfl
theorem q954 : (Jvm.Cond.instanceMethod ({ cls := "TownPurseModel", name := "isSplit", desc := "(I)Z" } : Jvm.MethodName)) ∈ lw_all := lw_g (lw_at lw_m4 217 rfl) rfl
theorem q955 : (Jvm.Cond.selects "TownPurseModel" ({ cls := "TownPurseModel", name := "isSplit", desc := "(I)Z" } : Jvm.MethodName) ({ cls := "TownPurseModel", name := "isSplit", desc := "(I)Z" } : Jvm.MethodName)) ∈ lw_all := lw_g (lw_at lw_m4 218 rfl) rfl
theorem q956 : (Jvm.Cond.code ({ cls := "TownPurseModel", name := "isSplit", desc := "(I)Z" } : Jvm.MethodName) prog_13_method_29_code (2 : Nat) (Option.some Jvm.ClassFile.FieldType.boolean)) ∈ lw_all := lw_g (lw_at lw_m4 219 rfl) rfl
theorem q958 : (Jvm.Cond.instanceMethod ({ cls := "TownPurseModel", name := "advance", desc := "(II)I" } : Jvm.MethodName)) ∈ lw_all := lw_g (lw_at lw_m4 221 rfl) rfl
theorem q959 : (Jvm.Cond.selects "TownPurseModel" ({ cls := "TownPurseModel", name := "advance", desc := "(II)I" } : Jvm.MethodName) ({ cls := "TownPurseModel", name := "advance", desc := "(II)I" } : Jvm.MethodName)) ∈ lw_all := lw_g (lw_at lw_m4 222 rfl) rfl
theorem q960 : (Jvm.Cond.code ({ cls := "TownPurseModel", name := "advance", desc := "(II)I" } : Jvm.MethodName) prog_13_method_30_code (4 : Nat) (Option.some Jvm.ClassFile.FieldType.int)) ∈ lw_all := lw_g (lw_at lw_m4 223 rfl) rfl
theorem q962 : (Jvm.Cond.instanceMethod ({ cls := "TownPurseModel", name := "settle", desc := "(III)I" } : Jvm.MethodName)) ∈ lw_all := lw_g (lw_at lw_m4 225 rfl) rfl
theorem q963 : (Jvm.Cond.selects "TownPurseModel" ({ cls := "TownPurseModel", name := "settle", desc := "(III)I" } : Jvm.MethodName) ({ cls := "TownPurseModel", name := "settle", desc := "(III)I" } : Jvm.MethodName)) ∈ lw_all := lw_g (lw_at lw_m4 226 rfl) rfl
theorem q964 : (Jvm.Cond.code ({ cls := "TownPurseModel", name := "settle", desc := "(III)I" } : Jvm.MethodName) prog_13_method_31_code (5 : Nat) (Option.some Jvm.ClassFile.FieldType.int)) ∈ lw_all := lw_g (lw_at lw_m4 227 rfl) rfl
theorem q973 : (Jvm.Cond.castable "TownPurseModel" "java/lang/Object") ∈ lw_tbl := lw_at lw_m4 236 rfl
theorem in_X3 : ∀ w ∈ wsX30, w ∈ lw_all := lw_in wsX30 [786, 788, 790, 792, 794, 796, 798, 800, 802, 804, 806, 808, 810, 812, 814, 816, 818, 820, 822, 824, 826, 828, 830, 832, 834, 836, 838, 840, 842] (by decide +kernel) (by decide +kernel)

/-! Countcote -/
set_option maxRecDepth 100000
def RX1 : String := "Countcote"
def TX1 : u_T := fun k => match k with
  | 0 => ("Countcote", "columns", "[LCountcote$Hash;", true)
  | 1 => ("Countcote", "signedColumns", "[LCountcote$Hash;", true)
  | 2 => ("Countcote", "parities", "[LCountcote$Hash;", true)
  | _ => ("Countcote", "streams", "[LCountcote$Stream;", true)
def tyX1 : Nat → FieldType := fun k => match k with
  | 0 => .array (.object "Countcote$Hash")
  | 1 => .array (.object "Countcote$Hash")
  | 2 => .array (.object "Countcote$Hash")
  | _ => .array (.object "Countcote$Stream")
abbrev wsX10 : List Cond := u_ws RX1 TX1 4
theorem nmX1 : ∀ a, a < 4 → ∀ b, b < 4 → a ≠ b → (TX1 a).2.1 ≠ (TX1 b).2.1 := by decide +kernel
theorem tyX1_ok : ∀ k, k < 4 → parseFieldDescriptor (TX1 k).2.2.1 = some (tyX1 k) := by decide +kernel
abbrev cX1_init : ByteArray := prog_1_method_4_code
def yX1_init : MethodName := ⟨RX1, "<init>", "()V"⟩
def dkwX1_init_6 : List UInt8 := [162, 0, 23, 42, 180, 0, 42, 27, 187, 0, 40, 89, 42, 183, 0, 46, 83, 132, 1, 1, 167, 255, 234, 177]
abbrev dktX1_init_6 : List UInt8 := dkwX1_init_6 ++ []
def dkwX1_init_5 : List UInt8 := [83, 89, 7, 186, 0, 39, 0, 0, 83, 181, 0, 1, 42, 7, 189, 0, 40, 181, 0, 42, 3, 60, 27, 7]
abbrev dktX1_init_5 : List UInt8 := dkwX1_init_5 ++ dktX1_init_6
def dkwX1_init_4 : List UInt8 := [83, 89, 4, 186, 0, 36, 0, 0, 83, 89, 5, 186, 0, 37, 0, 0, 83, 89, 6, 186, 0, 38, 0, 0]
abbrev dktX1_init_4 : List UInt8 := dkwX1_init_4 ++ dktX1_init_5
def dkwX1_init_3 : List UInt8 := [83, 89, 7, 186, 0, 31, 0, 0, 83, 181, 0, 32, 42, 8, 189, 0, 8, 89, 3, 186, 0, 35, 0, 0]
abbrev dktX1_init_3 : List UInt8 := dkwX1_init_3 ++ dktX1_init_4
def dkwX1_init_2 : List UInt8 := [83, 89, 4, 186, 0, 28, 0, 0, 83, 89, 5, 186, 0, 29, 0, 0, 83, 89, 6, 186, 0, 30, 0, 0]
abbrev dktX1_init_2 : List UInt8 := dkwX1_init_2 ++ dktX1_init_3
def dkwX1_init_1 : List UInt8 := [83, 89, 5, 186, 0, 23, 0, 0, 83, 181, 0, 24, 42, 8, 189, 0, 8, 89, 3, 186, 0, 27, 0, 0]
abbrev dktX1_init_1 : List UInt8 := dkwX1_init_1 ++ dktX1_init_2
def dkwX1_init_0 : List UInt8 := [42, 183, 0, 13, 42, 6, 189, 0, 8, 89, 3, 186, 0, 19, 0, 0, 83, 89, 4, 186, 0, 22, 0, 0]
abbrev dktX1_init_0 : List UInt8 := dkwX1_init_0 ++ dktX1_init_1
theorem dksX1_init_0 : cX1_init.data.toList.drop 0 = dktX1_init_0 := by decide +kernel
theorem dksX1_init_1 : cX1_init.data.toList.drop 24 = dktX1_init_1 := dk_seg dksX1_init_0 24 rfl rfl
theorem dksX1_init_2 : cX1_init.data.toList.drop 48 = dktX1_init_2 := dk_seg dksX1_init_1 24 rfl rfl
theorem dksX1_init_3 : cX1_init.data.toList.drop 72 = dktX1_init_3 := dk_seg dksX1_init_2 24 rfl rfl
theorem dksX1_init_4 : cX1_init.data.toList.drop 96 = dktX1_init_4 := dk_seg dksX1_init_3 24 rfl rfl
theorem dksX1_init_5 : cX1_init.data.toList.drop 120 = dktX1_init_5 := dk_seg dksX1_init_4 24 rfl rfl
theorem dksX1_init_6 : cX1_init.data.toList.drop 144 = dktX1_init_6 := dk_seg dksX1_init_5 24 rfl rfl
theorem dX1_init_0 : decode cX1_init 0 = .ok (.aload_n 0, 1) := dk_42 (dk_at dksX1_init_0 0 rfl rfl)
theorem dX1_init_1 : decode cX1_init 1 = .ok (.invokespecial 13, 3) := dk_183 0 13 (dk_at dksX1_init_0 1 rfl rfl)
theorem dX1_init_4 : decode cX1_init 4 = .ok (.aload_n 0, 1) := dk_42 (dk_at dksX1_init_0 4 rfl rfl)
theorem dX1_init_5 : decode cX1_init 5 = .ok (.iconst 3, 1) := dk_6 (dk_at dksX1_init_0 5 rfl rfl)
theorem dX1_init_6 : decode cX1_init 6 = .ok (.anewarray 8, 3) := dk_189 0 8 (dk_at dksX1_init_0 6 rfl rfl)
theorem dX1_init_9 : decode cX1_init 9 = .ok (.dup, 1) := dk_89 (dk_at dksX1_init_0 9 rfl rfl)
theorem dX1_init_10 : decode cX1_init 10 = .ok (.iconst 0, 1) := dk_3 (dk_at dksX1_init_0 10 rfl rfl)
theorem dX1_init_11 : decode cX1_init 11 = .ok (.invokedynamic 19, 5) := by decide +kernel
theorem dX1_init_16 : decode cX1_init 16 = .ok (.aastore, 1) := dk_83 (dk_at dksX1_init_0 16 rfl rfl)
theorem dX1_init_17 : decode cX1_init 17 = .ok (.dup, 1) := dk_89 (dk_at dksX1_init_0 17 rfl rfl)
theorem dX1_init_18 : decode cX1_init 18 = .ok (.iconst 1, 1) := dk_4 (dk_at dksX1_init_0 18 rfl rfl)
theorem dX1_init_19 : decode cX1_init 19 = .ok (.invokedynamic 22, 5) := by decide +kernel
theorem dX1_init_24 : decode cX1_init 24 = .ok (.aastore, 1) := dk_83 (dk_at dksX1_init_1 0 rfl rfl)
theorem dX1_init_25 : decode cX1_init 25 = .ok (.dup, 1) := dk_89 (dk_at dksX1_init_1 1 rfl rfl)
theorem dX1_init_26 : decode cX1_init 26 = .ok (.iconst 2, 1) := dk_5 (dk_at dksX1_init_1 2 rfl rfl)
theorem dX1_init_27 : decode cX1_init 27 = .ok (.invokedynamic 23, 5) := by decide +kernel
theorem dX1_init_32 : decode cX1_init 32 = .ok (.aastore, 1) := dk_83 (dk_at dksX1_init_1 8 rfl rfl)
theorem dX1_init_33 : decode cX1_init 33 = .ok (.putfield 24, 3) := dk_181 0 24 (dk_at dksX1_init_1 9 rfl rfl)
theorem dX1_init_36 : decode cX1_init 36 = .ok (.aload_n 0, 1) := dk_42 (dk_at dksX1_init_1 12 rfl rfl)
theorem dX1_init_37 : decode cX1_init 37 = .ok (.iconst 5, 1) := dk_8 (dk_at dksX1_init_1 13 rfl rfl)
theorem dX1_init_38 : decode cX1_init 38 = .ok (.anewarray 8, 3) := dk_189 0 8 (dk_at dksX1_init_1 14 rfl rfl)
theorem dX1_init_41 : decode cX1_init 41 = .ok (.dup, 1) := dk_89 (dk_at dksX1_init_1 17 rfl rfl)
theorem dX1_init_42 : decode cX1_init 42 = .ok (.iconst 0, 1) := dk_3 (dk_at dksX1_init_1 18 rfl rfl)
theorem dX1_init_43 : decode cX1_init 43 = .ok (.invokedynamic 27, 5) := by decide +kernel
theorem dX1_init_48 : decode cX1_init 48 = .ok (.aastore, 1) := dk_83 (dk_at dksX1_init_2 0 rfl rfl)
theorem dX1_init_49 : decode cX1_init 49 = .ok (.dup, 1) := dk_89 (dk_at dksX1_init_2 1 rfl rfl)
theorem dX1_init_50 : decode cX1_init 50 = .ok (.iconst 1, 1) := dk_4 (dk_at dksX1_init_2 2 rfl rfl)
theorem dX1_init_51 : decode cX1_init 51 = .ok (.invokedynamic 28, 5) := by decide +kernel
theorem dX1_init_56 : decode cX1_init 56 = .ok (.aastore, 1) := dk_83 (dk_at dksX1_init_2 8 rfl rfl)
theorem dX1_init_57 : decode cX1_init 57 = .ok (.dup, 1) := dk_89 (dk_at dksX1_init_2 9 rfl rfl)
theorem dX1_init_58 : decode cX1_init 58 = .ok (.iconst 2, 1) := dk_5 (dk_at dksX1_init_2 10 rfl rfl)
theorem dX1_init_59 : decode cX1_init 59 = .ok (.invokedynamic 29, 5) := by decide +kernel
theorem dX1_init_64 : decode cX1_init 64 = .ok (.aastore, 1) := dk_83 (dk_at dksX1_init_2 16 rfl rfl)
theorem dX1_init_65 : decode cX1_init 65 = .ok (.dup, 1) := dk_89 (dk_at dksX1_init_2 17 rfl rfl)
theorem dX1_init_66 : decode cX1_init 66 = .ok (.iconst 3, 1) := dk_6 (dk_at dksX1_init_2 18 rfl rfl)
theorem dX1_init_67 : decode cX1_init 67 = .ok (.invokedynamic 30, 5) := by decide +kernel
theorem dX1_init_72 : decode cX1_init 72 = .ok (.aastore, 1) := dk_83 (dk_at dksX1_init_3 0 rfl rfl)
theorem dX1_init_73 : decode cX1_init 73 = .ok (.dup, 1) := dk_89 (dk_at dksX1_init_3 1 rfl rfl)
theorem dX1_init_74 : decode cX1_init 74 = .ok (.iconst 4, 1) := dk_7 (dk_at dksX1_init_3 2 rfl rfl)
theorem dX1_init_75 : decode cX1_init 75 = .ok (.invokedynamic 31, 5) := by decide +kernel
theorem dX1_init_80 : decode cX1_init 80 = .ok (.aastore, 1) := dk_83 (dk_at dksX1_init_3 8 rfl rfl)
theorem dX1_init_81 : decode cX1_init 81 = .ok (.putfield 32, 3) := dk_181 0 32 (dk_at dksX1_init_3 9 rfl rfl)
theorem dX1_init_84 : decode cX1_init 84 = .ok (.aload_n 0, 1) := dk_42 (dk_at dksX1_init_3 12 rfl rfl)
theorem dX1_init_85 : decode cX1_init 85 = .ok (.iconst 5, 1) := dk_8 (dk_at dksX1_init_3 13 rfl rfl)
theorem dX1_init_86 : decode cX1_init 86 = .ok (.anewarray 8, 3) := dk_189 0 8 (dk_at dksX1_init_3 14 rfl rfl)
theorem dX1_init_89 : decode cX1_init 89 = .ok (.dup, 1) := dk_89 (dk_at dksX1_init_3 17 rfl rfl)
theorem dX1_init_90 : decode cX1_init 90 = .ok (.iconst 0, 1) := dk_3 (dk_at dksX1_init_3 18 rfl rfl)
theorem dX1_init_91 : decode cX1_init 91 = .ok (.invokedynamic 35, 5) := by decide +kernel
theorem dX1_init_96 : decode cX1_init 96 = .ok (.aastore, 1) := dk_83 (dk_at dksX1_init_4 0 rfl rfl)
theorem dX1_init_97 : decode cX1_init 97 = .ok (.dup, 1) := dk_89 (dk_at dksX1_init_4 1 rfl rfl)
theorem dX1_init_98 : decode cX1_init 98 = .ok (.iconst 1, 1) := dk_4 (dk_at dksX1_init_4 2 rfl rfl)
theorem dX1_init_99 : decode cX1_init 99 = .ok (.invokedynamic 36, 5) := by decide +kernel
theorem dX1_init_104 : decode cX1_init 104 = .ok (.aastore, 1) := dk_83 (dk_at dksX1_init_4 8 rfl rfl)
theorem dX1_init_105 : decode cX1_init 105 = .ok (.dup, 1) := dk_89 (dk_at dksX1_init_4 9 rfl rfl)
theorem dX1_init_106 : decode cX1_init 106 = .ok (.iconst 2, 1) := dk_5 (dk_at dksX1_init_4 10 rfl rfl)
theorem dX1_init_107 : decode cX1_init 107 = .ok (.invokedynamic 37, 5) := by decide +kernel
theorem dX1_init_112 : decode cX1_init 112 = .ok (.aastore, 1) := dk_83 (dk_at dksX1_init_4 16 rfl rfl)
theorem dX1_init_113 : decode cX1_init 113 = .ok (.dup, 1) := dk_89 (dk_at dksX1_init_4 17 rfl rfl)
theorem dX1_init_114 : decode cX1_init 114 = .ok (.iconst 3, 1) := dk_6 (dk_at dksX1_init_4 18 rfl rfl)
theorem dX1_init_115 : decode cX1_init 115 = .ok (.invokedynamic 38, 5) := by decide +kernel
theorem dX1_init_120 : decode cX1_init 120 = .ok (.aastore, 1) := dk_83 (dk_at dksX1_init_5 0 rfl rfl)
theorem dX1_init_121 : decode cX1_init 121 = .ok (.dup, 1) := dk_89 (dk_at dksX1_init_5 1 rfl rfl)
theorem dX1_init_122 : decode cX1_init 122 = .ok (.iconst 4, 1) := dk_7 (dk_at dksX1_init_5 2 rfl rfl)
theorem dX1_init_123 : decode cX1_init 123 = .ok (.invokedynamic 39, 5) := by decide +kernel
theorem dX1_init_128 : decode cX1_init 128 = .ok (.aastore, 1) := dk_83 (dk_at dksX1_init_5 8 rfl rfl)
theorem dX1_init_129 : decode cX1_init 129 = .ok (.putfield 1, 3) := dk_181 0 1 (dk_at dksX1_init_5 9 rfl rfl)
theorem dX1_init_132 : decode cX1_init 132 = .ok (.aload_n 0, 1) := dk_42 (dk_at dksX1_init_5 12 rfl rfl)
theorem dX1_init_133 : decode cX1_init 133 = .ok (.iconst 4, 1) := dk_7 (dk_at dksX1_init_5 13 rfl rfl)
theorem dX1_init_134 : decode cX1_init 134 = .ok (.anewarray 40, 3) := dk_189 0 40 (dk_at dksX1_init_5 14 rfl rfl)
theorem dX1_init_137 : decode cX1_init 137 = .ok (.putfield 42, 3) := dk_181 0 42 (dk_at dksX1_init_5 17 rfl rfl)
theorem dX1_init_140 : decode cX1_init 140 = .ok (.iconst 0, 1) := dk_3 (dk_at dksX1_init_5 20 rfl rfl)
theorem dX1_init_141 : decode cX1_init 141 = .ok (.istore_n 1, 1) := dk_60 (dk_at dksX1_init_5 21 rfl rfl)
theorem dX1_init_142 : decode cX1_init 142 = .ok (.iload_n 1, 1) := dk_27 (dk_at dksX1_init_5 22 rfl rfl)
theorem dX1_init_143 : decode cX1_init 143 = .ok (.iconst 4, 1) := dk_7 (dk_at dksX1_init_5 23 rfl rfl)
theorem dX1_init_144 : decode cX1_init 144 = .ok (.if_icmp .ge 23, 3) := dk_162 0 23 (dk_at dksX1_init_6 0 rfl rfl)
theorem dX1_init_147 : decode cX1_init 147 = .ok (.aload_n 0, 1) := dk_42 (dk_at dksX1_init_6 3 rfl rfl)
theorem dX1_init_148 : decode cX1_init 148 = .ok (.getfield 42, 3) := dk_180 0 42 (dk_at dksX1_init_6 4 rfl rfl)
theorem dX1_init_151 : decode cX1_init 151 = .ok (.iload_n 1, 1) := dk_27 (dk_at dksX1_init_6 7 rfl rfl)
theorem dX1_init_152 : decode cX1_init 152 = .ok (.new 40, 3) := dk_187 0 40 (dk_at dksX1_init_6 8 rfl rfl)
theorem dX1_init_155 : decode cX1_init 155 = .ok (.dup, 1) := dk_89 (dk_at dksX1_init_6 11 rfl rfl)
theorem dX1_init_156 : decode cX1_init 156 = .ok (.aload_n 0, 1) := dk_42 (dk_at dksX1_init_6 12 rfl rfl)
theorem dX1_init_157 : decode cX1_init 157 = .ok (.invokespecial 46, 3) := dk_183 0 46 (dk_at dksX1_init_6 13 rfl rfl)
theorem dX1_init_160 : decode cX1_init 160 = .ok (.aastore, 1) := dk_83 (dk_at dksX1_init_6 16 rfl rfl)
theorem dX1_init_161 : decode cX1_init 161 = .ok (.iinc 1 1, 3) := dk_132 1 1 (dk_at dksX1_init_6 17 rfl rfl)
theorem dX1_init_164 : decode cX1_init 164 = .ok (.goto (-22), 3) := dk_167 255 234 (dk_at dksX1_init_6 20 rfl rfl)
theorem dX1_init_167 : decode cX1_init 167 = .ok (.return_, 1) := dk_177 (dk_at dksX1_init_6 23 rfl rfl)
abbrev cX1_lambda_new_0 : ByteArray := prog_1_method_48_code
def yX1_lambda_new_0 : MethodName := ⟨RX1, "lambda$new$0", "(I)I"⟩
def dkwX1_lambda_new_0_0 : List UInt8 := [16, 7, 26, 104, 6, 96, 16, 61, 112, 16, 8, 112, 172]
abbrev dktX1_lambda_new_0_0 : List UInt8 := dkwX1_lambda_new_0_0 ++ []
theorem dksX1_lambda_new_0_0 : cX1_lambda_new_0.data.toList.drop 0 = dktX1_lambda_new_0_0 := by decide +kernel
theorem dX1_lambda_new_0_0 : decode cX1_lambda_new_0 0 = .ok (.bipush 7, 2) := dk_16 7 (dk_at dksX1_lambda_new_0_0 0 rfl rfl)
theorem dX1_lambda_new_0_2 : decode cX1_lambda_new_0 2 = .ok (.iload_n 0, 1) := dk_26 (dk_at dksX1_lambda_new_0_0 2 rfl rfl)
theorem dX1_lambda_new_0_3 : decode cX1_lambda_new_0 3 = .ok (.imul, 1) := dk_104 (dk_at dksX1_lambda_new_0_0 3 rfl rfl)
theorem dX1_lambda_new_0_4 : decode cX1_lambda_new_0 4 = .ok (.iconst 3, 1) := dk_6 (dk_at dksX1_lambda_new_0_0 4 rfl rfl)
theorem dX1_lambda_new_0_5 : decode cX1_lambda_new_0 5 = .ok (.iadd, 1) := dk_96 (dk_at dksX1_lambda_new_0_0 5 rfl rfl)
theorem dX1_lambda_new_0_6 : decode cX1_lambda_new_0 6 = .ok (.bipush 61, 2) := dk_16 61 (dk_at dksX1_lambda_new_0_0 6 rfl rfl)
theorem dX1_lambda_new_0_8 : decode cX1_lambda_new_0 8 = .ok (.irem, 1) := dk_112 (dk_at dksX1_lambda_new_0_0 8 rfl rfl)
theorem dX1_lambda_new_0_9 : decode cX1_lambda_new_0 9 = .ok (.bipush 8, 2) := dk_16 8 (dk_at dksX1_lambda_new_0_0 9 rfl rfl)
theorem dX1_lambda_new_0_11 : decode cX1_lambda_new_0 11 = .ok (.irem, 1) := dk_112 (dk_at dksX1_lambda_new_0_0 11 rfl rfl)
theorem dX1_lambda_new_0_12 : decode cX1_lambda_new_0 12 = .ok (.ireturn, 1) := dk_172 (dk_at dksX1_lambda_new_0_0 12 rfl rfl)
abbrev cX1_lambda_new_1 : ByteArray := prog_1_method_47_code
def yX1_lambda_new_1 : MethodName := ⟨RX1, "lambda$new$1", "(I)I"⟩
def dkwX1_lambda_new_1_0 : List UInt8 := [16, 11, 26, 104, 16, 19, 96, 16, 61, 112, 16, 8, 112, 172]
abbrev dktX1_lambda_new_1_0 : List UInt8 := dkwX1_lambda_new_1_0 ++ []
theorem dksX1_lambda_new_1_0 : cX1_lambda_new_1.data.toList.drop 0 = dktX1_lambda_new_1_0 := by decide +kernel
theorem dX1_lambda_new_1_0 : decode cX1_lambda_new_1 0 = .ok (.bipush 11, 2) := dk_16 11 (dk_at dksX1_lambda_new_1_0 0 rfl rfl)
theorem dX1_lambda_new_1_2 : decode cX1_lambda_new_1 2 = .ok (.iload_n 0, 1) := dk_26 (dk_at dksX1_lambda_new_1_0 2 rfl rfl)
theorem dX1_lambda_new_1_3 : decode cX1_lambda_new_1 3 = .ok (.imul, 1) := dk_104 (dk_at dksX1_lambda_new_1_0 3 rfl rfl)
theorem dX1_lambda_new_1_4 : decode cX1_lambda_new_1 4 = .ok (.bipush 19, 2) := dk_16 19 (dk_at dksX1_lambda_new_1_0 4 rfl rfl)
theorem dX1_lambda_new_1_6 : decode cX1_lambda_new_1 6 = .ok (.iadd, 1) := dk_96 (dk_at dksX1_lambda_new_1_0 6 rfl rfl)
theorem dX1_lambda_new_1_7 : decode cX1_lambda_new_1 7 = .ok (.bipush 61, 2) := dk_16 61 (dk_at dksX1_lambda_new_1_0 7 rfl rfl)
theorem dX1_lambda_new_1_9 : decode cX1_lambda_new_1 9 = .ok (.irem, 1) := dk_112 (dk_at dksX1_lambda_new_1_0 9 rfl rfl)
theorem dX1_lambda_new_1_10 : decode cX1_lambda_new_1 10 = .ok (.bipush 8, 2) := dk_16 8 (dk_at dksX1_lambda_new_1_0 10 rfl rfl)
theorem dX1_lambda_new_1_12 : decode cX1_lambda_new_1 12 = .ok (.irem, 1) := dk_112 (dk_at dksX1_lambda_new_1_0 12 rfl rfl)
theorem dX1_lambda_new_1_13 : decode cX1_lambda_new_1 13 = .ok (.ireturn, 1) := dk_172 (dk_at dksX1_lambda_new_1_0 13 rfl rfl)
abbrev cX1_lambda_new_2 : ByteArray := prog_1_method_46_code
def yX1_lambda_new_2 : MethodName := ⟨RX1, "lambda$new$2", "(I)I"⟩
def dkwX1_lambda_new_2_0 : List UInt8 := [16, 23, 26, 104, 8, 96, 16, 61, 112, 16, 8, 112, 172]
abbrev dktX1_lambda_new_2_0 : List UInt8 := dkwX1_lambda_new_2_0 ++ []
theorem dksX1_lambda_new_2_0 : cX1_lambda_new_2.data.toList.drop 0 = dktX1_lambda_new_2_0 := by decide +kernel
theorem dX1_lambda_new_2_0 : decode cX1_lambda_new_2 0 = .ok (.bipush 23, 2) := dk_16 23 (dk_at dksX1_lambda_new_2_0 0 rfl rfl)
theorem dX1_lambda_new_2_2 : decode cX1_lambda_new_2 2 = .ok (.iload_n 0, 1) := dk_26 (dk_at dksX1_lambda_new_2_0 2 rfl rfl)
theorem dX1_lambda_new_2_3 : decode cX1_lambda_new_2 3 = .ok (.imul, 1) := dk_104 (dk_at dksX1_lambda_new_2_0 3 rfl rfl)
theorem dX1_lambda_new_2_4 : decode cX1_lambda_new_2 4 = .ok (.iconst 5, 1) := dk_8 (dk_at dksX1_lambda_new_2_0 4 rfl rfl)
theorem dX1_lambda_new_2_5 : decode cX1_lambda_new_2 5 = .ok (.iadd, 1) := dk_96 (dk_at dksX1_lambda_new_2_0 5 rfl rfl)
theorem dX1_lambda_new_2_6 : decode cX1_lambda_new_2 6 = .ok (.bipush 61, 2) := dk_16 61 (dk_at dksX1_lambda_new_2_0 6 rfl rfl)
theorem dX1_lambda_new_2_8 : decode cX1_lambda_new_2 8 = .ok (.irem, 1) := dk_112 (dk_at dksX1_lambda_new_2_0 8 rfl rfl)
theorem dX1_lambda_new_2_9 : decode cX1_lambda_new_2 9 = .ok (.bipush 8, 2) := dk_16 8 (dk_at dksX1_lambda_new_2_0 9 rfl rfl)
theorem dX1_lambda_new_2_11 : decode cX1_lambda_new_2 11 = .ok (.irem, 1) := dk_112 (dk_at dksX1_lambda_new_2_0 11 rfl rfl)
theorem dX1_lambda_new_2_12 : decode cX1_lambda_new_2 12 = .ok (.ireturn, 1) := dk_172 (dk_at dksX1_lambda_new_2_0 12 rfl rfl)
abbrev cX1_lambda_new_3 : ByteArray := prog_1_method_45_code
def yX1_lambda_new_3 : MethodName := ⟨RX1, "lambda$new$3", "(I)I"⟩
def dkwX1_lambda_new_3_0 : List UInt8 := [8, 26, 104, 4, 96, 16, 67, 112, 16, 8, 112, 172]
abbrev dktX1_lambda_new_3_0 : List UInt8 := dkwX1_lambda_new_3_0 ++ []
theorem dksX1_lambda_new_3_0 : cX1_lambda_new_3.data.toList.drop 0 = dktX1_lambda_new_3_0 := by decide +kernel
theorem dX1_lambda_new_3_0 : decode cX1_lambda_new_3 0 = .ok (.iconst 5, 1) := dk_8 (dk_at dksX1_lambda_new_3_0 0 rfl rfl)
theorem dX1_lambda_new_3_1 : decode cX1_lambda_new_3 1 = .ok (.iload_n 0, 1) := dk_26 (dk_at dksX1_lambda_new_3_0 1 rfl rfl)
theorem dX1_lambda_new_3_2 : decode cX1_lambda_new_3 2 = .ok (.imul, 1) := dk_104 (dk_at dksX1_lambda_new_3_0 2 rfl rfl)
theorem dX1_lambda_new_3_3 : decode cX1_lambda_new_3 3 = .ok (.iconst 1, 1) := dk_4 (dk_at dksX1_lambda_new_3_0 3 rfl rfl)
theorem dX1_lambda_new_3_4 : decode cX1_lambda_new_3 4 = .ok (.iadd, 1) := dk_96 (dk_at dksX1_lambda_new_3_0 4 rfl rfl)
theorem dX1_lambda_new_3_5 : decode cX1_lambda_new_3 5 = .ok (.bipush 67, 2) := dk_16 67 (dk_at dksX1_lambda_new_3_0 5 rfl rfl)
theorem dX1_lambda_new_3_7 : decode cX1_lambda_new_3 7 = .ok (.irem, 1) := dk_112 (dk_at dksX1_lambda_new_3_0 7 rfl rfl)
theorem dX1_lambda_new_3_8 : decode cX1_lambda_new_3 8 = .ok (.bipush 8, 2) := dk_16 8 (dk_at dksX1_lambda_new_3_0 8 rfl rfl)
theorem dX1_lambda_new_3_10 : decode cX1_lambda_new_3 10 = .ok (.irem, 1) := dk_112 (dk_at dksX1_lambda_new_3_0 10 rfl rfl)
theorem dX1_lambda_new_3_11 : decode cX1_lambda_new_3 11 = .ok (.ireturn, 1) := dk_172 (dk_at dksX1_lambda_new_3_0 11 rfl rfl)
abbrev cX1_lambda_new_4 : ByteArray := prog_1_method_44_code
def yX1_lambda_new_4 : MethodName := ⟨RX1, "lambda$new$4", "(I)I"⟩
def dkwX1_lambda_new_4_0 : List UInt8 := [16, 9, 26, 104, 16, 8, 96, 16, 67, 112, 16, 8, 112, 172]
abbrev dktX1_lambda_new_4_0 : List UInt8 := dkwX1_lambda_new_4_0 ++ []
theorem dksX1_lambda_new_4_0 : cX1_lambda_new_4.data.toList.drop 0 = dktX1_lambda_new_4_0 := by decide +kernel
theorem dX1_lambda_new_4_0 : decode cX1_lambda_new_4 0 = .ok (.bipush 9, 2) := dk_16 9 (dk_at dksX1_lambda_new_4_0 0 rfl rfl)
theorem dX1_lambda_new_4_2 : decode cX1_lambda_new_4 2 = .ok (.iload_n 0, 1) := dk_26 (dk_at dksX1_lambda_new_4_0 2 rfl rfl)
theorem dX1_lambda_new_4_3 : decode cX1_lambda_new_4 3 = .ok (.imul, 1) := dk_104 (dk_at dksX1_lambda_new_4_0 3 rfl rfl)
theorem dX1_lambda_new_4_4 : decode cX1_lambda_new_4 4 = .ok (.bipush 8, 2) := dk_16 8 (dk_at dksX1_lambda_new_4_0 4 rfl rfl)
theorem dX1_lambda_new_4_6 : decode cX1_lambda_new_4 6 = .ok (.iadd, 1) := dk_96 (dk_at dksX1_lambda_new_4_0 6 rfl rfl)
theorem dX1_lambda_new_4_7 : decode cX1_lambda_new_4 7 = .ok (.bipush 67, 2) := dk_16 67 (dk_at dksX1_lambda_new_4_0 7 rfl rfl)
theorem dX1_lambda_new_4_9 : decode cX1_lambda_new_4 9 = .ok (.irem, 1) := dk_112 (dk_at dksX1_lambda_new_4_0 9 rfl rfl)
theorem dX1_lambda_new_4_10 : decode cX1_lambda_new_4 10 = .ok (.bipush 8, 2) := dk_16 8 (dk_at dksX1_lambda_new_4_0 10 rfl rfl)
theorem dX1_lambda_new_4_12 : decode cX1_lambda_new_4 12 = .ok (.irem, 1) := dk_112 (dk_at dksX1_lambda_new_4_0 12 rfl rfl)
theorem dX1_lambda_new_4_13 : decode cX1_lambda_new_4 13 = .ok (.ireturn, 1) := dk_172 (dk_at dksX1_lambda_new_4_0 13 rfl rfl)
abbrev cX1_lambda_new_5 : ByteArray := prog_1_method_43_code
def yX1_lambda_new_5 : MethodName := ⟨RX1, "lambda$new$5", "(I)I"⟩
def dkwX1_lambda_new_5_0 : List UInt8 := [16, 14, 26, 104, 5, 96, 16, 67, 112, 16, 8, 112, 172]
abbrev dktX1_lambda_new_5_0 : List UInt8 := dkwX1_lambda_new_5_0 ++ []
theorem dksX1_lambda_new_5_0 : cX1_lambda_new_5.data.toList.drop 0 = dktX1_lambda_new_5_0 := by decide +kernel
theorem dX1_lambda_new_5_0 : decode cX1_lambda_new_5 0 = .ok (.bipush 14, 2) := dk_16 14 (dk_at dksX1_lambda_new_5_0 0 rfl rfl)
theorem dX1_lambda_new_5_2 : decode cX1_lambda_new_5 2 = .ok (.iload_n 0, 1) := dk_26 (dk_at dksX1_lambda_new_5_0 2 rfl rfl)
theorem dX1_lambda_new_5_3 : decode cX1_lambda_new_5 3 = .ok (.imul, 1) := dk_104 (dk_at dksX1_lambda_new_5_0 3 rfl rfl)
theorem dX1_lambda_new_5_4 : decode cX1_lambda_new_5 4 = .ok (.iconst 2, 1) := dk_5 (dk_at dksX1_lambda_new_5_0 4 rfl rfl)
theorem dX1_lambda_new_5_5 : decode cX1_lambda_new_5 5 = .ok (.iadd, 1) := dk_96 (dk_at dksX1_lambda_new_5_0 5 rfl rfl)
theorem dX1_lambda_new_5_6 : decode cX1_lambda_new_5 6 = .ok (.bipush 67, 2) := dk_16 67 (dk_at dksX1_lambda_new_5_0 6 rfl rfl)
theorem dX1_lambda_new_5_8 : decode cX1_lambda_new_5 8 = .ok (.irem, 1) := dk_112 (dk_at dksX1_lambda_new_5_0 8 rfl rfl)
theorem dX1_lambda_new_5_9 : decode cX1_lambda_new_5 9 = .ok (.bipush 8, 2) := dk_16 8 (dk_at dksX1_lambda_new_5_0 9 rfl rfl)
theorem dX1_lambda_new_5_11 : decode cX1_lambda_new_5 11 = .ok (.irem, 1) := dk_112 (dk_at dksX1_lambda_new_5_0 11 rfl rfl)
theorem dX1_lambda_new_5_12 : decode cX1_lambda_new_5 12 = .ok (.ireturn, 1) := dk_172 (dk_at dksX1_lambda_new_5_0 12 rfl rfl)
abbrev cX1_lambda_new_6 : ByteArray := prog_1_method_42_code
def yX1_lambda_new_6 : MethodName := ⟨RX1, "lambda$new$6", "(I)I"⟩
def dkwX1_lambda_new_6_0 : List UInt8 := [16, 27, 26, 104, 16, 40, 96, 16, 67, 112, 16, 8, 112, 172]
abbrev dktX1_lambda_new_6_0 : List UInt8 := dkwX1_lambda_new_6_0 ++ []
theorem dksX1_lambda_new_6_0 : cX1_lambda_new_6.data.toList.drop 0 = dktX1_lambda_new_6_0 := by decide +kernel
theorem dX1_lambda_new_6_0 : decode cX1_lambda_new_6 0 = .ok (.bipush 27, 2) := dk_16 27 (dk_at dksX1_lambda_new_6_0 0 rfl rfl)
theorem dX1_lambda_new_6_2 : decode cX1_lambda_new_6 2 = .ok (.iload_n 0, 1) := dk_26 (dk_at dksX1_lambda_new_6_0 2 rfl rfl)
theorem dX1_lambda_new_6_3 : decode cX1_lambda_new_6 3 = .ok (.imul, 1) := dk_104 (dk_at dksX1_lambda_new_6_0 3 rfl rfl)
theorem dX1_lambda_new_6_4 : decode cX1_lambda_new_6 4 = .ok (.bipush 40, 2) := dk_16 40 (dk_at dksX1_lambda_new_6_0 4 rfl rfl)
theorem dX1_lambda_new_6_6 : decode cX1_lambda_new_6 6 = .ok (.iadd, 1) := dk_96 (dk_at dksX1_lambda_new_6_0 6 rfl rfl)
theorem dX1_lambda_new_6_7 : decode cX1_lambda_new_6 7 = .ok (.bipush 67, 2) := dk_16 67 (dk_at dksX1_lambda_new_6_0 7 rfl rfl)
theorem dX1_lambda_new_6_9 : decode cX1_lambda_new_6 9 = .ok (.irem, 1) := dk_112 (dk_at dksX1_lambda_new_6_0 9 rfl rfl)
theorem dX1_lambda_new_6_10 : decode cX1_lambda_new_6 10 = .ok (.bipush 8, 2) := dk_16 8 (dk_at dksX1_lambda_new_6_0 10 rfl rfl)
theorem dX1_lambda_new_6_12 : decode cX1_lambda_new_6 12 = .ok (.irem, 1) := dk_112 (dk_at dksX1_lambda_new_6_0 12 rfl rfl)
theorem dX1_lambda_new_6_13 : decode cX1_lambda_new_6 13 = .ok (.ireturn, 1) := dk_172 (dk_at dksX1_lambda_new_6_0 13 rfl rfl)
abbrev cX1_lambda_new_7 : ByteArray := prog_1_method_41_code
def yX1_lambda_new_7 : MethodName := ⟨RX1, "lambda$new$7", "(I)I"⟩
def dkwX1_lambda_new_7_0 : List UInt8 := [16, 33, 26, 104, 16, 17, 96, 16, 67, 112, 16, 8, 112, 172]
abbrev dktX1_lambda_new_7_0 : List UInt8 := dkwX1_lambda_new_7_0 ++ []
theorem dksX1_lambda_new_7_0 : cX1_lambda_new_7.data.toList.drop 0 = dktX1_lambda_new_7_0 := by decide +kernel
theorem dX1_lambda_new_7_0 : decode cX1_lambda_new_7 0 = .ok (.bipush 33, 2) := dk_16 33 (dk_at dksX1_lambda_new_7_0 0 rfl rfl)
theorem dX1_lambda_new_7_2 : decode cX1_lambda_new_7 2 = .ok (.iload_n 0, 1) := dk_26 (dk_at dksX1_lambda_new_7_0 2 rfl rfl)
theorem dX1_lambda_new_7_3 : decode cX1_lambda_new_7 3 = .ok (.imul, 1) := dk_104 (dk_at dksX1_lambda_new_7_0 3 rfl rfl)
theorem dX1_lambda_new_7_4 : decode cX1_lambda_new_7 4 = .ok (.bipush 17, 2) := dk_16 17 (dk_at dksX1_lambda_new_7_0 4 rfl rfl)
theorem dX1_lambda_new_7_6 : decode cX1_lambda_new_7 6 = .ok (.iadd, 1) := dk_96 (dk_at dksX1_lambda_new_7_0 6 rfl rfl)
theorem dX1_lambda_new_7_7 : decode cX1_lambda_new_7 7 = .ok (.bipush 67, 2) := dk_16 67 (dk_at dksX1_lambda_new_7_0 7 rfl rfl)
theorem dX1_lambda_new_7_9 : decode cX1_lambda_new_7 9 = .ok (.irem, 1) := dk_112 (dk_at dksX1_lambda_new_7_0 9 rfl rfl)
theorem dX1_lambda_new_7_10 : decode cX1_lambda_new_7 10 = .ok (.bipush 8, 2) := dk_16 8 (dk_at dksX1_lambda_new_7_0 10 rfl rfl)
theorem dX1_lambda_new_7_12 : decode cX1_lambda_new_7 12 = .ok (.irem, 1) := dk_112 (dk_at dksX1_lambda_new_7_0 12 rfl rfl)
theorem dX1_lambda_new_7_13 : decode cX1_lambda_new_7 13 = .ok (.ireturn, 1) := dk_172 (dk_at dksX1_lambda_new_7_0 13 rfl rfl)
abbrev cX1_lambda_new_8 : ByteArray := prog_1_method_40_code
def yX1_lambda_new_8 : MethodName := ⟨RX1, "lambda$new$8", "(I)I"⟩
def dkwX1_lambda_new_8_0 : List UInt8 := [6, 26, 104, 16, 7, 96, 16, 71, 112, 5, 112, 172]
abbrev dktX1_lambda_new_8_0 : List UInt8 := dkwX1_lambda_new_8_0 ++ []
theorem dksX1_lambda_new_8_0 : cX1_lambda_new_8.data.toList.drop 0 = dktX1_lambda_new_8_0 := by decide +kernel
theorem dX1_lambda_new_8_0 : decode cX1_lambda_new_8 0 = .ok (.iconst 3, 1) := dk_6 (dk_at dksX1_lambda_new_8_0 0 rfl rfl)
theorem dX1_lambda_new_8_1 : decode cX1_lambda_new_8 1 = .ok (.iload_n 0, 1) := dk_26 (dk_at dksX1_lambda_new_8_0 1 rfl rfl)
theorem dX1_lambda_new_8_2 : decode cX1_lambda_new_8 2 = .ok (.imul, 1) := dk_104 (dk_at dksX1_lambda_new_8_0 2 rfl rfl)
theorem dX1_lambda_new_8_3 : decode cX1_lambda_new_8 3 = .ok (.bipush 7, 2) := dk_16 7 (dk_at dksX1_lambda_new_8_0 3 rfl rfl)
theorem dX1_lambda_new_8_5 : decode cX1_lambda_new_8 5 = .ok (.iadd, 1) := dk_96 (dk_at dksX1_lambda_new_8_0 5 rfl rfl)
theorem dX1_lambda_new_8_6 : decode cX1_lambda_new_8 6 = .ok (.bipush 71, 2) := dk_16 71 (dk_at dksX1_lambda_new_8_0 6 rfl rfl)
theorem dX1_lambda_new_8_8 : decode cX1_lambda_new_8 8 = .ok (.irem, 1) := dk_112 (dk_at dksX1_lambda_new_8_0 8 rfl rfl)
theorem dX1_lambda_new_8_9 : decode cX1_lambda_new_8 9 = .ok (.iconst 2, 1) := dk_5 (dk_at dksX1_lambda_new_8_0 9 rfl rfl)
theorem dX1_lambda_new_8_10 : decode cX1_lambda_new_8 10 = .ok (.irem, 1) := dk_112 (dk_at dksX1_lambda_new_8_0 10 rfl rfl)
theorem dX1_lambda_new_8_11 : decode cX1_lambda_new_8 11 = .ok (.ireturn, 1) := dk_172 (dk_at dksX1_lambda_new_8_0 11 rfl rfl)
abbrev cX1_lambda_new_9 : ByteArray := prog_1_method_39_code
def yX1_lambda_new_9 : MethodName := ⟨RX1, "lambda$new$9", "(I)I"⟩
def dkwX1_lambda_new_9_0 : List UInt8 := [16, 10, 26, 104, 16, 71, 112, 5, 112, 172]
abbrev dktX1_lambda_new_9_0 : List UInt8 := dkwX1_lambda_new_9_0 ++ []
theorem dksX1_lambda_new_9_0 : cX1_lambda_new_9.data.toList.drop 0 = dktX1_lambda_new_9_0 := by decide +kernel
theorem dX1_lambda_new_9_0 : decode cX1_lambda_new_9 0 = .ok (.bipush 10, 2) := dk_16 10 (dk_at dksX1_lambda_new_9_0 0 rfl rfl)
theorem dX1_lambda_new_9_2 : decode cX1_lambda_new_9 2 = .ok (.iload_n 0, 1) := dk_26 (dk_at dksX1_lambda_new_9_0 2 rfl rfl)
theorem dX1_lambda_new_9_3 : decode cX1_lambda_new_9 3 = .ok (.imul, 1) := dk_104 (dk_at dksX1_lambda_new_9_0 3 rfl rfl)
theorem dX1_lambda_new_9_4 : decode cX1_lambda_new_9 4 = .ok (.bipush 71, 2) := dk_16 71 (dk_at dksX1_lambda_new_9_0 4 rfl rfl)
theorem dX1_lambda_new_9_6 : decode cX1_lambda_new_9 6 = .ok (.irem, 1) := dk_112 (dk_at dksX1_lambda_new_9_0 6 rfl rfl)
theorem dX1_lambda_new_9_7 : decode cX1_lambda_new_9 7 = .ok (.iconst 2, 1) := dk_5 (dk_at dksX1_lambda_new_9_0 7 rfl rfl)
theorem dX1_lambda_new_9_8 : decode cX1_lambda_new_9 8 = .ok (.irem, 1) := dk_112 (dk_at dksX1_lambda_new_9_0 8 rfl rfl)
theorem dX1_lambda_new_9_9 : decode cX1_lambda_new_9 9 = .ok (.ireturn, 1) := dk_172 (dk_at dksX1_lambda_new_9_0 9 rfl rfl)
abbrev cX1_lambda_new_10 : ByteArray := prog_1_method_38_code
def yX1_lambda_new_10 : MethodName := ⟨RX1, "lambda$new$10", "(I)I"⟩
def dkwX1_lambda_new_10_0 : List UInt8 := [16, 21, 26, 104, 16, 13, 96, 16, 71, 112, 5, 112, 172]
abbrev dktX1_lambda_new_10_0 : List UInt8 := dkwX1_lambda_new_10_0 ++ []
theorem dksX1_lambda_new_10_0 : cX1_lambda_new_10.data.toList.drop 0 = dktX1_lambda_new_10_0 := by decide +kernel
theorem dX1_lambda_new_10_0 : decode cX1_lambda_new_10 0 = .ok (.bipush 21, 2) := dk_16 21 (dk_at dksX1_lambda_new_10_0 0 rfl rfl)
theorem dX1_lambda_new_10_2 : decode cX1_lambda_new_10 2 = .ok (.iload_n 0, 1) := dk_26 (dk_at dksX1_lambda_new_10_0 2 rfl rfl)
theorem dX1_lambda_new_10_3 : decode cX1_lambda_new_10 3 = .ok (.imul, 1) := dk_104 (dk_at dksX1_lambda_new_10_0 3 rfl rfl)
theorem dX1_lambda_new_10_4 : decode cX1_lambda_new_10 4 = .ok (.bipush 13, 2) := dk_16 13 (dk_at dksX1_lambda_new_10_0 4 rfl rfl)
theorem dX1_lambda_new_10_6 : decode cX1_lambda_new_10 6 = .ok (.iadd, 1) := dk_96 (dk_at dksX1_lambda_new_10_0 6 rfl rfl)
theorem dX1_lambda_new_10_7 : decode cX1_lambda_new_10 7 = .ok (.bipush 71, 2) := dk_16 71 (dk_at dksX1_lambda_new_10_0 7 rfl rfl)
theorem dX1_lambda_new_10_9 : decode cX1_lambda_new_10 9 = .ok (.irem, 1) := dk_112 (dk_at dksX1_lambda_new_10_0 9 rfl rfl)
theorem dX1_lambda_new_10_10 : decode cX1_lambda_new_10 10 = .ok (.iconst 2, 1) := dk_5 (dk_at dksX1_lambda_new_10_0 10 rfl rfl)
theorem dX1_lambda_new_10_11 : decode cX1_lambda_new_10 11 = .ok (.irem, 1) := dk_112 (dk_at dksX1_lambda_new_10_0 11 rfl rfl)
theorem dX1_lambda_new_10_12 : decode cX1_lambda_new_10 12 = .ok (.ireturn, 1) := dk_172 (dk_at dksX1_lambda_new_10_0 12 rfl rfl)
abbrev cX1_lambda_new_11 : ByteArray := prog_1_method_37_code
def yX1_lambda_new_11 : MethodName := ⟨RX1, "lambda$new$11", "(I)I"⟩
def dkwX1_lambda_new_11_0 : List UInt8 := [16, 29, 26, 104, 8, 96, 16, 71, 112, 5, 112, 172]
abbrev dktX1_lambda_new_11_0 : List UInt8 := dkwX1_lambda_new_11_0 ++ []
theorem dksX1_lambda_new_11_0 : cX1_lambda_new_11.data.toList.drop 0 = dktX1_lambda_new_11_0 := by decide +kernel
theorem dX1_lambda_new_11_0 : decode cX1_lambda_new_11 0 = .ok (.bipush 29, 2) := dk_16 29 (dk_at dksX1_lambda_new_11_0 0 rfl rfl)
theorem dX1_lambda_new_11_2 : decode cX1_lambda_new_11 2 = .ok (.iload_n 0, 1) := dk_26 (dk_at dksX1_lambda_new_11_0 2 rfl rfl)
theorem dX1_lambda_new_11_3 : decode cX1_lambda_new_11 3 = .ok (.imul, 1) := dk_104 (dk_at dksX1_lambda_new_11_0 3 rfl rfl)
theorem dX1_lambda_new_11_4 : decode cX1_lambda_new_11 4 = .ok (.iconst 5, 1) := dk_8 (dk_at dksX1_lambda_new_11_0 4 rfl rfl)
theorem dX1_lambda_new_11_5 : decode cX1_lambda_new_11 5 = .ok (.iadd, 1) := dk_96 (dk_at dksX1_lambda_new_11_0 5 rfl rfl)
theorem dX1_lambda_new_11_6 : decode cX1_lambda_new_11 6 = .ok (.bipush 71, 2) := dk_16 71 (dk_at dksX1_lambda_new_11_0 6 rfl rfl)
theorem dX1_lambda_new_11_8 : decode cX1_lambda_new_11 8 = .ok (.irem, 1) := dk_112 (dk_at dksX1_lambda_new_11_0 8 rfl rfl)
theorem dX1_lambda_new_11_9 : decode cX1_lambda_new_11 9 = .ok (.iconst 2, 1) := dk_5 (dk_at dksX1_lambda_new_11_0 9 rfl rfl)
theorem dX1_lambda_new_11_10 : decode cX1_lambda_new_11 10 = .ok (.irem, 1) := dk_112 (dk_at dksX1_lambda_new_11_0 10 rfl rfl)
theorem dX1_lambda_new_11_11 : decode cX1_lambda_new_11 11 = .ok (.ireturn, 1) := dk_172 (dk_at dksX1_lambda_new_11_0 11 rfl rfl)
abbrev cX1_lambda_new_12 : ByteArray := prog_1_method_36_code
def yX1_lambda_new_12 : MethodName := ⟨RX1, "lambda$new$12", "(I)I"⟩
def dkwX1_lambda_new_12_0 : List UInt8 := [16, 44, 26, 104, 16, 30, 96, 16, 71, 112, 5, 112, 172]
abbrev dktX1_lambda_new_12_0 : List UInt8 := dkwX1_lambda_new_12_0 ++ []
theorem dksX1_lambda_new_12_0 : cX1_lambda_new_12.data.toList.drop 0 = dktX1_lambda_new_12_0 := by decide +kernel
theorem dX1_lambda_new_12_0 : decode cX1_lambda_new_12 0 = .ok (.bipush 44, 2) := dk_16 44 (dk_at dksX1_lambda_new_12_0 0 rfl rfl)
theorem dX1_lambda_new_12_2 : decode cX1_lambda_new_12 2 = .ok (.iload_n 0, 1) := dk_26 (dk_at dksX1_lambda_new_12_0 2 rfl rfl)
theorem dX1_lambda_new_12_3 : decode cX1_lambda_new_12 3 = .ok (.imul, 1) := dk_104 (dk_at dksX1_lambda_new_12_0 3 rfl rfl)
theorem dX1_lambda_new_12_4 : decode cX1_lambda_new_12 4 = .ok (.bipush 30, 2) := dk_16 30 (dk_at dksX1_lambda_new_12_0 4 rfl rfl)
theorem dX1_lambda_new_12_6 : decode cX1_lambda_new_12 6 = .ok (.iadd, 1) := dk_96 (dk_at dksX1_lambda_new_12_0 6 rfl rfl)
theorem dX1_lambda_new_12_7 : decode cX1_lambda_new_12 7 = .ok (.bipush 71, 2) := dk_16 71 (dk_at dksX1_lambda_new_12_0 7 rfl rfl)
theorem dX1_lambda_new_12_9 : decode cX1_lambda_new_12 9 = .ok (.irem, 1) := dk_112 (dk_at dksX1_lambda_new_12_0 9 rfl rfl)
theorem dX1_lambda_new_12_10 : decode cX1_lambda_new_12 10 = .ok (.iconst 2, 1) := dk_5 (dk_at dksX1_lambda_new_12_0 10 rfl rfl)
theorem dX1_lambda_new_12_11 : decode cX1_lambda_new_12 11 = .ok (.irem, 1) := dk_112 (dk_at dksX1_lambda_new_12_0 11 rfl rfl)
theorem dX1_lambda_new_12_12 : decode cX1_lambda_new_12 12 = .ok (.ireturn, 1) := dk_172 (dk_at dksX1_lambda_new_12_0 12 rfl rfl)
abbrev cX1_add : ByteArray := prog_1_method_9_code
def yX1_add : MethodName := ⟨RX1, "add", "(III)I"⟩
def dkwX1_add_2 : List UInt8 := [182, 0, 75, 25, 4, 180, 0, 67, 172]
abbrev dktX1_add_2 : List UInt8 := dkwX1_add_2 ++ []
def dkwX1_add_1 : List UInt8 := [180, 0, 67, 29, 96, 18, 71, 164, 0, 11, 187, 0, 72, 89, 183, 0, 74, 191, 25, 4, 28, 29]
abbrev dktX1_add_1 : List UInt8 := dkwX1_add_1 ++ dktX1_add_2
def dkwX1_add_0 : List UInt8 := [42, 27, 182, 0, 63, 58, 4, 28, 16, 64, 184, 0, 55, 29, 4, 17, 3, 232, 184, 0, 59, 25, 4]
abbrev dktX1_add_0 : List UInt8 := dkwX1_add_0 ++ dktX1_add_1
theorem dksX1_add_0 : cX1_add.data.toList.drop 0 = dktX1_add_0 := by decide +kernel
theorem dksX1_add_1 : cX1_add.data.toList.drop 23 = dktX1_add_1 := dk_seg dksX1_add_0 23 rfl rfl
theorem dksX1_add_2 : cX1_add.data.toList.drop 45 = dktX1_add_2 := dk_seg dksX1_add_1 22 rfl rfl
theorem dX1_add_0 : decode cX1_add 0 = .ok (.aload_n 0, 1) := dk_42 (dk_at dksX1_add_0 0 rfl rfl)
theorem dX1_add_1 : decode cX1_add 1 = .ok (.iload_n 1, 1) := dk_27 (dk_at dksX1_add_0 1 rfl rfl)
theorem dX1_add_2 : decode cX1_add 2 = .ok (.invokevirtual 63, 3) := dk_182 0 63 (dk_at dksX1_add_0 2 rfl rfl)
theorem dX1_add_5 : decode cX1_add 5 = .ok (.astore 4, 2) := dk_58 4 (dk_at dksX1_add_0 5 rfl rfl)
theorem dX1_add_7 : decode cX1_add 7 = .ok (.iload_n 2, 1) := dk_28 (dk_at dksX1_add_0 7 rfl rfl)
theorem dX1_add_8 : decode cX1_add 8 = .ok (.bipush 64, 2) := dk_16 64 (dk_at dksX1_add_0 8 rfl rfl)
theorem dX1_add_10 : decode cX1_add 10 = .ok (.invokestatic 55, 3) := dk_184 0 55 (dk_at dksX1_add_0 10 rfl rfl)
theorem dX1_add_13 : decode cX1_add 13 = .ok (.iload_n 3, 1) := dk_29 (dk_at dksX1_add_0 13 rfl rfl)
theorem dX1_add_14 : decode cX1_add 14 = .ok (.iconst 1, 1) := dk_4 (dk_at dksX1_add_0 14 rfl rfl)
theorem dX1_add_15 : decode cX1_add 15 = .ok (.sipush 1000, 3) := dk_17 3 232 (dk_at dksX1_add_0 15 rfl rfl)
theorem dX1_add_18 : decode cX1_add 18 = .ok (.invokestatic 59, 3) := dk_184 0 59 (dk_at dksX1_add_0 18 rfl rfl)
theorem dX1_add_21 : decode cX1_add 21 = .ok (.aload 4, 2) := dk_25 4 (dk_at dksX1_add_0 21 rfl rfl)
theorem dX1_add_23 : decode cX1_add 23 = .ok (.getfield 67, 3) := dk_180 0 67 (dk_at dksX1_add_1 0 rfl rfl)
theorem dX1_add_26 : decode cX1_add 26 = .ok (.iload_n 3, 1) := dk_29 (dk_at dksX1_add_1 3 rfl rfl)
theorem dX1_add_27 : decode cX1_add 27 = .ok (.iadd, 1) := dk_96 (dk_at dksX1_add_1 4 rfl rfl)
theorem dX1_add_28 : decode cX1_add 28 = .ok (.ldc 71, 2) := dk_18 71 (dk_at dksX1_add_1 5 rfl rfl)
theorem dX1_add_30 : decode cX1_add 30 = .ok (.if_icmp .le 11, 3) := dk_164 0 11 (dk_at dksX1_add_1 7 rfl rfl)
theorem dX1_add_33 : decode cX1_add 33 = .ok (.new 72, 3) := dk_187 0 72 (dk_at dksX1_add_1 10 rfl rfl)
theorem dX1_add_36 : decode cX1_add 36 = .ok (.dup, 1) := dk_89 (dk_at dksX1_add_1 13 rfl rfl)
theorem dX1_add_37 : decode cX1_add 37 = .ok (.invokespecial 74, 3) := dk_183 0 74 (dk_at dksX1_add_1 14 rfl rfl)
theorem dX1_add_40 : decode cX1_add 40 = .ok (.athrow, 1) := dk_191 (dk_at dksX1_add_1 17 rfl rfl)
theorem dX1_add_41 : decode cX1_add 41 = .ok (.aload 4, 2) := dk_25 4 (dk_at dksX1_add_1 18 rfl rfl)
theorem dX1_add_43 : decode cX1_add 43 = .ok (.iload_n 2, 1) := dk_28 (dk_at dksX1_add_1 20 rfl rfl)
theorem dX1_add_44 : decode cX1_add 44 = .ok (.iload_n 3, 1) := dk_29 (dk_at dksX1_add_1 21 rfl rfl)
theorem dX1_add_45 : decode cX1_add 45 = .ok (.invokevirtual 75, 3) := dk_182 0 75 (dk_at dksX1_add_2 0 rfl rfl)
theorem dX1_add_48 : decode cX1_add 48 = .ok (.aload 4, 2) := dk_25 4 (dk_at dksX1_add_2 3 rfl rfl)
theorem dX1_add_50 : decode cX1_add 50 = .ok (.getfield 67, 3) := dk_180 0 67 (dk_at dksX1_add_2 5 rfl rfl)
theorem dX1_add_53 : decode cX1_add 53 = .ok (.ireturn, 1) := dk_172 (dk_at dksX1_add_2 8 rfl rfl)
abbrev cX1_streamAt : ByteArray := prog_1_method_7_code
def yX1_streamAt : MethodName := ⟨RX1, "streamAt", "(I)LCountcote$Stream;"⟩
def dkwX1_streamAt_0 : List UInt8 := [27, 7, 184, 0, 55, 42, 180, 0, 42, 27, 50, 176]
abbrev dktX1_streamAt_0 : List UInt8 := dkwX1_streamAt_0 ++ []
theorem dksX1_streamAt_0 : cX1_streamAt.data.toList.drop 0 = dktX1_streamAt_0 := by decide +kernel
theorem dX1_streamAt_0 : decode cX1_streamAt 0 = .ok (.iload_n 1, 1) := dk_27 (dk_at dksX1_streamAt_0 0 rfl rfl)
theorem dX1_streamAt_1 : decode cX1_streamAt 1 = .ok (.iconst 4, 1) := dk_7 (dk_at dksX1_streamAt_0 1 rfl rfl)
theorem dX1_streamAt_2 : decode cX1_streamAt 2 = .ok (.invokestatic 55, 3) := dk_184 0 55 (dk_at dksX1_streamAt_0 2 rfl rfl)
theorem dX1_streamAt_5 : decode cX1_streamAt 5 = .ok (.aload_n 0, 1) := dk_42 (dk_at dksX1_streamAt_0 5 rfl rfl)
theorem dX1_streamAt_6 : decode cX1_streamAt 6 = .ok (.getfield 42, 3) := dk_180 0 42 (dk_at dksX1_streamAt_0 6 rfl rfl)
theorem dX1_streamAt_9 : decode cX1_streamAt 9 = .ok (.iload_n 1, 1) := dk_27 (dk_at dksX1_streamAt_0 9 rfl rfl)
theorem dX1_streamAt_10 : decode cX1_streamAt 10 = .ok (.aaload, 1) := dk_50 (dk_at dksX1_streamAt_0 10 rfl rfl)
theorem dX1_streamAt_11 : decode cX1_streamAt 11 = .ok (.areturn, 1) := dk_176 (dk_at dksX1_streamAt_0 11 rfl rfl)
abbrev cX1_needPlace : ByteArray := prog_1_method_5_code
def yX1_needPlace : MethodName := ⟨RX1, "needPlace", "(II)V"⟩
def dkwX1_needPlace_0 : List UInt8 := [26, 155, 0, 8, 26, 27, 161, 0, 11, 187, 0, 49, 89, 183, 0, 51, 191, 177]
abbrev dktX1_needPlace_0 : List UInt8 := dkwX1_needPlace_0 ++ []
theorem dksX1_needPlace_0 : cX1_needPlace.data.toList.drop 0 = dktX1_needPlace_0 := by decide +kernel
theorem dX1_needPlace_0 : decode cX1_needPlace 0 = .ok (.iload_n 0, 1) := dk_26 (dk_at dksX1_needPlace_0 0 rfl rfl)
theorem dX1_needPlace_1 : decode cX1_needPlace 1 = .ok (.ifCond .lt 8, 3) := dk_155 0 8 (dk_at dksX1_needPlace_0 1 rfl rfl)
theorem dX1_needPlace_4 : decode cX1_needPlace 4 = .ok (.iload_n 0, 1) := dk_26 (dk_at dksX1_needPlace_0 4 rfl rfl)
theorem dX1_needPlace_5 : decode cX1_needPlace 5 = .ok (.iload_n 1, 1) := dk_27 (dk_at dksX1_needPlace_0 5 rfl rfl)
theorem dX1_needPlace_6 : decode cX1_needPlace 6 = .ok (.if_icmp .lt 11, 3) := dk_161 0 11 (dk_at dksX1_needPlace_0 6 rfl rfl)
theorem dX1_needPlace_9 : decode cX1_needPlace 9 = .ok (.new 49, 3) := dk_187 0 49 (dk_at dksX1_needPlace_0 9 rfl rfl)
theorem dX1_needPlace_12 : decode cX1_needPlace 12 = .ok (.dup, 1) := dk_89 (dk_at dksX1_needPlace_0 12 rfl rfl)
theorem dX1_needPlace_13 : decode cX1_needPlace 13 = .ok (.invokespecial 51, 3) := dk_183 0 51 (dk_at dksX1_needPlace_0 13 rfl rfl)
theorem dX1_needPlace_16 : decode cX1_needPlace 16 = .ok (.athrow, 1) := dk_191 (dk_at dksX1_needPlace_0 16 rfl rfl)
theorem dX1_needPlace_17 : decode cX1_needPlace 17 = .ok (.return_, 1) := dk_177 (dk_at dksX1_needPlace_0 17 rfl rfl)
abbrev cX1_needNumber : ByteArray := prog_1_method_6_code
def yX1_needNumber : MethodName := ⟨RX1, "needNumber", "(III)V"⟩
def dkwX1_needNumber_0 : List UInt8 := [26, 27, 161, 0, 8, 26, 28, 164, 0, 11, 187, 0, 52, 89, 183, 0, 54, 191, 177]
abbrev dktX1_needNumber_0 : List UInt8 := dkwX1_needNumber_0 ++ []
theorem dksX1_needNumber_0 : cX1_needNumber.data.toList.drop 0 = dktX1_needNumber_0 := by decide +kernel
theorem dX1_needNumber_0 : decode cX1_needNumber 0 = .ok (.iload_n 0, 1) := dk_26 (dk_at dksX1_needNumber_0 0 rfl rfl)
theorem dX1_needNumber_1 : decode cX1_needNumber 1 = .ok (.iload_n 1, 1) := dk_27 (dk_at dksX1_needNumber_0 1 rfl rfl)
theorem dX1_needNumber_2 : decode cX1_needNumber 2 = .ok (.if_icmp .lt 8, 3) := dk_161 0 8 (dk_at dksX1_needNumber_0 2 rfl rfl)
theorem dX1_needNumber_5 : decode cX1_needNumber 5 = .ok (.iload_n 0, 1) := dk_26 (dk_at dksX1_needNumber_0 5 rfl rfl)
theorem dX1_needNumber_6 : decode cX1_needNumber 6 = .ok (.iload_n 2, 1) := dk_28 (dk_at dksX1_needNumber_0 6 rfl rfl)
theorem dX1_needNumber_7 : decode cX1_needNumber 7 = .ok (.if_icmp .le 11, 3) := dk_164 0 11 (dk_at dksX1_needNumber_0 7 rfl rfl)
theorem dX1_needNumber_10 : decode cX1_needNumber 10 = .ok (.new 52, 3) := dk_187 0 52 (dk_at dksX1_needNumber_0 10 rfl rfl)
theorem dX1_needNumber_13 : decode cX1_needNumber 13 = .ok (.dup, 1) := dk_89 (dk_at dksX1_needNumber_0 13 rfl rfl)
theorem dX1_needNumber_14 : decode cX1_needNumber 14 = .ok (.invokespecial 54, 3) := dk_183 0 54 (dk_at dksX1_needNumber_0 14 rfl rfl)
theorem dX1_needNumber_17 : decode cX1_needNumber 17 = .ok (.athrow, 1) := dk_191 (dk_at dksX1_needNumber_0 17 rfl rfl)
theorem dX1_needNumber_18 : decode cX1_needNumber 18 = .ok (.return_, 1) := dk_177 (dk_at dksX1_needNumber_0 18 rfl rfl)
abbrev cX1_signOf : ByteArray := prog_1_method_3_code
def yX1_signOf : MethodName := ⟨RX1, "signOf", "(II)I"⟩
def dkwX1_signOf_0 : List UInt8 := [42, 180, 0, 1, 27, 50, 28, 185, 0, 7, 2, 0, 154, 0, 7, 4, 167, 0, 4, 2, 172]
abbrev dktX1_signOf_0 : List UInt8 := dkwX1_signOf_0 ++ []
theorem dksX1_signOf_0 : cX1_signOf.data.toList.drop 0 = dktX1_signOf_0 := by decide +kernel
theorem dX1_signOf_0 : decode cX1_signOf 0 = .ok (.aload_n 0, 1) := dk_42 (dk_at dksX1_signOf_0 0 rfl rfl)
theorem dX1_signOf_1 : decode cX1_signOf 1 = .ok (.getfield 1, 3) := dk_180 0 1 (dk_at dksX1_signOf_0 1 rfl rfl)
theorem dX1_signOf_4 : decode cX1_signOf 4 = .ok (.iload_n 1, 1) := dk_27 (dk_at dksX1_signOf_0 4 rfl rfl)
theorem dX1_signOf_5 : decode cX1_signOf 5 = .ok (.aaload, 1) := dk_50 (dk_at dksX1_signOf_0 5 rfl rfl)
theorem dX1_signOf_6 : decode cX1_signOf 6 = .ok (.iload_n 2, 1) := dk_28 (dk_at dksX1_signOf_0 6 rfl rfl)
theorem dX1_signOf_7 : decode cX1_signOf 7 = .ok (.invokeinterface 7 2, 5) := by decide +kernel
theorem dX1_signOf_12 : decode cX1_signOf 12 = .ok (.ifCond .ne 7, 3) := dk_154 0 7 (dk_at dksX1_signOf_0 12 rfl rfl)
theorem dX1_signOf_15 : decode cX1_signOf 15 = .ok (.iconst 1, 1) := dk_4 (dk_at dksX1_signOf_0 15 rfl rfl)
theorem dX1_signOf_16 : decode cX1_signOf 16 = .ok (.goto 4, 3) := dk_167 0 4 (dk_at dksX1_signOf_0 16 rfl rfl)
theorem dX1_signOf_19 : decode cX1_signOf 19 = .ok (.iconst (-1), 1) := dk_2 (dk_at dksX1_signOf_0 19 rfl rfl)
theorem dX1_signOf_20 : decode cX1_signOf 20 = .ok (.ireturn, 1) := dk_172 (dk_at dksX1_signOf_0 20 rfl rfl)
abbrev cX1_merge : ByteArray := prog_1_method_10_code
def yX1_merge : MethodName := ⟨RX1, "merge", "(II)I"⟩
def dkwX1_merge_2 : List UInt8 := [183, 0, 74, 191, 45, 25, 4, 182, 0, 78, 45, 180, 0, 67, 172]
abbrev dktX1_merge_2 : List UInt8 := dkwX1_merge_2 ++ []
def dkwX1_merge_1 : List UInt8 := [183, 0, 54, 191, 45, 180, 0, 67, 25, 4, 180, 0, 67, 96, 18, 71, 164, 0, 11, 187, 0, 72, 89]
abbrev dktX1_merge_1 : List UInt8 := dkwX1_merge_1 ++ dktX1_merge_2
def dkwX1_merge_0 : List UInt8 := [42, 27, 182, 0, 63, 78, 42, 28, 182, 0, 63, 58, 4, 45, 25, 4, 166, 0, 11, 187, 0, 52, 89]
abbrev dktX1_merge_0 : List UInt8 := dkwX1_merge_0 ++ dktX1_merge_1
theorem dksX1_merge_0 : cX1_merge.data.toList.drop 0 = dktX1_merge_0 := by decide +kernel
theorem dksX1_merge_1 : cX1_merge.data.toList.drop 23 = dktX1_merge_1 := dk_seg dksX1_merge_0 23 rfl rfl
theorem dksX1_merge_2 : cX1_merge.data.toList.drop 46 = dktX1_merge_2 := dk_seg dksX1_merge_1 23 rfl rfl
theorem dX1_merge_0 : decode cX1_merge 0 = .ok (.aload_n 0, 1) := dk_42 (dk_at dksX1_merge_0 0 rfl rfl)
theorem dX1_merge_1 : decode cX1_merge 1 = .ok (.iload_n 1, 1) := dk_27 (dk_at dksX1_merge_0 1 rfl rfl)
theorem dX1_merge_2 : decode cX1_merge 2 = .ok (.invokevirtual 63, 3) := dk_182 0 63 (dk_at dksX1_merge_0 2 rfl rfl)
theorem dX1_merge_5 : decode cX1_merge 5 = .ok (.astore_n 3, 1) := dk_78 (dk_at dksX1_merge_0 5 rfl rfl)
theorem dX1_merge_6 : decode cX1_merge 6 = .ok (.aload_n 0, 1) := dk_42 (dk_at dksX1_merge_0 6 rfl rfl)
theorem dX1_merge_7 : decode cX1_merge 7 = .ok (.iload_n 2, 1) := dk_28 (dk_at dksX1_merge_0 7 rfl rfl)
theorem dX1_merge_8 : decode cX1_merge 8 = .ok (.invokevirtual 63, 3) := dk_182 0 63 (dk_at dksX1_merge_0 8 rfl rfl)
theorem dX1_merge_11 : decode cX1_merge 11 = .ok (.astore 4, 2) := dk_58 4 (dk_at dksX1_merge_0 11 rfl rfl)
theorem dX1_merge_13 : decode cX1_merge 13 = .ok (.aload_n 3, 1) := dk_45 (dk_at dksX1_merge_0 13 rfl rfl)
theorem dX1_merge_14 : decode cX1_merge 14 = .ok (.aload 4, 2) := dk_25 4 (dk_at dksX1_merge_0 14 rfl rfl)
theorem dX1_merge_16 : decode cX1_merge 16 = .ok (.if_acmp .ne 11, 3) := dk_166 0 11 (dk_at dksX1_merge_0 16 rfl rfl)
theorem dX1_merge_19 : decode cX1_merge 19 = .ok (.new 52, 3) := dk_187 0 52 (dk_at dksX1_merge_0 19 rfl rfl)
theorem dX1_merge_22 : decode cX1_merge 22 = .ok (.dup, 1) := dk_89 (dk_at dksX1_merge_0 22 rfl rfl)
theorem dX1_merge_23 : decode cX1_merge 23 = .ok (.invokespecial 54, 3) := dk_183 0 54 (dk_at dksX1_merge_1 0 rfl rfl)
theorem dX1_merge_26 : decode cX1_merge 26 = .ok (.athrow, 1) := dk_191 (dk_at dksX1_merge_1 3 rfl rfl)
theorem dX1_merge_27 : decode cX1_merge 27 = .ok (.aload_n 3, 1) := dk_45 (dk_at dksX1_merge_1 4 rfl rfl)
theorem dX1_merge_28 : decode cX1_merge 28 = .ok (.getfield 67, 3) := dk_180 0 67 (dk_at dksX1_merge_1 5 rfl rfl)
theorem dX1_merge_31 : decode cX1_merge 31 = .ok (.aload 4, 2) := dk_25 4 (dk_at dksX1_merge_1 8 rfl rfl)
theorem dX1_merge_33 : decode cX1_merge 33 = .ok (.getfield 67, 3) := dk_180 0 67 (dk_at dksX1_merge_1 10 rfl rfl)
theorem dX1_merge_36 : decode cX1_merge 36 = .ok (.iadd, 1) := dk_96 (dk_at dksX1_merge_1 13 rfl rfl)
theorem dX1_merge_37 : decode cX1_merge 37 = .ok (.ldc 71, 2) := dk_18 71 (dk_at dksX1_merge_1 14 rfl rfl)
theorem dX1_merge_39 : decode cX1_merge 39 = .ok (.if_icmp .le 11, 3) := dk_164 0 11 (dk_at dksX1_merge_1 16 rfl rfl)
theorem dX1_merge_42 : decode cX1_merge 42 = .ok (.new 72, 3) := dk_187 0 72 (dk_at dksX1_merge_1 19 rfl rfl)
theorem dX1_merge_45 : decode cX1_merge 45 = .ok (.dup, 1) := dk_89 (dk_at dksX1_merge_1 22 rfl rfl)
theorem dX1_merge_46 : decode cX1_merge 46 = .ok (.invokespecial 74, 3) := dk_183 0 74 (dk_at dksX1_merge_2 0 rfl rfl)
theorem dX1_merge_49 : decode cX1_merge 49 = .ok (.athrow, 1) := dk_191 (dk_at dksX1_merge_2 3 rfl rfl)
theorem dX1_merge_50 : decode cX1_merge 50 = .ok (.aload_n 3, 1) := dk_45 (dk_at dksX1_merge_2 4 rfl rfl)
theorem dX1_merge_51 : decode cX1_merge 51 = .ok (.aload 4, 2) := dk_25 4 (dk_at dksX1_merge_2 5 rfl rfl)
theorem dX1_merge_53 : decode cX1_merge 53 = .ok (.invokevirtual 78, 3) := dk_182 0 78 (dk_at dksX1_merge_2 7 rfl rfl)
theorem dX1_merge_56 : decode cX1_merge 56 = .ok (.aload_n 3, 1) := dk_45 (dk_at dksX1_merge_2 10 rfl rfl)
theorem dX1_merge_57 : decode cX1_merge 57 = .ok (.getfield 67, 3) := dk_180 0 67 (dk_at dksX1_merge_2 11 rfl rfl)
theorem dX1_merge_60 : decode cX1_merge 60 = .ok (.ireturn, 1) := dk_172 (dk_at dksX1_merge_2 14 rfl rfl)
abbrev cX1_addTo : ByteArray := prog_1_method_1_code
def yX1_addTo : MethodName := ⟨RX1, "addTo", "([I[I)V"⟩
def dkwX1_addTo_0 : List UInt8 := [3, 61, 28, 42, 190, 162, 0, 18, 42, 28, 92, 46, 43, 28, 46, 96, 79, 132, 2, 1, 167, 255, 238, 177]
abbrev dktX1_addTo_0 : List UInt8 := dkwX1_addTo_0 ++ []
theorem dksX1_addTo_0 : cX1_addTo.data.toList.drop 0 = dktX1_addTo_0 := by decide +kernel
theorem dX1_addTo_0 : decode cX1_addTo 0 = .ok (.iconst 0, 1) := dk_3 (dk_at dksX1_addTo_0 0 rfl rfl)
theorem dX1_addTo_1 : decode cX1_addTo 1 = .ok (.istore_n 2, 1) := dk_61 (dk_at dksX1_addTo_0 1 rfl rfl)
theorem dX1_addTo_2 : decode cX1_addTo 2 = .ok (.iload_n 2, 1) := dk_28 (dk_at dksX1_addTo_0 2 rfl rfl)
theorem dX1_addTo_3 : decode cX1_addTo 3 = .ok (.aload_n 0, 1) := dk_42 (dk_at dksX1_addTo_0 3 rfl rfl)
theorem dX1_addTo_4 : decode cX1_addTo 4 = .ok (.arraylength, 1) := dk_190 (dk_at dksX1_addTo_0 4 rfl rfl)
theorem dX1_addTo_5 : decode cX1_addTo 5 = .ok (.if_icmp .ge 18, 3) := dk_162 0 18 (dk_at dksX1_addTo_0 5 rfl rfl)
theorem dX1_addTo_8 : decode cX1_addTo 8 = .ok (.aload_n 0, 1) := dk_42 (dk_at dksX1_addTo_0 8 rfl rfl)
theorem dX1_addTo_9 : decode cX1_addTo 9 = .ok (.iload_n 2, 1) := dk_28 (dk_at dksX1_addTo_0 9 rfl rfl)
theorem dX1_addTo_10 : decode cX1_addTo 10 = .ok (.dup2, 1) := dk_92 (dk_at dksX1_addTo_0 10 rfl rfl)
theorem dX1_addTo_11 : decode cX1_addTo 11 = .ok (.iaload, 1) := dk_46 (dk_at dksX1_addTo_0 11 rfl rfl)
theorem dX1_addTo_12 : decode cX1_addTo 12 = .ok (.aload_n 1, 1) := dk_43 (dk_at dksX1_addTo_0 12 rfl rfl)
theorem dX1_addTo_13 : decode cX1_addTo 13 = .ok (.iload_n 2, 1) := dk_28 (dk_at dksX1_addTo_0 13 rfl rfl)
theorem dX1_addTo_14 : decode cX1_addTo 14 = .ok (.iaload, 1) := dk_46 (dk_at dksX1_addTo_0 14 rfl rfl)
theorem dX1_addTo_15 : decode cX1_addTo 15 = .ok (.iadd, 1) := dk_96 (dk_at dksX1_addTo_0 15 rfl rfl)
theorem dX1_addTo_16 : decode cX1_addTo 16 = .ok (.iastore, 1) := dk_79 (dk_at dksX1_addTo_0 16 rfl rfl)
theorem dX1_addTo_17 : decode cX1_addTo 17 = .ok (.iinc 2 1, 3) := dk_132 2 1 (dk_at dksX1_addTo_0 17 rfl rfl)
theorem dX1_addTo_20 : decode cX1_addTo 20 = .ok (.goto (-18), 3) := dk_167 255 238 (dk_at dksX1_addTo_0 20 rfl rfl)
theorem dX1_addTo_23 : decode cX1_addTo 23 = .ok (.return_, 1) := dk_177 (dk_at dksX1_addTo_0 23 rfl rfl)
abbrev cX1_ordered : ByteArray := prog_1_method_2_code
def yX1_ordered : MethodName := ⟨RX1, "ordered", "([I)[I"⟩
def dkwX1_ordered_2 : List UInt8 := [46, 79, 132, 2, 1, 167, 255, 210, 43, 176]
abbrev dktX1_ordered_2 : List UInt8 := dkwX1_ordered_2 ++ []
def dkwX1_ordered_1 : List UInt8 := [42, 28, 46, 164, 0, 17, 43, 29, 43, 29, 4, 100, 46, 79, 132, 3, 255, 167, 255, 230, 43, 29, 42, 28]
abbrev dktX1_ordered_1 : List UInt8 := dkwX1_ordered_1 ++ dktX1_ordered_2
def dkwX1_ordered_0 : List UInt8 := [42, 190, 188, 10, 76, 3, 61, 28, 42, 190, 162, 0, 46, 28, 62, 29, 158, 0, 28, 43, 29, 4, 100, 46]
abbrev dktX1_ordered_0 : List UInt8 := dkwX1_ordered_0 ++ dktX1_ordered_1
theorem dksX1_ordered_0 : cX1_ordered.data.toList.drop 0 = dktX1_ordered_0 := by decide +kernel
theorem dksX1_ordered_1 : cX1_ordered.data.toList.drop 24 = dktX1_ordered_1 := dk_seg dksX1_ordered_0 24 rfl rfl
theorem dksX1_ordered_2 : cX1_ordered.data.toList.drop 48 = dktX1_ordered_2 := dk_seg dksX1_ordered_1 24 rfl rfl
theorem dX1_ordered_0 : decode cX1_ordered 0 = .ok (.aload_n 0, 1) := dk_42 (dk_at dksX1_ordered_0 0 rfl rfl)
theorem dX1_ordered_1 : decode cX1_ordered 1 = .ok (.arraylength, 1) := dk_190 (dk_at dksX1_ordered_0 1 rfl rfl)
theorem dX1_ordered_2 : decode cX1_ordered 2 = .ok (.newarray .int, 2) := dk_188_10 (dk_at dksX1_ordered_0 2 rfl rfl)
theorem dX1_ordered_4 : decode cX1_ordered 4 = .ok (.astore_n 1, 1) := dk_76 (dk_at dksX1_ordered_0 4 rfl rfl)
theorem dX1_ordered_5 : decode cX1_ordered 5 = .ok (.iconst 0, 1) := dk_3 (dk_at dksX1_ordered_0 5 rfl rfl)
theorem dX1_ordered_6 : decode cX1_ordered 6 = .ok (.istore_n 2, 1) := dk_61 (dk_at dksX1_ordered_0 6 rfl rfl)
theorem dX1_ordered_7 : decode cX1_ordered 7 = .ok (.iload_n 2, 1) := dk_28 (dk_at dksX1_ordered_0 7 rfl rfl)
theorem dX1_ordered_8 : decode cX1_ordered 8 = .ok (.aload_n 0, 1) := dk_42 (dk_at dksX1_ordered_0 8 rfl rfl)
theorem dX1_ordered_9 : decode cX1_ordered 9 = .ok (.arraylength, 1) := dk_190 (dk_at dksX1_ordered_0 9 rfl rfl)
theorem dX1_ordered_10 : decode cX1_ordered 10 = .ok (.if_icmp .ge 46, 3) := dk_162 0 46 (dk_at dksX1_ordered_0 10 rfl rfl)
theorem dX1_ordered_13 : decode cX1_ordered 13 = .ok (.iload_n 2, 1) := dk_28 (dk_at dksX1_ordered_0 13 rfl rfl)
theorem dX1_ordered_14 : decode cX1_ordered 14 = .ok (.istore_n 3, 1) := dk_62 (dk_at dksX1_ordered_0 14 rfl rfl)
theorem dX1_ordered_15 : decode cX1_ordered 15 = .ok (.iload_n 3, 1) := dk_29 (dk_at dksX1_ordered_0 15 rfl rfl)
theorem dX1_ordered_16 : decode cX1_ordered 16 = .ok (.ifCond .le 28, 3) := dk_158 0 28 (dk_at dksX1_ordered_0 16 rfl rfl)
theorem dX1_ordered_19 : decode cX1_ordered 19 = .ok (.aload_n 1, 1) := dk_43 (dk_at dksX1_ordered_0 19 rfl rfl)
theorem dX1_ordered_20 : decode cX1_ordered 20 = .ok (.iload_n 3, 1) := dk_29 (dk_at dksX1_ordered_0 20 rfl rfl)
theorem dX1_ordered_21 : decode cX1_ordered 21 = .ok (.iconst 1, 1) := dk_4 (dk_at dksX1_ordered_0 21 rfl rfl)
theorem dX1_ordered_22 : decode cX1_ordered 22 = .ok (.isub, 1) := dk_100 (dk_at dksX1_ordered_0 22 rfl rfl)
theorem dX1_ordered_23 : decode cX1_ordered 23 = .ok (.iaload, 1) := dk_46 (dk_at dksX1_ordered_0 23 rfl rfl)
theorem dX1_ordered_24 : decode cX1_ordered 24 = .ok (.aload_n 0, 1) := dk_42 (dk_at dksX1_ordered_1 0 rfl rfl)
theorem dX1_ordered_25 : decode cX1_ordered 25 = .ok (.iload_n 2, 1) := dk_28 (dk_at dksX1_ordered_1 1 rfl rfl)
theorem dX1_ordered_26 : decode cX1_ordered 26 = .ok (.iaload, 1) := dk_46 (dk_at dksX1_ordered_1 2 rfl rfl)
theorem dX1_ordered_27 : decode cX1_ordered 27 = .ok (.if_icmp .le 17, 3) := dk_164 0 17 (dk_at dksX1_ordered_1 3 rfl rfl)
theorem dX1_ordered_30 : decode cX1_ordered 30 = .ok (.aload_n 1, 1) := dk_43 (dk_at dksX1_ordered_1 6 rfl rfl)
theorem dX1_ordered_31 : decode cX1_ordered 31 = .ok (.iload_n 3, 1) := dk_29 (dk_at dksX1_ordered_1 7 rfl rfl)
theorem dX1_ordered_32 : decode cX1_ordered 32 = .ok (.aload_n 1, 1) := dk_43 (dk_at dksX1_ordered_1 8 rfl rfl)
theorem dX1_ordered_33 : decode cX1_ordered 33 = .ok (.iload_n 3, 1) := dk_29 (dk_at dksX1_ordered_1 9 rfl rfl)
theorem dX1_ordered_34 : decode cX1_ordered 34 = .ok (.iconst 1, 1) := dk_4 (dk_at dksX1_ordered_1 10 rfl rfl)
theorem dX1_ordered_35 : decode cX1_ordered 35 = .ok (.isub, 1) := dk_100 (dk_at dksX1_ordered_1 11 rfl rfl)
theorem dX1_ordered_36 : decode cX1_ordered 36 = .ok (.iaload, 1) := dk_46 (dk_at dksX1_ordered_1 12 rfl rfl)
theorem dX1_ordered_37 : decode cX1_ordered 37 = .ok (.iastore, 1) := dk_79 (dk_at dksX1_ordered_1 13 rfl rfl)
theorem dX1_ordered_38 : decode cX1_ordered 38 = .ok (.iinc 3 (-1), 3) := dk_132 3 255 (dk_at dksX1_ordered_1 14 rfl rfl)
theorem dX1_ordered_41 : decode cX1_ordered 41 = .ok (.goto (-26), 3) := dk_167 255 230 (dk_at dksX1_ordered_1 17 rfl rfl)
theorem dX1_ordered_44 : decode cX1_ordered 44 = .ok (.aload_n 1, 1) := dk_43 (dk_at dksX1_ordered_1 20 rfl rfl)
theorem dX1_ordered_45 : decode cX1_ordered 45 = .ok (.iload_n 3, 1) := dk_29 (dk_at dksX1_ordered_1 21 rfl rfl)
theorem dX1_ordered_46 : decode cX1_ordered 46 = .ok (.aload_n 0, 1) := dk_42 (dk_at dksX1_ordered_1 22 rfl rfl)
theorem dX1_ordered_47 : decode cX1_ordered 47 = .ok (.iload_n 2, 1) := dk_28 (dk_at dksX1_ordered_1 23 rfl rfl)
theorem dX1_ordered_48 : decode cX1_ordered 48 = .ok (.iaload, 1) := dk_46 (dk_at dksX1_ordered_2 0 rfl rfl)
theorem dX1_ordered_49 : decode cX1_ordered 49 = .ok (.iastore, 1) := dk_79 (dk_at dksX1_ordered_2 1 rfl rfl)
theorem dX1_ordered_50 : decode cX1_ordered 50 = .ok (.iinc 2 1, 3) := dk_132 2 1 (dk_at dksX1_ordered_2 2 rfl rfl)
theorem dX1_ordered_53 : decode cX1_ordered 53 = .ok (.goto (-46), 3) := dk_167 255 210 (dk_at dksX1_ordered_2 5 rfl rfl)
theorem dX1_ordered_56 : decode cX1_ordered 56 = .ok (.aload_n 1, 1) := dk_43 (dk_at dksX1_ordered_2 8 rfl rfl)
theorem dX1_ordered_57 : decode cX1_ordered 57 = .ok (.areturn, 1) := dk_176 (dk_at dksX1_ordered_2 9 rfl rfl)
abbrev cX1_clear : ByteArray := prog_1_method_11_code
def yX1_clear : MethodName := ⟨RX1, "clear", "(I)I"⟩
def dkwX1_clear_1 : List UInt8 := [172]
abbrev dktX1_clear_1 : List UInt8 := dkwX1_clear_1 ++ []
def dkwX1_clear_0 : List UInt8 := [42, 27, 182, 0, 63, 180, 0, 67, 61, 42, 180, 0, 42, 27, 187, 0, 40, 89, 42, 183, 0, 46, 83, 28]
abbrev dktX1_clear_0 : List UInt8 := dkwX1_clear_0 ++ dktX1_clear_1
theorem dksX1_clear_0 : cX1_clear.data.toList.drop 0 = dktX1_clear_0 := by decide +kernel
theorem dksX1_clear_1 : cX1_clear.data.toList.drop 24 = dktX1_clear_1 := dk_seg dksX1_clear_0 24 rfl rfl
theorem dX1_clear_0 : decode cX1_clear 0 = .ok (.aload_n 0, 1) := dk_42 (dk_at dksX1_clear_0 0 rfl rfl)
theorem dX1_clear_1 : decode cX1_clear 1 = .ok (.iload_n 1, 1) := dk_27 (dk_at dksX1_clear_0 1 rfl rfl)
theorem dX1_clear_2 : decode cX1_clear 2 = .ok (.invokevirtual 63, 3) := dk_182 0 63 (dk_at dksX1_clear_0 2 rfl rfl)
theorem dX1_clear_5 : decode cX1_clear 5 = .ok (.getfield 67, 3) := dk_180 0 67 (dk_at dksX1_clear_0 5 rfl rfl)
theorem dX1_clear_8 : decode cX1_clear 8 = .ok (.istore_n 2, 1) := dk_61 (dk_at dksX1_clear_0 8 rfl rfl)
theorem dX1_clear_9 : decode cX1_clear 9 = .ok (.aload_n 0, 1) := dk_42 (dk_at dksX1_clear_0 9 rfl rfl)
theorem dX1_clear_10 : decode cX1_clear 10 = .ok (.getfield 42, 3) := dk_180 0 42 (dk_at dksX1_clear_0 10 rfl rfl)
theorem dX1_clear_13 : decode cX1_clear 13 = .ok (.iload_n 1, 1) := dk_27 (dk_at dksX1_clear_0 13 rfl rfl)
theorem dX1_clear_14 : decode cX1_clear 14 = .ok (.new 40, 3) := dk_187 0 40 (dk_at dksX1_clear_0 14 rfl rfl)
theorem dX1_clear_17 : decode cX1_clear 17 = .ok (.dup, 1) := dk_89 (dk_at dksX1_clear_0 17 rfl rfl)
theorem dX1_clear_18 : decode cX1_clear 18 = .ok (.aload_n 0, 1) := dk_42 (dk_at dksX1_clear_0 18 rfl rfl)
theorem dX1_clear_19 : decode cX1_clear 19 = .ok (.invokespecial 46, 3) := dk_183 0 46 (dk_at dksX1_clear_0 19 rfl rfl)
theorem dX1_clear_22 : decode cX1_clear 22 = .ok (.aastore, 1) := dk_83 (dk_at dksX1_clear_0 22 rfl rfl)
theorem dX1_clear_23 : decode cX1_clear 23 = .ok (.iload_n 2, 1) := dk_28 (dk_at dksX1_clear_0 23 rfl rfl)
theorem dX1_clear_24 : decode cX1_clear 24 = .ok (.ireturn, 1) := dk_172 (dk_at dksX1_clear_1 0 rfl rfl)
abbrev cX1_total : ByteArray := prog_1_method_12_code
def yX1_total : MethodName := ⟨RX1, "total", "(I)I"⟩
def dkwX1_total_0 : List UInt8 := [42, 27, 182, 0, 63, 180, 0, 67, 172]
abbrev dktX1_total_0 : List UInt8 := dkwX1_total_0 ++ []
theorem dksX1_total_0 : cX1_total.data.toList.drop 0 = dktX1_total_0 := by decide +kernel
theorem dX1_total_0 : decode cX1_total 0 = .ok (.aload_n 0, 1) := dk_42 (dk_at dksX1_total_0 0 rfl rfl)
theorem dX1_total_1 : decode cX1_total 1 = .ok (.iload_n 1, 1) := dk_27 (dk_at dksX1_total_0 1 rfl rfl)
theorem dX1_total_2 : decode cX1_total 2 = .ok (.invokevirtual 63, 3) := dk_182 0 63 (dk_at dksX1_total_0 2 rfl rfl)
theorem dX1_total_5 : decode cX1_total 5 = .ok (.getfield 67, 3) := dk_180 0 67 (dk_at dksX1_total_0 5 rfl rfl)
theorem dX1_total_8 : decode cX1_total 8 = .ok (.ireturn, 1) := dk_172 (dk_at dksX1_total_0 8 rfl rfl)
abbrev cX1_count : ByteArray := prog_1_method_13_code
def yX1_count : MethodName := ⟨RX1, "count", "(II)I"⟩
def dkwX1_count_0 : List UInt8 := [42, 27, 182, 0, 63, 78, 28, 16, 64, 184, 0, 55, 45, 180, 0, 82, 28, 46, 172]
abbrev dktX1_count_0 : List UInt8 := dkwX1_count_0 ++ []
theorem dksX1_count_0 : cX1_count.data.toList.drop 0 = dktX1_count_0 := by decide +kernel
theorem dX1_count_0 : decode cX1_count 0 = .ok (.aload_n 0, 1) := dk_42 (dk_at dksX1_count_0 0 rfl rfl)
theorem dX1_count_1 : decode cX1_count 1 = .ok (.iload_n 1, 1) := dk_27 (dk_at dksX1_count_0 1 rfl rfl)
theorem dX1_count_2 : decode cX1_count 2 = .ok (.invokevirtual 63, 3) := dk_182 0 63 (dk_at dksX1_count_0 2 rfl rfl)
theorem dX1_count_5 : decode cX1_count 5 = .ok (.astore_n 3, 1) := dk_78 (dk_at dksX1_count_0 5 rfl rfl)
theorem dX1_count_6 : decode cX1_count 6 = .ok (.iload_n 2, 1) := dk_28 (dk_at dksX1_count_0 6 rfl rfl)
theorem dX1_count_7 : decode cX1_count 7 = .ok (.bipush 64, 2) := dk_16 64 (dk_at dksX1_count_0 7 rfl rfl)
theorem dX1_count_9 : decode cX1_count 9 = .ok (.invokestatic 55, 3) := dk_184 0 55 (dk_at dksX1_count_0 9 rfl rfl)
theorem dX1_count_12 : decode cX1_count 12 = .ok (.aload_n 3, 1) := dk_45 (dk_at dksX1_count_0 12 rfl rfl)
theorem dX1_count_13 : decode cX1_count 13 = .ok (.getfield 82, 3) := dk_180 0 82 (dk_at dksX1_count_0 13 rfl rfl)
theorem dX1_count_16 : decode cX1_count 16 = .ok (.iload_n 2, 1) := dk_28 (dk_at dksX1_count_0 16 rfl rfl)
theorem dX1_count_17 : decode cX1_count 17 = .ok (.iaload, 1) := dk_46 (dk_at dksX1_count_0 17 rfl rfl)
theorem dX1_count_18 : decode cX1_count 18 = .ok (.ireturn, 1) := dk_172 (dk_at dksX1_count_0 18 rfl rfl)
abbrev cX1_countOfRange : ByteArray := prog_1_method_14_code
def yX1_countOfRange : MethodName := ⟨RX1, "countOfRange", "(III)I"⟩
def dkwX1_countOfRange_1 : List UInt8 := [21, 5, 25, 4, 180, 0, 82, 21, 6, 46, 96, 54, 5, 132, 6, 1, 167, 255, 234, 21, 5, 172]
abbrev dktX1_countOfRange_1 : List UInt8 := dkwX1_countOfRange_1 ++ []
def dkwX1_countOfRange_0 : List UInt8 := [42, 27, 182, 0, 63, 58, 4, 28, 29, 184, 0, 86, 3, 54, 5, 28, 54, 6, 21, 6, 29, 163, 0, 22]
abbrev dktX1_countOfRange_0 : List UInt8 := dkwX1_countOfRange_0 ++ dktX1_countOfRange_1
theorem dksX1_countOfRange_0 : cX1_countOfRange.data.toList.drop 0 = dktX1_countOfRange_0 := by decide +kernel
theorem dksX1_countOfRange_1 : cX1_countOfRange.data.toList.drop 24 = dktX1_countOfRange_1 := dk_seg dksX1_countOfRange_0 24 rfl rfl
theorem dX1_countOfRange_0 : decode cX1_countOfRange 0 = .ok (.aload_n 0, 1) := dk_42 (dk_at dksX1_countOfRange_0 0 rfl rfl)
theorem dX1_countOfRange_1 : decode cX1_countOfRange 1 = .ok (.iload_n 1, 1) := dk_27 (dk_at dksX1_countOfRange_0 1 rfl rfl)
theorem dX1_countOfRange_2 : decode cX1_countOfRange 2 = .ok (.invokevirtual 63, 3) := dk_182 0 63 (dk_at dksX1_countOfRange_0 2 rfl rfl)
theorem dX1_countOfRange_5 : decode cX1_countOfRange 5 = .ok (.astore 4, 2) := dk_58 4 (dk_at dksX1_countOfRange_0 5 rfl rfl)
theorem dX1_countOfRange_7 : decode cX1_countOfRange 7 = .ok (.iload_n 2, 1) := dk_28 (dk_at dksX1_countOfRange_0 7 rfl rfl)
theorem dX1_countOfRange_8 : decode cX1_countOfRange 8 = .ok (.iload_n 3, 1) := dk_29 (dk_at dksX1_countOfRange_0 8 rfl rfl)
theorem dX1_countOfRange_9 : decode cX1_countOfRange 9 = .ok (.invokestatic 86, 3) := dk_184 0 86 (dk_at dksX1_countOfRange_0 9 rfl rfl)
theorem dX1_countOfRange_12 : decode cX1_countOfRange 12 = .ok (.iconst 0, 1) := dk_3 (dk_at dksX1_countOfRange_0 12 rfl rfl)
theorem dX1_countOfRange_13 : decode cX1_countOfRange 13 = .ok (.istore 5, 2) := dk_54 5 (dk_at dksX1_countOfRange_0 13 rfl rfl)
theorem dX1_countOfRange_15 : decode cX1_countOfRange 15 = .ok (.iload_n 2, 1) := dk_28 (dk_at dksX1_countOfRange_0 15 rfl rfl)
theorem dX1_countOfRange_16 : decode cX1_countOfRange 16 = .ok (.istore 6, 2) := dk_54 6 (dk_at dksX1_countOfRange_0 16 rfl rfl)
theorem dX1_countOfRange_18 : decode cX1_countOfRange 18 = .ok (.iload 6, 2) := dk_21 6 (dk_at dksX1_countOfRange_0 18 rfl rfl)
theorem dX1_countOfRange_20 : decode cX1_countOfRange 20 = .ok (.iload_n 3, 1) := dk_29 (dk_at dksX1_countOfRange_0 20 rfl rfl)
theorem dX1_countOfRange_21 : decode cX1_countOfRange 21 = .ok (.if_icmp .gt 22, 3) := dk_163 0 22 (dk_at dksX1_countOfRange_0 21 rfl rfl)
theorem dX1_countOfRange_24 : decode cX1_countOfRange 24 = .ok (.iload 5, 2) := dk_21 5 (dk_at dksX1_countOfRange_1 0 rfl rfl)
theorem dX1_countOfRange_26 : decode cX1_countOfRange 26 = .ok (.aload 4, 2) := dk_25 4 (dk_at dksX1_countOfRange_1 2 rfl rfl)
theorem dX1_countOfRange_28 : decode cX1_countOfRange 28 = .ok (.getfield 82, 3) := dk_180 0 82 (dk_at dksX1_countOfRange_1 4 rfl rfl)
theorem dX1_countOfRange_31 : decode cX1_countOfRange 31 = .ok (.iload 6, 2) := dk_21 6 (dk_at dksX1_countOfRange_1 7 rfl rfl)
theorem dX1_countOfRange_33 : decode cX1_countOfRange 33 = .ok (.iaload, 1) := dk_46 (dk_at dksX1_countOfRange_1 9 rfl rfl)
theorem dX1_countOfRange_34 : decode cX1_countOfRange 34 = .ok (.iadd, 1) := dk_96 (dk_at dksX1_countOfRange_1 10 rfl rfl)
theorem dX1_countOfRange_35 : decode cX1_countOfRange 35 = .ok (.istore 5, 2) := dk_54 5 (dk_at dksX1_countOfRange_1 11 rfl rfl)
theorem dX1_countOfRange_37 : decode cX1_countOfRange 37 = .ok (.iinc 6 1, 3) := dk_132 6 1 (dk_at dksX1_countOfRange_1 13 rfl rfl)
theorem dX1_countOfRange_40 : decode cX1_countOfRange 40 = .ok (.goto (-22), 3) := dk_167 255 234 (dk_at dksX1_countOfRange_1 16 rfl rfl)
theorem dX1_countOfRange_43 : decode cX1_countOfRange 43 = .ok (.iload 5, 2) := dk_21 5 (dk_at dksX1_countOfRange_1 19 rfl rfl)
theorem dX1_countOfRange_45 : decode cX1_countOfRange 45 = .ok (.ireturn, 1) := dk_172 (dk_at dksX1_countOfRange_1 21 rfl rfl)
abbrev cX1_needRange : ByteArray := prog_1_method_8_code
def yX1_needRange : MethodName := ⟨RX1, "needRange", "(II)V"⟩
def dkwX1_needRange_0 : List UInt8 := [26, 16, 64, 184, 0, 55, 27, 16, 64, 184, 0, 55, 27, 26, 16, 64, 184, 0, 59, 177]
abbrev dktX1_needRange_0 : List UInt8 := dkwX1_needRange_0 ++ []
theorem dksX1_needRange_0 : cX1_needRange.data.toList.drop 0 = dktX1_needRange_0 := by decide +kernel
theorem dX1_needRange_0 : decode cX1_needRange 0 = .ok (.iload_n 0, 1) := dk_26 (dk_at dksX1_needRange_0 0 rfl rfl)
theorem dX1_needRange_1 : decode cX1_needRange 1 = .ok (.bipush 64, 2) := dk_16 64 (dk_at dksX1_needRange_0 1 rfl rfl)
theorem dX1_needRange_3 : decode cX1_needRange 3 = .ok (.invokestatic 55, 3) := dk_184 0 55 (dk_at dksX1_needRange_0 3 rfl rfl)
theorem dX1_needRange_6 : decode cX1_needRange 6 = .ok (.iload_n 1, 1) := dk_27 (dk_at dksX1_needRange_0 6 rfl rfl)
theorem dX1_needRange_7 : decode cX1_needRange 7 = .ok (.bipush 64, 2) := dk_16 64 (dk_at dksX1_needRange_0 7 rfl rfl)
theorem dX1_needRange_9 : decode cX1_needRange 9 = .ok (.invokestatic 55, 3) := dk_184 0 55 (dk_at dksX1_needRange_0 9 rfl rfl)
theorem dX1_needRange_12 : decode cX1_needRange 12 = .ok (.iload_n 1, 1) := dk_27 (dk_at dksX1_needRange_0 12 rfl rfl)
theorem dX1_needRange_13 : decode cX1_needRange 13 = .ok (.iload_n 0, 1) := dk_26 (dk_at dksX1_needRange_0 13 rfl rfl)
theorem dX1_needRange_14 : decode cX1_needRange 14 = .ok (.bipush 64, 2) := dk_16 64 (dk_at dksX1_needRange_0 14 rfl rfl)
theorem dX1_needRange_16 : decode cX1_needRange 16 = .ok (.invokestatic 59, 3) := dk_184 0 59 (dk_at dksX1_needRange_0 16 rfl rfl)
theorem dX1_needRange_19 : decode cX1_needRange 19 = .ok (.return_, 1) := dk_177 (dk_at dksX1_needRange_0 19 rfl rfl)
abbrev cX1_product : ByteArray := prog_1_method_15_code
def yX1_product : MethodName := ⟨RX1, "product", "(II)J"⟩
def dkwX1_product_2 : List UInt8 := [55, 5, 132, 7, 1, 167, 255, 223, 22, 5, 173]
abbrev dktX1_product_2 : List UInt8 := dkwX1_product_2 ++ []
def dkwX1_product_1 : List UInt8 := [162, 0, 32, 22, 5, 45, 180, 0, 82, 21, 7, 46, 133, 25, 4, 180, 0, 82, 21, 7, 46, 133, 105, 97]
abbrev dktX1_product_1 : List UInt8 := dkwX1_product_1 ++ dktX1_product_2
def dkwX1_product_0 : List UInt8 := [42, 27, 182, 0, 63, 78, 42, 28, 182, 0, 63, 58, 4, 9, 55, 5, 3, 54, 7, 21, 7, 16, 64]
abbrev dktX1_product_0 : List UInt8 := dkwX1_product_0 ++ dktX1_product_1
theorem dksX1_product_0 : cX1_product.data.toList.drop 0 = dktX1_product_0 := by decide +kernel
theorem dksX1_product_1 : cX1_product.data.toList.drop 23 = dktX1_product_1 := dk_seg dksX1_product_0 23 rfl rfl
theorem dksX1_product_2 : cX1_product.data.toList.drop 47 = dktX1_product_2 := dk_seg dksX1_product_1 24 rfl rfl
theorem dX1_product_0 : decode cX1_product 0 = .ok (.aload_n 0, 1) := dk_42 (dk_at dksX1_product_0 0 rfl rfl)
theorem dX1_product_1 : decode cX1_product 1 = .ok (.iload_n 1, 1) := dk_27 (dk_at dksX1_product_0 1 rfl rfl)
theorem dX1_product_2 : decode cX1_product 2 = .ok (.invokevirtual 63, 3) := dk_182 0 63 (dk_at dksX1_product_0 2 rfl rfl)
theorem dX1_product_5 : decode cX1_product 5 = .ok (.astore_n 3, 1) := dk_78 (dk_at dksX1_product_0 5 rfl rfl)
theorem dX1_product_6 : decode cX1_product 6 = .ok (.aload_n 0, 1) := dk_42 (dk_at dksX1_product_0 6 rfl rfl)
theorem dX1_product_7 : decode cX1_product 7 = .ok (.iload_n 2, 1) := dk_28 (dk_at dksX1_product_0 7 rfl rfl)
theorem dX1_product_8 : decode cX1_product 8 = .ok (.invokevirtual 63, 3) := dk_182 0 63 (dk_at dksX1_product_0 8 rfl rfl)
theorem dX1_product_11 : decode cX1_product 11 = .ok (.astore 4, 2) := dk_58 4 (dk_at dksX1_product_0 11 rfl rfl)
theorem dX1_product_13 : decode cX1_product 13 = .ok (.lconst 0, 1) := dk_9 (dk_at dksX1_product_0 13 rfl rfl)
theorem dX1_product_14 : decode cX1_product 14 = .ok (.lstore 5, 2) := dk_55 5 (dk_at dksX1_product_0 14 rfl rfl)
theorem dX1_product_16 : decode cX1_product 16 = .ok (.iconst 0, 1) := dk_3 (dk_at dksX1_product_0 16 rfl rfl)
theorem dX1_product_17 : decode cX1_product 17 = .ok (.istore 7, 2) := dk_54 7 (dk_at dksX1_product_0 17 rfl rfl)
theorem dX1_product_19 : decode cX1_product 19 = .ok (.iload 7, 2) := dk_21 7 (dk_at dksX1_product_0 19 rfl rfl)
theorem dX1_product_21 : decode cX1_product 21 = .ok (.bipush 64, 2) := dk_16 64 (dk_at dksX1_product_0 21 rfl rfl)
theorem dX1_product_23 : decode cX1_product 23 = .ok (.if_icmp .ge 32, 3) := dk_162 0 32 (dk_at dksX1_product_1 0 rfl rfl)
theorem dX1_product_26 : decode cX1_product 26 = .ok (.lload 5, 2) := dk_22 5 (dk_at dksX1_product_1 3 rfl rfl)
theorem dX1_product_28 : decode cX1_product 28 = .ok (.aload_n 3, 1) := dk_45 (dk_at dksX1_product_1 5 rfl rfl)
theorem dX1_product_29 : decode cX1_product 29 = .ok (.getfield 82, 3) := dk_180 0 82 (dk_at dksX1_product_1 6 rfl rfl)
theorem dX1_product_32 : decode cX1_product 32 = .ok (.iload 7, 2) := dk_21 7 (dk_at dksX1_product_1 9 rfl rfl)
theorem dX1_product_34 : decode cX1_product 34 = .ok (.iaload, 1) := dk_46 (dk_at dksX1_product_1 11 rfl rfl)
theorem dX1_product_35 : decode cX1_product 35 = .ok (.i2l, 1) := dk_133 (dk_at dksX1_product_1 12 rfl rfl)
theorem dX1_product_36 : decode cX1_product 36 = .ok (.aload 4, 2) := dk_25 4 (dk_at dksX1_product_1 13 rfl rfl)
theorem dX1_product_38 : decode cX1_product 38 = .ok (.getfield 82, 3) := dk_180 0 82 (dk_at dksX1_product_1 15 rfl rfl)
theorem dX1_product_41 : decode cX1_product 41 = .ok (.iload 7, 2) := dk_21 7 (dk_at dksX1_product_1 18 rfl rfl)
theorem dX1_product_43 : decode cX1_product 43 = .ok (.iaload, 1) := dk_46 (dk_at dksX1_product_1 20 rfl rfl)
theorem dX1_product_44 : decode cX1_product 44 = .ok (.i2l, 1) := dk_133 (dk_at dksX1_product_1 21 rfl rfl)
theorem dX1_product_45 : decode cX1_product 45 = .ok (.lmul, 1) := dk_105 (dk_at dksX1_product_1 22 rfl rfl)
theorem dX1_product_46 : decode cX1_product 46 = .ok (.ladd, 1) := dk_97 (dk_at dksX1_product_1 23 rfl rfl)
theorem dX1_product_47 : decode cX1_product 47 = .ok (.lstore 5, 2) := dk_55 5 (dk_at dksX1_product_2 0 rfl rfl)
theorem dX1_product_49 : decode cX1_product 49 = .ok (.iinc 7 1, 3) := dk_132 7 1 (dk_at dksX1_product_2 2 rfl rfl)
theorem dX1_product_52 : decode cX1_product 52 = .ok (.goto (-33), 3) := dk_167 255 223 (dk_at dksX1_product_2 5 rfl rfl)
theorem dX1_product_55 : decode cX1_product 55 = .ok (.lload 5, 2) := dk_22 5 (dk_at dksX1_product_2 8 rfl rfl)
theorem dX1_product_57 : decode cX1_product 57 = .ok (.lreturn, 1) := dk_173 (dk_at dksX1_product_2 10 rfl rfl)
abbrev cX1_column : ByteArray := prog_1_method_16_code
def yX1_column : MethodName := ⟨RX1, "column", "(II)I"⟩
def dkwX1_column_0 : List UInt8 := [27, 6, 184, 0, 55, 28, 16, 64, 184, 0, 55, 42, 180, 0, 24, 27, 50, 28, 185, 0, 7, 2, 0, 172]
abbrev dktX1_column_0 : List UInt8 := dkwX1_column_0 ++ []
theorem dksX1_column_0 : cX1_column.data.toList.drop 0 = dktX1_column_0 := by decide +kernel
theorem dX1_column_0 : decode cX1_column 0 = .ok (.iload_n 1, 1) := dk_27 (dk_at dksX1_column_0 0 rfl rfl)
theorem dX1_column_1 : decode cX1_column 1 = .ok (.iconst 3, 1) := dk_6 (dk_at dksX1_column_0 1 rfl rfl)
theorem dX1_column_2 : decode cX1_column 2 = .ok (.invokestatic 55, 3) := dk_184 0 55 (dk_at dksX1_column_0 2 rfl rfl)
theorem dX1_column_5 : decode cX1_column 5 = .ok (.iload_n 2, 1) := dk_28 (dk_at dksX1_column_0 5 rfl rfl)
theorem dX1_column_6 : decode cX1_column 6 = .ok (.bipush 64, 2) := dk_16 64 (dk_at dksX1_column_0 6 rfl rfl)
theorem dX1_column_8 : decode cX1_column 8 = .ok (.invokestatic 55, 3) := dk_184 0 55 (dk_at dksX1_column_0 8 rfl rfl)
theorem dX1_column_11 : decode cX1_column 11 = .ok (.aload_n 0, 1) := dk_42 (dk_at dksX1_column_0 11 rfl rfl)
theorem dX1_column_12 : decode cX1_column 12 = .ok (.getfield 24, 3) := dk_180 0 24 (dk_at dksX1_column_0 12 rfl rfl)
theorem dX1_column_15 : decode cX1_column 15 = .ok (.iload_n 1, 1) := dk_27 (dk_at dksX1_column_0 15 rfl rfl)
theorem dX1_column_16 : decode cX1_column 16 = .ok (.aaload, 1) := dk_50 (dk_at dksX1_column_0 16 rfl rfl)
theorem dX1_column_17 : decode cX1_column 17 = .ok (.iload_n 2, 1) := dk_28 (dk_at dksX1_column_0 17 rfl rfl)
theorem dX1_column_18 : decode cX1_column 18 = .ok (.invokeinterface 7 2, 5) := by decide +kernel
theorem dX1_column_23 : decode cX1_column 23 = .ok (.ireturn, 1) := dk_172 (dk_at dksX1_column_0 23 rfl rfl)
abbrev cX1_cell : ByteArray := prog_1_method_17_code
def yX1_cell : MethodName := ⟨RX1, "cell", "(IIII)I"⟩
def dkwX1_cell_1 : List UInt8 := [25, 5, 180, 0, 89, 28, 50, 29, 50, 21, 4, 46, 172]
abbrev dktX1_cell_1 : List UInt8 := dkwX1_cell_1 ++ []
def dkwX1_cell_0 : List UInt8 := [42, 27, 182, 0, 63, 58, 5, 28, 6, 184, 0, 55, 29, 6, 184, 0, 55, 21, 4, 16, 8, 184, 0, 55]
abbrev dktX1_cell_0 : List UInt8 := dkwX1_cell_0 ++ dktX1_cell_1
theorem dksX1_cell_0 : cX1_cell.data.toList.drop 0 = dktX1_cell_0 := by decide +kernel
theorem dksX1_cell_1 : cX1_cell.data.toList.drop 24 = dktX1_cell_1 := dk_seg dksX1_cell_0 24 rfl rfl
theorem dX1_cell_0 : decode cX1_cell 0 = .ok (.aload_n 0, 1) := dk_42 (dk_at dksX1_cell_0 0 rfl rfl)
theorem dX1_cell_1 : decode cX1_cell 1 = .ok (.iload_n 1, 1) := dk_27 (dk_at dksX1_cell_0 1 rfl rfl)
theorem dX1_cell_2 : decode cX1_cell 2 = .ok (.invokevirtual 63, 3) := dk_182 0 63 (dk_at dksX1_cell_0 2 rfl rfl)
theorem dX1_cell_5 : decode cX1_cell 5 = .ok (.astore 5, 2) := dk_58 5 (dk_at dksX1_cell_0 5 rfl rfl)
theorem dX1_cell_7 : decode cX1_cell 7 = .ok (.iload_n 2, 1) := dk_28 (dk_at dksX1_cell_0 7 rfl rfl)
theorem dX1_cell_8 : decode cX1_cell 8 = .ok (.iconst 3, 1) := dk_6 (dk_at dksX1_cell_0 8 rfl rfl)
theorem dX1_cell_9 : decode cX1_cell 9 = .ok (.invokestatic 55, 3) := dk_184 0 55 (dk_at dksX1_cell_0 9 rfl rfl)
theorem dX1_cell_12 : decode cX1_cell 12 = .ok (.iload_n 3, 1) := dk_29 (dk_at dksX1_cell_0 12 rfl rfl)
theorem dX1_cell_13 : decode cX1_cell 13 = .ok (.iconst 3, 1) := dk_6 (dk_at dksX1_cell_0 13 rfl rfl)
theorem dX1_cell_14 : decode cX1_cell 14 = .ok (.invokestatic 55, 3) := dk_184 0 55 (dk_at dksX1_cell_0 14 rfl rfl)
theorem dX1_cell_17 : decode cX1_cell 17 = .ok (.iload 4, 2) := dk_21 4 (dk_at dksX1_cell_0 17 rfl rfl)
theorem dX1_cell_19 : decode cX1_cell 19 = .ok (.bipush 8, 2) := dk_16 8 (dk_at dksX1_cell_0 19 rfl rfl)
theorem dX1_cell_21 : decode cX1_cell 21 = .ok (.invokestatic 55, 3) := dk_184 0 55 (dk_at dksX1_cell_0 21 rfl rfl)
theorem dX1_cell_24 : decode cX1_cell 24 = .ok (.aload 5, 2) := dk_25 5 (dk_at dksX1_cell_1 0 rfl rfl)
theorem dX1_cell_26 : decode cX1_cell 26 = .ok (.getfield 89, 3) := dk_180 0 89 (dk_at dksX1_cell_1 2 rfl rfl)
theorem dX1_cell_29 : decode cX1_cell 29 = .ok (.iload_n 2, 1) := dk_28 (dk_at dksX1_cell_1 5 rfl rfl)
theorem dX1_cell_30 : decode cX1_cell 30 = .ok (.aaload, 1) := dk_50 (dk_at dksX1_cell_1 6 rfl rfl)
theorem dX1_cell_31 : decode cX1_cell 31 = .ok (.iload_n 3, 1) := dk_29 (dk_at dksX1_cell_1 7 rfl rfl)
theorem dX1_cell_32 : decode cX1_cell 32 = .ok (.aaload, 1) := dk_50 (dk_at dksX1_cell_1 8 rfl rfl)
theorem dX1_cell_33 : decode cX1_cell 33 = .ok (.iload 4, 2) := dk_21 4 (dk_at dksX1_cell_1 9 rfl rfl)
theorem dX1_cell_35 : decode cX1_cell 35 = .ok (.iaload, 1) := dk_46 (dk_at dksX1_cell_1 11 rfl rfl)
theorem dX1_cell_36 : decode cX1_cell 36 = .ok (.ireturn, 1) := dk_172 (dk_at dksX1_cell_1 12 rfl rfl)
abbrev cX1_estimate : ByteArray := prog_1_method_18_code
def yX1_estimate : MethodName := ⟨RX1, "estimate", "(III)I"⟩
def dkwX1_estimate_1 : List UInt8 := [29, 182, 0, 93, 172]
abbrev dktX1_estimate_1 : List UInt8 := dkwX1_estimate_1 ++ []
def dkwX1_estimate_0 : List UInt8 := [42, 27, 182, 0, 63, 58, 4, 28, 16, 7, 184, 0, 55, 29, 16, 64, 28, 122, 184, 0, 55, 25, 4, 28]
abbrev dktX1_estimate_0 : List UInt8 := dkwX1_estimate_0 ++ dktX1_estimate_1
theorem dksX1_estimate_0 : cX1_estimate.data.toList.drop 0 = dktX1_estimate_0 := by decide +kernel
theorem dksX1_estimate_1 : cX1_estimate.data.toList.drop 24 = dktX1_estimate_1 := dk_seg dksX1_estimate_0 24 rfl rfl
theorem dX1_estimate_0 : decode cX1_estimate 0 = .ok (.aload_n 0, 1) := dk_42 (dk_at dksX1_estimate_0 0 rfl rfl)
theorem dX1_estimate_1 : decode cX1_estimate 1 = .ok (.iload_n 1, 1) := dk_27 (dk_at dksX1_estimate_0 1 rfl rfl)
theorem dX1_estimate_2 : decode cX1_estimate 2 = .ok (.invokevirtual 63, 3) := dk_182 0 63 (dk_at dksX1_estimate_0 2 rfl rfl)
theorem dX1_estimate_5 : decode cX1_estimate 5 = .ok (.astore 4, 2) := dk_58 4 (dk_at dksX1_estimate_0 5 rfl rfl)
theorem dX1_estimate_7 : decode cX1_estimate 7 = .ok (.iload_n 2, 1) := dk_28 (dk_at dksX1_estimate_0 7 rfl rfl)
theorem dX1_estimate_8 : decode cX1_estimate 8 = .ok (.bipush 7, 2) := dk_16 7 (dk_at dksX1_estimate_0 8 rfl rfl)
theorem dX1_estimate_10 : decode cX1_estimate 10 = .ok (.invokestatic 55, 3) := dk_184 0 55 (dk_at dksX1_estimate_0 10 rfl rfl)
theorem dX1_estimate_13 : decode cX1_estimate 13 = .ok (.iload_n 3, 1) := dk_29 (dk_at dksX1_estimate_0 13 rfl rfl)
theorem dX1_estimate_14 : decode cX1_estimate 14 = .ok (.bipush 64, 2) := dk_16 64 (dk_at dksX1_estimate_0 14 rfl rfl)
theorem dX1_estimate_16 : decode cX1_estimate 16 = .ok (.iload_n 2, 1) := dk_28 (dk_at dksX1_estimate_0 16 rfl rfl)
theorem dX1_estimate_17 : decode cX1_estimate 17 = .ok (.ishr, 1) := dk_122 (dk_at dksX1_estimate_0 17 rfl rfl)
theorem dX1_estimate_18 : decode cX1_estimate 18 = .ok (.invokestatic 55, 3) := dk_184 0 55 (dk_at dksX1_estimate_0 18 rfl rfl)
theorem dX1_estimate_21 : decode cX1_estimate 21 = .ok (.aload 4, 2) := dk_25 4 (dk_at dksX1_estimate_0 21 rfl rfl)
theorem dX1_estimate_23 : decode cX1_estimate 23 = .ok (.iload_n 2, 1) := dk_28 (dk_at dksX1_estimate_0 23 rfl rfl)
theorem dX1_estimate_24 : decode cX1_estimate 24 = .ok (.iload_n 3, 1) := dk_29 (dk_at dksX1_estimate_1 0 rfl rfl)
theorem dX1_estimate_25 : decode cX1_estimate 25 = .ok (.invokevirtual 93, 3) := dk_182 0 93 (dk_at dksX1_estimate_1 1 rfl rfl)
theorem dX1_estimate_28 : decode cX1_estimate 28 = .ok (.ireturn, 1) := dk_172 (dk_at dksX1_estimate_1 4 rfl rfl)
abbrev cX1_share : ByteArray := prog_1_method_19_code
def yX1_share : MethodName := ⟨RX1, "share", "(II)D"⟩
def dkwX1_share_1 : List UInt8 := [3, 28, 182, 0, 93, 135, 45, 180, 0, 67, 135, 111, 175]
abbrev dktX1_share_1 : List UInt8 := dkwX1_share_1 ++ []
def dkwX1_share_0 : List UInt8 := [42, 27, 182, 0, 63, 78, 28, 16, 64, 184, 0, 55, 45, 180, 0, 67, 154, 0, 7, 14, 167, 0, 16, 45]
abbrev dktX1_share_0 : List UInt8 := dkwX1_share_0 ++ dktX1_share_1
theorem dksX1_share_0 : cX1_share.data.toList.drop 0 = dktX1_share_0 := by decide +kernel
theorem dksX1_share_1 : cX1_share.data.toList.drop 24 = dktX1_share_1 := dk_seg dksX1_share_0 24 rfl rfl
theorem dX1_share_0 : decode cX1_share 0 = .ok (.aload_n 0, 1) := dk_42 (dk_at dksX1_share_0 0 rfl rfl)
theorem dX1_share_1 : decode cX1_share 1 = .ok (.iload_n 1, 1) := dk_27 (dk_at dksX1_share_0 1 rfl rfl)
theorem dX1_share_2 : decode cX1_share 2 = .ok (.invokevirtual 63, 3) := dk_182 0 63 (dk_at dksX1_share_0 2 rfl rfl)
theorem dX1_share_5 : decode cX1_share 5 = .ok (.astore_n 3, 1) := dk_78 (dk_at dksX1_share_0 5 rfl rfl)
theorem dX1_share_6 : decode cX1_share 6 = .ok (.iload_n 2, 1) := dk_28 (dk_at dksX1_share_0 6 rfl rfl)
theorem dX1_share_7 : decode cX1_share 7 = .ok (.bipush 64, 2) := dk_16 64 (dk_at dksX1_share_0 7 rfl rfl)
theorem dX1_share_9 : decode cX1_share 9 = .ok (.invokestatic 55, 3) := dk_184 0 55 (dk_at dksX1_share_0 9 rfl rfl)
theorem dX1_share_12 : decode cX1_share 12 = .ok (.aload_n 3, 1) := dk_45 (dk_at dksX1_share_0 12 rfl rfl)
theorem dX1_share_13 : decode cX1_share 13 = .ok (.getfield 67, 3) := dk_180 0 67 (dk_at dksX1_share_0 13 rfl rfl)
theorem dX1_share_16 : decode cX1_share 16 = .ok (.ifCond .ne 7, 3) := dk_154 0 7 (dk_at dksX1_share_0 16 rfl rfl)
theorem dX1_share_19 : decode cX1_share 19 = .ok (.dconst 0, 1) := dk_14 (dk_at dksX1_share_0 19 rfl rfl)
theorem dX1_share_20 : decode cX1_share 20 = .ok (.goto 16, 3) := dk_167 0 16 (dk_at dksX1_share_0 20 rfl rfl)
theorem dX1_share_23 : decode cX1_share 23 = .ok (.aload_n 3, 1) := dk_45 (dk_at dksX1_share_0 23 rfl rfl)
theorem dX1_share_24 : decode cX1_share 24 = .ok (.iconst 0, 1) := dk_3 (dk_at dksX1_share_1 0 rfl rfl)
theorem dX1_share_25 : decode cX1_share 25 = .ok (.iload_n 2, 1) := dk_28 (dk_at dksX1_share_1 1 rfl rfl)
theorem dX1_share_26 : decode cX1_share 26 = .ok (.invokevirtual 93, 3) := dk_182 0 93 (dk_at dksX1_share_1 2 rfl rfl)
theorem dX1_share_29 : decode cX1_share 29 = .ok (.i2d, 1) := dk_135 (dk_at dksX1_share_1 5 rfl rfl)
theorem dX1_share_30 : decode cX1_share 30 = .ok (.aload_n 3, 1) := dk_45 (dk_at dksX1_share_1 6 rfl rfl)
theorem dX1_share_31 : decode cX1_share 31 = .ok (.getfield 67, 3) := dk_180 0 67 (dk_at dksX1_share_1 7 rfl rfl)
theorem dX1_share_34 : decode cX1_share 34 = .ok (.i2d, 1) := dk_135 (dk_at dksX1_share_1 10 rfl rfl)
theorem dX1_share_35 : decode cX1_share 35 = .ok (.ddiv, 1) := dk_111 (dk_at dksX1_share_1 11 rfl rfl)
theorem dX1_share_36 : decode cX1_share 36 = .ok (.dreturn, 1) := dk_175 (dk_at dksX1_share_1 12 rfl rfl)
abbrev cX1_parts : ByteArray := prog_1_method_20_code
def yX1_parts : MethodName := ⟨RX1, "parts", "(II)I"⟩
def dkwX1_parts_2 : List UInt8 := [182, 0, 117, 25, 5, 182, 0, 121, 162, 0, 7, 4, 167, 0, 4, 3, 96, 62, 167, 255, 213, 29, 172]
abbrev dktX1_parts_2 : List UInt8 := dkwX1_parts_2 ++ []
def dkwX1_parts_1 : List UInt8 := [185, 0, 105, 1, 0, 153, 0, 39, 25, 4, 185, 0, 111, 1, 0, 192, 0, 115, 58, 5, 29, 25, 5]
abbrev dktX1_parts_1 : List UInt8 := dkwX1_parts_1 ++ dktX1_parts_2
def dkwX1_parts_0 : List UInt8 := [27, 28, 184, 0, 86, 3, 62, 187, 0, 97, 89, 27, 28, 183, 0, 99, 182, 0, 101, 58, 4, 25, 4]
abbrev dktX1_parts_0 : List UInt8 := dkwX1_parts_0 ++ dktX1_parts_1
theorem dksX1_parts_0 : cX1_parts.data.toList.drop 0 = dktX1_parts_0 := by decide +kernel
theorem dksX1_parts_1 : cX1_parts.data.toList.drop 23 = dktX1_parts_1 := dk_seg dksX1_parts_0 23 rfl rfl
theorem dksX1_parts_2 : cX1_parts.data.toList.drop 46 = dktX1_parts_2 := dk_seg dksX1_parts_1 23 rfl rfl
theorem dX1_parts_0 : decode cX1_parts 0 = .ok (.iload_n 1, 1) := dk_27 (dk_at dksX1_parts_0 0 rfl rfl)
theorem dX1_parts_1 : decode cX1_parts 1 = .ok (.iload_n 2, 1) := dk_28 (dk_at dksX1_parts_0 1 rfl rfl)
theorem dX1_parts_2 : decode cX1_parts 2 = .ok (.invokestatic 86, 3) := dk_184 0 86 (dk_at dksX1_parts_0 2 rfl rfl)
theorem dX1_parts_5 : decode cX1_parts 5 = .ok (.iconst 0, 1) := dk_3 (dk_at dksX1_parts_0 5 rfl rfl)
theorem dX1_parts_6 : decode cX1_parts 6 = .ok (.istore_n 3, 1) := dk_62 (dk_at dksX1_parts_0 6 rfl rfl)
theorem dX1_parts_7 : decode cX1_parts 7 = .ok (.new 97, 3) := dk_187 0 97 (dk_at dksX1_parts_0 7 rfl rfl)
theorem dX1_parts_10 : decode cX1_parts 10 = .ok (.dup, 1) := dk_89 (dk_at dksX1_parts_0 10 rfl rfl)
theorem dX1_parts_11 : decode cX1_parts 11 = .ok (.iload_n 1, 1) := dk_27 (dk_at dksX1_parts_0 11 rfl rfl)
theorem dX1_parts_12 : decode cX1_parts 12 = .ok (.iload_n 2, 1) := dk_28 (dk_at dksX1_parts_0 12 rfl rfl)
theorem dX1_parts_13 : decode cX1_parts 13 = .ok (.invokespecial 99, 3) := dk_183 0 99 (dk_at dksX1_parts_0 13 rfl rfl)
theorem dX1_parts_16 : decode cX1_parts 16 = .ok (.invokevirtual 101, 3) := dk_182 0 101 (dk_at dksX1_parts_0 16 rfl rfl)
theorem dX1_parts_19 : decode cX1_parts 19 = .ok (.astore 4, 2) := dk_58 4 (dk_at dksX1_parts_0 19 rfl rfl)
theorem dX1_parts_21 : decode cX1_parts 21 = .ok (.aload 4, 2) := dk_25 4 (dk_at dksX1_parts_0 21 rfl rfl)
theorem dX1_parts_23 : decode cX1_parts 23 = .ok (.invokeinterface 105 1, 5) := by decide +kernel
theorem dX1_parts_28 : decode cX1_parts 28 = .ok (.ifCond .eq 39, 3) := dk_153 0 39 (dk_at dksX1_parts_1 5 rfl rfl)
theorem dX1_parts_31 : decode cX1_parts 31 = .ok (.aload 4, 2) := dk_25 4 (dk_at dksX1_parts_1 8 rfl rfl)
theorem dX1_parts_33 : decode cX1_parts 33 = .ok (.invokeinterface 111 1, 5) := by decide +kernel
theorem dX1_parts_38 : decode cX1_parts 38 = .ok (.checkcast 115, 3) := dk_192 0 115 (dk_at dksX1_parts_1 15 rfl rfl)
theorem dX1_parts_41 : decode cX1_parts 41 = .ok (.astore 5, 2) := dk_58 5 (dk_at dksX1_parts_1 18 rfl rfl)
theorem dX1_parts_43 : decode cX1_parts 43 = .ok (.iload_n 3, 1) := dk_29 (dk_at dksX1_parts_1 20 rfl rfl)
theorem dX1_parts_44 : decode cX1_parts 44 = .ok (.aload 5, 2) := dk_25 5 (dk_at dksX1_parts_1 21 rfl rfl)
theorem dX1_parts_46 : decode cX1_parts 46 = .ok (.invokevirtual 117, 3) := dk_182 0 117 (dk_at dksX1_parts_2 0 rfl rfl)
theorem dX1_parts_49 : decode cX1_parts 49 = .ok (.aload 5, 2) := dk_25 5 (dk_at dksX1_parts_2 3 rfl rfl)
theorem dX1_parts_51 : decode cX1_parts 51 = .ok (.invokevirtual 121, 3) := dk_182 0 121 (dk_at dksX1_parts_2 5 rfl rfl)
theorem dX1_parts_54 : decode cX1_parts 54 = .ok (.if_icmp .ge 7, 3) := dk_162 0 7 (dk_at dksX1_parts_2 8 rfl rfl)
theorem dX1_parts_57 : decode cX1_parts 57 = .ok (.iconst 1, 1) := dk_4 (dk_at dksX1_parts_2 11 rfl rfl)
theorem dX1_parts_58 : decode cX1_parts 58 = .ok (.goto 4, 3) := dk_167 0 4 (dk_at dksX1_parts_2 12 rfl rfl)
theorem dX1_parts_61 : decode cX1_parts 61 = .ok (.iconst 0, 1) := dk_3 (dk_at dksX1_parts_2 15 rfl rfl)
theorem dX1_parts_62 : decode cX1_parts 62 = .ok (.iadd, 1) := dk_96 (dk_at dksX1_parts_2 16 rfl rfl)
theorem dX1_parts_63 : decode cX1_parts 63 = .ok (.istore_n 3, 1) := dk_62 (dk_at dksX1_parts_2 17 rfl rfl)
theorem dX1_parts_64 : decode cX1_parts 64 = .ok (.goto (-43), 3) := dk_167 255 213 (dk_at dksX1_parts_2 18 rfl rfl)
theorem dX1_parts_67 : decode cX1_parts 67 = .ok (.iload_n 3, 1) := dk_29 (dk_at dksX1_parts_2 21 rfl rfl)
theorem dX1_parts_68 : decode cX1_parts 68 = .ok (.ireturn, 1) := dk_172 (dk_at dksX1_parts_2 22 rfl rfl)
abbrev cX1_estimateOfRange : ByteArray := prog_1_method_21_code
def yX1_estimateOfRange : MethodName := ⟨RX1, "estimateOfRange", "(III)I"⟩
def dkwX1_estimateOfRange_3 : List UInt8 := [54, 5, 167, 255, 214, 21, 5, 172]
abbrev dktX1_estimateOfRange_3 : List UInt8 := dkwX1_estimateOfRange_3 ++ []
def dkwX1_estimateOfRange_2 : List UInt8 := [192, 0, 115, 58, 7, 21, 5, 25, 4, 25, 7, 182, 0, 124, 25, 7, 182, 0, 127, 182, 0, 93, 96]
abbrev dktX1_estimateOfRange_2 : List UInt8 := dkwX1_estimateOfRange_2 ++ dktX1_estimateOfRange_3
def dkwX1_estimateOfRange_1 : List UInt8 := [182, 0, 101, 58, 6, 25, 6, 185, 0, 105, 1, 0, 153, 0, 38, 25, 6, 185, 0, 111, 1, 0]
abbrev dktX1_estimateOfRange_1 : List UInt8 := dkwX1_estimateOfRange_1 ++ dktX1_estimateOfRange_2
def dkwX1_estimateOfRange_0 : List UInt8 := [42, 27, 182, 0, 63, 58, 4, 28, 29, 184, 0, 86, 3, 54, 5, 187, 0, 97, 89, 28, 29, 183, 0, 99]
abbrev dktX1_estimateOfRange_0 : List UInt8 := dkwX1_estimateOfRange_0 ++ dktX1_estimateOfRange_1
theorem dksX1_estimateOfRange_0 : cX1_estimateOfRange.data.toList.drop 0 = dktX1_estimateOfRange_0 := by decide +kernel
theorem dksX1_estimateOfRange_1 : cX1_estimateOfRange.data.toList.drop 24 = dktX1_estimateOfRange_1 := dk_seg dksX1_estimateOfRange_0 24 rfl rfl
theorem dksX1_estimateOfRange_2 : cX1_estimateOfRange.data.toList.drop 46 = dktX1_estimateOfRange_2 := dk_seg dksX1_estimateOfRange_1 22 rfl rfl
theorem dksX1_estimateOfRange_3 : cX1_estimateOfRange.data.toList.drop 69 = dktX1_estimateOfRange_3 := dk_seg dksX1_estimateOfRange_2 23 rfl rfl
theorem dX1_estimateOfRange_0 : decode cX1_estimateOfRange 0 = .ok (.aload_n 0, 1) := dk_42 (dk_at dksX1_estimateOfRange_0 0 rfl rfl)
theorem dX1_estimateOfRange_1 : decode cX1_estimateOfRange 1 = .ok (.iload_n 1, 1) := dk_27 (dk_at dksX1_estimateOfRange_0 1 rfl rfl)
theorem dX1_estimateOfRange_2 : decode cX1_estimateOfRange 2 = .ok (.invokevirtual 63, 3) := dk_182 0 63 (dk_at dksX1_estimateOfRange_0 2 rfl rfl)
theorem dX1_estimateOfRange_5 : decode cX1_estimateOfRange 5 = .ok (.astore 4, 2) := dk_58 4 (dk_at dksX1_estimateOfRange_0 5 rfl rfl)
theorem dX1_estimateOfRange_7 : decode cX1_estimateOfRange 7 = .ok (.iload_n 2, 1) := dk_28 (dk_at dksX1_estimateOfRange_0 7 rfl rfl)
theorem dX1_estimateOfRange_8 : decode cX1_estimateOfRange 8 = .ok (.iload_n 3, 1) := dk_29 (dk_at dksX1_estimateOfRange_0 8 rfl rfl)
theorem dX1_estimateOfRange_9 : decode cX1_estimateOfRange 9 = .ok (.invokestatic 86, 3) := dk_184 0 86 (dk_at dksX1_estimateOfRange_0 9 rfl rfl)
theorem dX1_estimateOfRange_12 : decode cX1_estimateOfRange 12 = .ok (.iconst 0, 1) := dk_3 (dk_at dksX1_estimateOfRange_0 12 rfl rfl)
theorem dX1_estimateOfRange_13 : decode cX1_estimateOfRange 13 = .ok (.istore 5, 2) := dk_54 5 (dk_at dksX1_estimateOfRange_0 13 rfl rfl)
theorem dX1_estimateOfRange_15 : decode cX1_estimateOfRange 15 = .ok (.new 97, 3) := dk_187 0 97 (dk_at dksX1_estimateOfRange_0 15 rfl rfl)
theorem dX1_estimateOfRange_18 : decode cX1_estimateOfRange 18 = .ok (.dup, 1) := dk_89 (dk_at dksX1_estimateOfRange_0 18 rfl rfl)
theorem dX1_estimateOfRange_19 : decode cX1_estimateOfRange 19 = .ok (.iload_n 2, 1) := dk_28 (dk_at dksX1_estimateOfRange_0 19 rfl rfl)
theorem dX1_estimateOfRange_20 : decode cX1_estimateOfRange 20 = .ok (.iload_n 3, 1) := dk_29 (dk_at dksX1_estimateOfRange_0 20 rfl rfl)
theorem dX1_estimateOfRange_21 : decode cX1_estimateOfRange 21 = .ok (.invokespecial 99, 3) := dk_183 0 99 (dk_at dksX1_estimateOfRange_0 21 rfl rfl)
theorem dX1_estimateOfRange_24 : decode cX1_estimateOfRange 24 = .ok (.invokevirtual 101, 3) := dk_182 0 101 (dk_at dksX1_estimateOfRange_1 0 rfl rfl)
theorem dX1_estimateOfRange_27 : decode cX1_estimateOfRange 27 = .ok (.astore 6, 2) := dk_58 6 (dk_at dksX1_estimateOfRange_1 3 rfl rfl)
theorem dX1_estimateOfRange_29 : decode cX1_estimateOfRange 29 = .ok (.aload 6, 2) := dk_25 6 (dk_at dksX1_estimateOfRange_1 5 rfl rfl)
theorem dX1_estimateOfRange_31 : decode cX1_estimateOfRange 31 = .ok (.invokeinterface 105 1, 5) := by decide +kernel
theorem dX1_estimateOfRange_36 : decode cX1_estimateOfRange 36 = .ok (.ifCond .eq 38, 3) := dk_153 0 38 (dk_at dksX1_estimateOfRange_1 12 rfl rfl)
theorem dX1_estimateOfRange_39 : decode cX1_estimateOfRange 39 = .ok (.aload 6, 2) := dk_25 6 (dk_at dksX1_estimateOfRange_1 15 rfl rfl)
theorem dX1_estimateOfRange_41 : decode cX1_estimateOfRange 41 = .ok (.invokeinterface 111 1, 5) := by decide +kernel
theorem dX1_estimateOfRange_46 : decode cX1_estimateOfRange 46 = .ok (.checkcast 115, 3) := dk_192 0 115 (dk_at dksX1_estimateOfRange_2 0 rfl rfl)
theorem dX1_estimateOfRange_49 : decode cX1_estimateOfRange 49 = .ok (.astore 7, 2) := dk_58 7 (dk_at dksX1_estimateOfRange_2 3 rfl rfl)
theorem dX1_estimateOfRange_51 : decode cX1_estimateOfRange 51 = .ok (.iload 5, 2) := dk_21 5 (dk_at dksX1_estimateOfRange_2 5 rfl rfl)
theorem dX1_estimateOfRange_53 : decode cX1_estimateOfRange 53 = .ok (.aload 4, 2) := dk_25 4 (dk_at dksX1_estimateOfRange_2 7 rfl rfl)
theorem dX1_estimateOfRange_55 : decode cX1_estimateOfRange 55 = .ok (.aload 7, 2) := dk_25 7 (dk_at dksX1_estimateOfRange_2 9 rfl rfl)
theorem dX1_estimateOfRange_57 : decode cX1_estimateOfRange 57 = .ok (.invokevirtual 124, 3) := dk_182 0 124 (dk_at dksX1_estimateOfRange_2 11 rfl rfl)
theorem dX1_estimateOfRange_60 : decode cX1_estimateOfRange 60 = .ok (.aload 7, 2) := dk_25 7 (dk_at dksX1_estimateOfRange_2 14 rfl rfl)
theorem dX1_estimateOfRange_62 : decode cX1_estimateOfRange 62 = .ok (.invokevirtual 127, 3) := dk_182 0 127 (dk_at dksX1_estimateOfRange_2 16 rfl rfl)
theorem dX1_estimateOfRange_65 : decode cX1_estimateOfRange 65 = .ok (.invokevirtual 93, 3) := dk_182 0 93 (dk_at dksX1_estimateOfRange_2 19 rfl rfl)
theorem dX1_estimateOfRange_68 : decode cX1_estimateOfRange 68 = .ok (.iadd, 1) := dk_96 (dk_at dksX1_estimateOfRange_2 22 rfl rfl)
theorem dX1_estimateOfRange_69 : decode cX1_estimateOfRange 69 = .ok (.istore 5, 2) := dk_54 5 (dk_at dksX1_estimateOfRange_3 0 rfl rfl)
theorem dX1_estimateOfRange_71 : decode cX1_estimateOfRange 71 = .ok (.goto (-42), 3) := dk_167 255 214 (dk_at dksX1_estimateOfRange_3 2 rfl rfl)
theorem dX1_estimateOfRange_74 : decode cX1_estimateOfRange 74 = .ok (.iload 5, 2) := dk_21 5 (dk_at dksX1_estimateOfRange_3 5 rfl rfl)
theorem dX1_estimateOfRange_76 : decode cX1_estimateOfRange 76 = .ok (.ireturn, 1) := dk_172 (dk_at dksX1_estimateOfRange_3 7 rfl rfl)
abbrev cX1_frequent : ByteArray := prog_1_method_24_code
def yX1_frequent : MethodName := ⟨RX1, "frequent", "(II)I"⟩
def dkwX1_frequent_1 : List UInt8 := [10, 101, 127, 55, 4, 167, 255, 237, 29, 172]
abbrev dktX1_frequent_1 : List UInt8 := dkwX1_frequent_1 ++ []
def dkwX1_frequent_0 : List UInt8 := [3, 62, 42, 27, 28, 182, 0, 134, 55, 4, 22, 4, 9, 148, 153, 0, 18, 132, 3, 1, 22, 4, 22, 4]
abbrev dktX1_frequent_0 : List UInt8 := dkwX1_frequent_0 ++ dktX1_frequent_1
theorem dksX1_frequent_0 : cX1_frequent.data.toList.drop 0 = dktX1_frequent_0 := by decide +kernel
theorem dksX1_frequent_1 : cX1_frequent.data.toList.drop 24 = dktX1_frequent_1 := dk_seg dksX1_frequent_0 24 rfl rfl
theorem dX1_frequent_0 : decode cX1_frequent 0 = .ok (.iconst 0, 1) := dk_3 (dk_at dksX1_frequent_0 0 rfl rfl)
theorem dX1_frequent_1 : decode cX1_frequent 1 = .ok (.istore_n 3, 1) := dk_62 (dk_at dksX1_frequent_0 1 rfl rfl)
theorem dX1_frequent_2 : decode cX1_frequent 2 = .ok (.aload_n 0, 1) := dk_42 (dk_at dksX1_frequent_0 2 rfl rfl)
theorem dX1_frequent_3 : decode cX1_frequent 3 = .ok (.iload_n 1, 1) := dk_27 (dk_at dksX1_frequent_0 3 rfl rfl)
theorem dX1_frequent_4 : decode cX1_frequent 4 = .ok (.iload_n 2, 1) := dk_28 (dk_at dksX1_frequent_0 4 rfl rfl)
theorem dX1_frequent_5 : decode cX1_frequent 5 = .ok (.invokevirtual 134, 3) := dk_182 0 134 (dk_at dksX1_frequent_0 5 rfl rfl)
theorem dX1_frequent_8 : decode cX1_frequent 8 = .ok (.lstore 4, 2) := dk_55 4 (dk_at dksX1_frequent_0 8 rfl rfl)
theorem dX1_frequent_10 : decode cX1_frequent 10 = .ok (.lload 4, 2) := dk_22 4 (dk_at dksX1_frequent_0 10 rfl rfl)
theorem dX1_frequent_12 : decode cX1_frequent 12 = .ok (.lconst 0, 1) := dk_9 (dk_at dksX1_frequent_0 12 rfl rfl)
theorem dX1_frequent_13 : decode cX1_frequent 13 = .ok (.lcmp, 1) := dk_148 (dk_at dksX1_frequent_0 13 rfl rfl)
theorem dX1_frequent_14 : decode cX1_frequent 14 = .ok (.ifCond .eq 18, 3) := dk_153 0 18 (dk_at dksX1_frequent_0 14 rfl rfl)
theorem dX1_frequent_17 : decode cX1_frequent 17 = .ok (.iinc 3 1, 3) := dk_132 3 1 (dk_at dksX1_frequent_0 17 rfl rfl)
theorem dX1_frequent_20 : decode cX1_frequent 20 = .ok (.lload 4, 2) := dk_22 4 (dk_at dksX1_frequent_0 20 rfl rfl)
theorem dX1_frequent_22 : decode cX1_frequent 22 = .ok (.lload 4, 2) := dk_22 4 (dk_at dksX1_frequent_0 22 rfl rfl)
theorem dX1_frequent_24 : decode cX1_frequent 24 = .ok (.lconst 1, 1) := dk_10 (dk_at dksX1_frequent_1 0 rfl rfl)
theorem dX1_frequent_25 : decode cX1_frequent 25 = .ok (.lsub, 1) := dk_101 (dk_at dksX1_frequent_1 1 rfl rfl)
theorem dX1_frequent_26 : decode cX1_frequent 26 = .ok (.land, 1) := dk_127 (dk_at dksX1_frequent_1 2 rfl rfl)
theorem dX1_frequent_27 : decode cX1_frequent 27 = .ok (.lstore 4, 2) := dk_55 4 (dk_at dksX1_frequent_1 3 rfl rfl)
theorem dX1_frequent_29 : decode cX1_frequent 29 = .ok (.goto (-19), 3) := dk_167 255 237 (dk_at dksX1_frequent_1 5 rfl rfl)
theorem dX1_frequent_32 : decode cX1_frequent 32 = .ok (.iload_n 3, 1) := dk_29 (dk_at dksX1_frequent_1 8 rfl rfl)
theorem dX1_frequent_33 : decode cX1_frequent 33 = .ok (.ireturn, 1) := dk_172 (dk_at dksX1_frequent_1 9 rfl rfl)
abbrev cX1_frequentItems : ByteArray := prog_1_method_23_code
def yX1_frequentItems : MethodName := ⟨RX1, "frequentItems", "(II)J"⟩
def dkwX1_frequentItems_0 : List UInt8 := [42, 27, 182, 0, 63, 78, 28, 4, 18, 71, 184, 0, 59, 42, 45, 16, 6, 3, 28, 182, 0, 130, 173]
abbrev dktX1_frequentItems_0 : List UInt8 := dkwX1_frequentItems_0 ++ []
theorem dksX1_frequentItems_0 : cX1_frequentItems.data.toList.drop 0 = dktX1_frequentItems_0 := by decide +kernel
theorem dX1_frequentItems_0 : decode cX1_frequentItems 0 = .ok (.aload_n 0, 1) := dk_42 (dk_at dksX1_frequentItems_0 0 rfl rfl)
theorem dX1_frequentItems_1 : decode cX1_frequentItems 1 = .ok (.iload_n 1, 1) := dk_27 (dk_at dksX1_frequentItems_0 1 rfl rfl)
theorem dX1_frequentItems_2 : decode cX1_frequentItems 2 = .ok (.invokevirtual 63, 3) := dk_182 0 63 (dk_at dksX1_frequentItems_0 2 rfl rfl)
theorem dX1_frequentItems_5 : decode cX1_frequentItems 5 = .ok (.astore_n 3, 1) := dk_78 (dk_at dksX1_frequentItems_0 5 rfl rfl)
theorem dX1_frequentItems_6 : decode cX1_frequentItems 6 = .ok (.iload_n 2, 1) := dk_28 (dk_at dksX1_frequentItems_0 6 rfl rfl)
theorem dX1_frequentItems_7 : decode cX1_frequentItems 7 = .ok (.iconst 1, 1) := dk_4 (dk_at dksX1_frequentItems_0 7 rfl rfl)
theorem dX1_frequentItems_8 : decode cX1_frequentItems 8 = .ok (.ldc 71, 2) := dk_18 71 (dk_at dksX1_frequentItems_0 8 rfl rfl)
theorem dX1_frequentItems_10 : decode cX1_frequentItems 10 = .ok (.invokestatic 59, 3) := dk_184 0 59 (dk_at dksX1_frequentItems_0 10 rfl rfl)
theorem dX1_frequentItems_13 : decode cX1_frequentItems 13 = .ok (.aload_n 0, 1) := dk_42 (dk_at dksX1_frequentItems_0 13 rfl rfl)
theorem dX1_frequentItems_14 : decode cX1_frequentItems 14 = .ok (.aload_n 3, 1) := dk_45 (dk_at dksX1_frequentItems_0 14 rfl rfl)
theorem dX1_frequentItems_15 : decode cX1_frequentItems 15 = .ok (.bipush 6, 2) := dk_16 6 (dk_at dksX1_frequentItems_0 15 rfl rfl)
theorem dX1_frequentItems_17 : decode cX1_frequentItems 17 = .ok (.iconst 0, 1) := dk_3 (dk_at dksX1_frequentItems_0 17 rfl rfl)
theorem dX1_frequentItems_18 : decode cX1_frequentItems 18 = .ok (.iload_n 2, 1) := dk_28 (dk_at dksX1_frequentItems_0 18 rfl rfl)
theorem dX1_frequentItems_19 : decode cX1_frequentItems 19 = .ok (.invokevirtual 130, 3) := dk_182 0 130 (dk_at dksX1_frequentItems_0 19 rfl rfl)
theorem dX1_frequentItems_22 : decode cX1_frequentItems 22 = .ok (.lreturn, 1) := dk_173 (dk_at dksX1_frequentItems_0 22 rfl rfl)
abbrev cX1_gather : ByteArray := prog_1_method_22_code
def yX1_gather : MethodName := ⟨RX1, "gather", "(LCountcote$Stream;III)J"⟩
def dkwX1_gather_2 : List UInt8 := [182, 0, 130, 129, 173]
abbrev dktX1_gather_2 : List UInt8 := dkwX1_gather_2 ++ []
def dkwX1_gather_1 : List UInt8 := [4, 100, 5, 29, 104, 21, 4, 182, 0, 130, 42, 43, 28, 4, 100, 5, 29, 104, 4, 96, 21, 4]
abbrev dktX1_gather_1 : List UInt8 := dkwX1_gather_1 ++ dktX1_gather_2
def dkwX1_gather_0 : List UInt8 := [43, 28, 29, 182, 0, 93, 21, 4, 162, 0, 5, 9, 173, 28, 154, 0, 7, 10, 29, 121, 173, 42, 43, 28]
abbrev dktX1_gather_0 : List UInt8 := dkwX1_gather_0 ++ dktX1_gather_1
theorem dksX1_gather_0 : cX1_gather.data.toList.drop 0 = dktX1_gather_0 := by decide +kernel
theorem dksX1_gather_1 : cX1_gather.data.toList.drop 24 = dktX1_gather_1 := dk_seg dksX1_gather_0 24 rfl rfl
theorem dksX1_gather_2 : cX1_gather.data.toList.drop 46 = dktX1_gather_2 := dk_seg dksX1_gather_1 22 rfl rfl
theorem dX1_gather_0 : decode cX1_gather 0 = .ok (.aload_n 1, 1) := dk_43 (dk_at dksX1_gather_0 0 rfl rfl)
theorem dX1_gather_1 : decode cX1_gather 1 = .ok (.iload_n 2, 1) := dk_28 (dk_at dksX1_gather_0 1 rfl rfl)
theorem dX1_gather_2 : decode cX1_gather 2 = .ok (.iload_n 3, 1) := dk_29 (dk_at dksX1_gather_0 2 rfl rfl)
theorem dX1_gather_3 : decode cX1_gather 3 = .ok (.invokevirtual 93, 3) := dk_182 0 93 (dk_at dksX1_gather_0 3 rfl rfl)
theorem dX1_gather_6 : decode cX1_gather 6 = .ok (.iload 4, 2) := dk_21 4 (dk_at dksX1_gather_0 6 rfl rfl)
theorem dX1_gather_8 : decode cX1_gather 8 = .ok (.if_icmp .ge 5, 3) := dk_162 0 5 (dk_at dksX1_gather_0 8 rfl rfl)
theorem dX1_gather_11 : decode cX1_gather 11 = .ok (.lconst 0, 1) := dk_9 (dk_at dksX1_gather_0 11 rfl rfl)
theorem dX1_gather_12 : decode cX1_gather 12 = .ok (.lreturn, 1) := dk_173 (dk_at dksX1_gather_0 12 rfl rfl)
theorem dX1_gather_13 : decode cX1_gather 13 = .ok (.iload_n 2, 1) := dk_28 (dk_at dksX1_gather_0 13 rfl rfl)
theorem dX1_gather_14 : decode cX1_gather 14 = .ok (.ifCond .ne 7, 3) := dk_154 0 7 (dk_at dksX1_gather_0 14 rfl rfl)
theorem dX1_gather_17 : decode cX1_gather 17 = .ok (.lconst 1, 1) := dk_10 (dk_at dksX1_gather_0 17 rfl rfl)
theorem dX1_gather_18 : decode cX1_gather 18 = .ok (.iload_n 3, 1) := dk_29 (dk_at dksX1_gather_0 18 rfl rfl)
theorem dX1_gather_19 : decode cX1_gather 19 = .ok (.lshl, 1) := dk_121 (dk_at dksX1_gather_0 19 rfl rfl)
theorem dX1_gather_20 : decode cX1_gather 20 = .ok (.lreturn, 1) := dk_173 (dk_at dksX1_gather_0 20 rfl rfl)
theorem dX1_gather_21 : decode cX1_gather 21 = .ok (.aload_n 0, 1) := dk_42 (dk_at dksX1_gather_0 21 rfl rfl)
theorem dX1_gather_22 : decode cX1_gather 22 = .ok (.aload_n 1, 1) := dk_43 (dk_at dksX1_gather_0 22 rfl rfl)
theorem dX1_gather_23 : decode cX1_gather 23 = .ok (.iload_n 2, 1) := dk_28 (dk_at dksX1_gather_0 23 rfl rfl)
theorem dX1_gather_24 : decode cX1_gather 24 = .ok (.iconst 1, 1) := dk_4 (dk_at dksX1_gather_1 0 rfl rfl)
theorem dX1_gather_25 : decode cX1_gather 25 = .ok (.isub, 1) := dk_100 (dk_at dksX1_gather_1 1 rfl rfl)
theorem dX1_gather_26 : decode cX1_gather 26 = .ok (.iconst 2, 1) := dk_5 (dk_at dksX1_gather_1 2 rfl rfl)
theorem dX1_gather_27 : decode cX1_gather 27 = .ok (.iload_n 3, 1) := dk_29 (dk_at dksX1_gather_1 3 rfl rfl)
theorem dX1_gather_28 : decode cX1_gather 28 = .ok (.imul, 1) := dk_104 (dk_at dksX1_gather_1 4 rfl rfl)
theorem dX1_gather_29 : decode cX1_gather 29 = .ok (.iload 4, 2) := dk_21 4 (dk_at dksX1_gather_1 5 rfl rfl)
theorem dX1_gather_31 : decode cX1_gather 31 = .ok (.invokevirtual 130, 3) := dk_182 0 130 (dk_at dksX1_gather_1 7 rfl rfl)
theorem dX1_gather_34 : decode cX1_gather 34 = .ok (.aload_n 0, 1) := dk_42 (dk_at dksX1_gather_1 10 rfl rfl)
theorem dX1_gather_35 : decode cX1_gather 35 = .ok (.aload_n 1, 1) := dk_43 (dk_at dksX1_gather_1 11 rfl rfl)
theorem dX1_gather_36 : decode cX1_gather 36 = .ok (.iload_n 2, 1) := dk_28 (dk_at dksX1_gather_1 12 rfl rfl)
theorem dX1_gather_37 : decode cX1_gather 37 = .ok (.iconst 1, 1) := dk_4 (dk_at dksX1_gather_1 13 rfl rfl)
theorem dX1_gather_38 : decode cX1_gather 38 = .ok (.isub, 1) := dk_100 (dk_at dksX1_gather_1 14 rfl rfl)
theorem dX1_gather_39 : decode cX1_gather 39 = .ok (.iconst 2, 1) := dk_5 (dk_at dksX1_gather_1 15 rfl rfl)
theorem dX1_gather_40 : decode cX1_gather 40 = .ok (.iload_n 3, 1) := dk_29 (dk_at dksX1_gather_1 16 rfl rfl)
theorem dX1_gather_41 : decode cX1_gather 41 = .ok (.imul, 1) := dk_104 (dk_at dksX1_gather_1 17 rfl rfl)
theorem dX1_gather_42 : decode cX1_gather 42 = .ok (.iconst 1, 1) := dk_4 (dk_at dksX1_gather_1 18 rfl rfl)
theorem dX1_gather_43 : decode cX1_gather 43 = .ok (.iadd, 1) := dk_96 (dk_at dksX1_gather_1 19 rfl rfl)
theorem dX1_gather_44 : decode cX1_gather 44 = .ok (.iload 4, 2) := dk_21 4 (dk_at dksX1_gather_1 20 rfl rfl)
theorem dX1_gather_46 : decode cX1_gather 46 = .ok (.invokevirtual 130, 3) := dk_182 0 130 (dk_at dksX1_gather_2 0 rfl rfl)
theorem dX1_gather_49 : decode cX1_gather 49 = .ok (.lor, 1) := dk_129 (dk_at dksX1_gather_2 3 rfl rfl)
theorem dX1_gather_50 : decode cX1_gather 50 = .ok (.lreturn, 1) := dk_173 (dk_at dksX1_gather_2 4 rfl rfl)
abbrev cX1_frequentAt : ByteArray := prog_1_method_25_code
def yX1_frequentAt : MethodName := ⟨RX1, "frequentAt", "(III)I"⟩
def dkwX1_frequentAt_2 : List UInt8 := [167, 255, 223, 187, 0, 138, 89, 183, 0, 140, 191]
abbrev dktX1_frequentAt_2 : List UInt8 := dkwX1_frequentAt_2 ++ []
def dkwX1_frequentAt_1 : List UInt8 := [21, 7, 125, 10, 127, 10, 148, 154, 0, 14, 21, 6, 154, 0, 6, 21, 7, 172, 132, 6, 255, 132, 7, 1]
abbrev dktX1_frequentAt_1 : List UInt8 := dkwX1_frequentAt_1 ++ dktX1_frequentAt_2
def dkwX1_frequentAt_0 : List UInt8 := [42, 27, 28, 182, 0, 134, 55, 4, 29, 54, 6, 3, 54, 7, 21, 7, 16, 64, 162, 0, 32, 22, 4]
abbrev dktX1_frequentAt_0 : List UInt8 := dkwX1_frequentAt_0 ++ dktX1_frequentAt_1
theorem dksX1_frequentAt_0 : cX1_frequentAt.data.toList.drop 0 = dktX1_frequentAt_0 := by decide +kernel
theorem dksX1_frequentAt_1 : cX1_frequentAt.data.toList.drop 23 = dktX1_frequentAt_1 := dk_seg dksX1_frequentAt_0 23 rfl rfl
theorem dksX1_frequentAt_2 : cX1_frequentAt.data.toList.drop 47 = dktX1_frequentAt_2 := dk_seg dksX1_frequentAt_1 24 rfl rfl
theorem dX1_frequentAt_0 : decode cX1_frequentAt 0 = .ok (.aload_n 0, 1) := dk_42 (dk_at dksX1_frequentAt_0 0 rfl rfl)
theorem dX1_frequentAt_1 : decode cX1_frequentAt 1 = .ok (.iload_n 1, 1) := dk_27 (dk_at dksX1_frequentAt_0 1 rfl rfl)
theorem dX1_frequentAt_2 : decode cX1_frequentAt 2 = .ok (.iload_n 2, 1) := dk_28 (dk_at dksX1_frequentAt_0 2 rfl rfl)
theorem dX1_frequentAt_3 : decode cX1_frequentAt 3 = .ok (.invokevirtual 134, 3) := dk_182 0 134 (dk_at dksX1_frequentAt_0 3 rfl rfl)
theorem dX1_frequentAt_6 : decode cX1_frequentAt 6 = .ok (.lstore 4, 2) := dk_55 4 (dk_at dksX1_frequentAt_0 6 rfl rfl)
theorem dX1_frequentAt_8 : decode cX1_frequentAt 8 = .ok (.iload_n 3, 1) := dk_29 (dk_at dksX1_frequentAt_0 8 rfl rfl)
theorem dX1_frequentAt_9 : decode cX1_frequentAt 9 = .ok (.istore 6, 2) := dk_54 6 (dk_at dksX1_frequentAt_0 9 rfl rfl)
theorem dX1_frequentAt_11 : decode cX1_frequentAt 11 = .ok (.iconst 0, 1) := dk_3 (dk_at dksX1_frequentAt_0 11 rfl rfl)
theorem dX1_frequentAt_12 : decode cX1_frequentAt 12 = .ok (.istore 7, 2) := dk_54 7 (dk_at dksX1_frequentAt_0 12 rfl rfl)
theorem dX1_frequentAt_14 : decode cX1_frequentAt 14 = .ok (.iload 7, 2) := dk_21 7 (dk_at dksX1_frequentAt_0 14 rfl rfl)
theorem dX1_frequentAt_16 : decode cX1_frequentAt 16 = .ok (.bipush 64, 2) := dk_16 64 (dk_at dksX1_frequentAt_0 16 rfl rfl)
theorem dX1_frequentAt_18 : decode cX1_frequentAt 18 = .ok (.if_icmp .ge 32, 3) := dk_162 0 32 (dk_at dksX1_frequentAt_0 18 rfl rfl)
theorem dX1_frequentAt_21 : decode cX1_frequentAt 21 = .ok (.lload 4, 2) := dk_22 4 (dk_at dksX1_frequentAt_0 21 rfl rfl)
theorem dX1_frequentAt_23 : decode cX1_frequentAt 23 = .ok (.iload 7, 2) := dk_21 7 (dk_at dksX1_frequentAt_1 0 rfl rfl)
theorem dX1_frequentAt_25 : decode cX1_frequentAt 25 = .ok (.lushr, 1) := dk_125 (dk_at dksX1_frequentAt_1 2 rfl rfl)
theorem dX1_frequentAt_26 : decode cX1_frequentAt 26 = .ok (.lconst 1, 1) := dk_10 (dk_at dksX1_frequentAt_1 3 rfl rfl)
theorem dX1_frequentAt_27 : decode cX1_frequentAt 27 = .ok (.land, 1) := dk_127 (dk_at dksX1_frequentAt_1 4 rfl rfl)
theorem dX1_frequentAt_28 : decode cX1_frequentAt 28 = .ok (.lconst 1, 1) := dk_10 (dk_at dksX1_frequentAt_1 5 rfl rfl)
theorem dX1_frequentAt_29 : decode cX1_frequentAt 29 = .ok (.lcmp, 1) := dk_148 (dk_at dksX1_frequentAt_1 6 rfl rfl)
theorem dX1_frequentAt_30 : decode cX1_frequentAt 30 = .ok (.ifCond .ne 14, 3) := dk_154 0 14 (dk_at dksX1_frequentAt_1 7 rfl rfl)
theorem dX1_frequentAt_33 : decode cX1_frequentAt 33 = .ok (.iload 6, 2) := dk_21 6 (dk_at dksX1_frequentAt_1 10 rfl rfl)
theorem dX1_frequentAt_35 : decode cX1_frequentAt 35 = .ok (.ifCond .ne 6, 3) := dk_154 0 6 (dk_at dksX1_frequentAt_1 12 rfl rfl)
theorem dX1_frequentAt_38 : decode cX1_frequentAt 38 = .ok (.iload 7, 2) := dk_21 7 (dk_at dksX1_frequentAt_1 15 rfl rfl)
theorem dX1_frequentAt_40 : decode cX1_frequentAt 40 = .ok (.ireturn, 1) := dk_172 (dk_at dksX1_frequentAt_1 17 rfl rfl)
theorem dX1_frequentAt_41 : decode cX1_frequentAt 41 = .ok (.iinc 6 (-1), 3) := dk_132 6 255 (dk_at dksX1_frequentAt_1 18 rfl rfl)
theorem dX1_frequentAt_44 : decode cX1_frequentAt 44 = .ok (.iinc 7 1, 3) := dk_132 7 1 (dk_at dksX1_frequentAt_1 21 rfl rfl)
theorem dX1_frequentAt_47 : decode cX1_frequentAt 47 = .ok (.goto (-33), 3) := dk_167 255 223 (dk_at dksX1_frequentAt_2 0 rfl rfl)
theorem dX1_frequentAt_50 : decode cX1_frequentAt 50 = .ok (.new 138, 3) := dk_187 0 138 (dk_at dksX1_frequentAt_2 3 rfl rfl)
theorem dX1_frequentAt_53 : decode cX1_frequentAt 53 = .ok (.dup, 1) := dk_89 (dk_at dksX1_frequentAt_2 6 rfl rfl)
theorem dX1_frequentAt_54 : decode cX1_frequentAt 54 = .ok (.invokespecial 140, 3) := dk_183 0 140 (dk_at dksX1_frequentAt_2 7 rfl rfl)
theorem dX1_frequentAt_57 : decode cX1_frequentAt 57 = .ok (.athrow, 1) := dk_191 (dk_at dksX1_frequentAt_2 10 rfl rfl)
abbrev cX1_itemOfRank : ByteArray := prog_1_method_26_code
def yX1_itemOfRank : MethodName := ⟨RX1, "itemOfRank", "(II)I"⟩
def dkwX1_itemOfRank_3 : List UInt8 := [3, 167, 0, 5, 21, 7, 100, 54, 5, 132, 6, 255, 167, 255, 196, 21, 4, 172]
abbrev dktX1_itemOfRank_3 : List UInt8 := dkwX1_itemOfRank_3 ++ []
def dkwX1_itemOfRank_2 : List UInt8 := [5, 21, 4, 104, 167, 0, 9, 5, 21, 4, 104, 4, 96, 54, 4, 21, 5, 21, 5, 21, 7, 163, 0, 7]
abbrev dktX1_itemOfRank_2 : List UInt8 := dkwX1_itemOfRank_2 ++ dktX1_itemOfRank_3
def dkwX1_itemOfRank_1 : List UInt8 := [21, 6, 155, 0, 61, 45, 21, 6, 5, 21, 4, 104, 182, 0, 93, 54, 7, 21, 5, 21, 7, 163, 0, 10]
abbrev dktX1_itemOfRank_1 : List UInt8 := dkwX1_itemOfRank_1 ++ dktX1_itemOfRank_2
def dkwX1_itemOfRank_0 : List UInt8 := [42, 27, 182, 0, 63, 78, 28, 4, 45, 180, 0, 67, 184, 0, 59, 3, 54, 4, 28, 54, 5, 8, 54, 6]
abbrev dktX1_itemOfRank_0 : List UInt8 := dkwX1_itemOfRank_0 ++ dktX1_itemOfRank_1
theorem dksX1_itemOfRank_0 : cX1_itemOfRank.data.toList.drop 0 = dktX1_itemOfRank_0 := by decide +kernel
theorem dksX1_itemOfRank_1 : cX1_itemOfRank.data.toList.drop 24 = dktX1_itemOfRank_1 := dk_seg dksX1_itemOfRank_0 24 rfl rfl
theorem dksX1_itemOfRank_2 : cX1_itemOfRank.data.toList.drop 48 = dktX1_itemOfRank_2 := dk_seg dksX1_itemOfRank_1 24 rfl rfl
theorem dksX1_itemOfRank_3 : cX1_itemOfRank.data.toList.drop 72 = dktX1_itemOfRank_3 := dk_seg dksX1_itemOfRank_2 24 rfl rfl
theorem dX1_itemOfRank_0 : decode cX1_itemOfRank 0 = .ok (.aload_n 0, 1) := dk_42 (dk_at dksX1_itemOfRank_0 0 rfl rfl)
theorem dX1_itemOfRank_1 : decode cX1_itemOfRank 1 = .ok (.iload_n 1, 1) := dk_27 (dk_at dksX1_itemOfRank_0 1 rfl rfl)
theorem dX1_itemOfRank_2 : decode cX1_itemOfRank 2 = .ok (.invokevirtual 63, 3) := dk_182 0 63 (dk_at dksX1_itemOfRank_0 2 rfl rfl)
theorem dX1_itemOfRank_5 : decode cX1_itemOfRank 5 = .ok (.astore_n 3, 1) := dk_78 (dk_at dksX1_itemOfRank_0 5 rfl rfl)
theorem dX1_itemOfRank_6 : decode cX1_itemOfRank 6 = .ok (.iload_n 2, 1) := dk_28 (dk_at dksX1_itemOfRank_0 6 rfl rfl)
theorem dX1_itemOfRank_7 : decode cX1_itemOfRank 7 = .ok (.iconst 1, 1) := dk_4 (dk_at dksX1_itemOfRank_0 7 rfl rfl)
theorem dX1_itemOfRank_8 : decode cX1_itemOfRank 8 = .ok (.aload_n 3, 1) := dk_45 (dk_at dksX1_itemOfRank_0 8 rfl rfl)
theorem dX1_itemOfRank_9 : decode cX1_itemOfRank 9 = .ok (.getfield 67, 3) := dk_180 0 67 (dk_at dksX1_itemOfRank_0 9 rfl rfl)
theorem dX1_itemOfRank_12 : decode cX1_itemOfRank 12 = .ok (.invokestatic 59, 3) := dk_184 0 59 (dk_at dksX1_itemOfRank_0 12 rfl rfl)
theorem dX1_itemOfRank_15 : decode cX1_itemOfRank 15 = .ok (.iconst 0, 1) := dk_3 (dk_at dksX1_itemOfRank_0 15 rfl rfl)
theorem dX1_itemOfRank_16 : decode cX1_itemOfRank 16 = .ok (.istore 4, 2) := dk_54 4 (dk_at dksX1_itemOfRank_0 16 rfl rfl)
theorem dX1_itemOfRank_18 : decode cX1_itemOfRank 18 = .ok (.iload_n 2, 1) := dk_28 (dk_at dksX1_itemOfRank_0 18 rfl rfl)
theorem dX1_itemOfRank_19 : decode cX1_itemOfRank 19 = .ok (.istore 5, 2) := dk_54 5 (dk_at dksX1_itemOfRank_0 19 rfl rfl)
theorem dX1_itemOfRank_21 : decode cX1_itemOfRank 21 = .ok (.iconst 5, 1) := dk_8 (dk_at dksX1_itemOfRank_0 21 rfl rfl)
theorem dX1_itemOfRank_22 : decode cX1_itemOfRank 22 = .ok (.istore 6, 2) := dk_54 6 (dk_at dksX1_itemOfRank_0 22 rfl rfl)
theorem dX1_itemOfRank_24 : decode cX1_itemOfRank 24 = .ok (.iload 6, 2) := dk_21 6 (dk_at dksX1_itemOfRank_1 0 rfl rfl)
theorem dX1_itemOfRank_26 : decode cX1_itemOfRank 26 = .ok (.ifCond .lt 61, 3) := dk_155 0 61 (dk_at dksX1_itemOfRank_1 2 rfl rfl)
theorem dX1_itemOfRank_29 : decode cX1_itemOfRank 29 = .ok (.aload_n 3, 1) := dk_45 (dk_at dksX1_itemOfRank_1 5 rfl rfl)
theorem dX1_itemOfRank_30 : decode cX1_itemOfRank 30 = .ok (.iload 6, 2) := dk_21 6 (dk_at dksX1_itemOfRank_1 6 rfl rfl)
theorem dX1_itemOfRank_32 : decode cX1_itemOfRank 32 = .ok (.iconst 2, 1) := dk_5 (dk_at dksX1_itemOfRank_1 8 rfl rfl)
theorem dX1_itemOfRank_33 : decode cX1_itemOfRank 33 = .ok (.iload 4, 2) := dk_21 4 (dk_at dksX1_itemOfRank_1 9 rfl rfl)
theorem dX1_itemOfRank_35 : decode cX1_itemOfRank 35 = .ok (.imul, 1) := dk_104 (dk_at dksX1_itemOfRank_1 11 rfl rfl)
theorem dX1_itemOfRank_36 : decode cX1_itemOfRank 36 = .ok (.invokevirtual 93, 3) := dk_182 0 93 (dk_at dksX1_itemOfRank_1 12 rfl rfl)
theorem dX1_itemOfRank_39 : decode cX1_itemOfRank 39 = .ok (.istore 7, 2) := dk_54 7 (dk_at dksX1_itemOfRank_1 15 rfl rfl)
theorem dX1_itemOfRank_41 : decode cX1_itemOfRank 41 = .ok (.iload 5, 2) := dk_21 5 (dk_at dksX1_itemOfRank_1 17 rfl rfl)
theorem dX1_itemOfRank_43 : decode cX1_itemOfRank 43 = .ok (.iload 7, 2) := dk_21 7 (dk_at dksX1_itemOfRank_1 19 rfl rfl)
theorem dX1_itemOfRank_45 : decode cX1_itemOfRank 45 = .ok (.if_icmp .gt 10, 3) := dk_163 0 10 (dk_at dksX1_itemOfRank_1 21 rfl rfl)
theorem dX1_itemOfRank_48 : decode cX1_itemOfRank 48 = .ok (.iconst 2, 1) := dk_5 (dk_at dksX1_itemOfRank_2 0 rfl rfl)
theorem dX1_itemOfRank_49 : decode cX1_itemOfRank 49 = .ok (.iload 4, 2) := dk_21 4 (dk_at dksX1_itemOfRank_2 1 rfl rfl)
theorem dX1_itemOfRank_51 : decode cX1_itemOfRank 51 = .ok (.imul, 1) := dk_104 (dk_at dksX1_itemOfRank_2 3 rfl rfl)
theorem dX1_itemOfRank_52 : decode cX1_itemOfRank 52 = .ok (.goto 9, 3) := dk_167 0 9 (dk_at dksX1_itemOfRank_2 4 rfl rfl)
theorem dX1_itemOfRank_55 : decode cX1_itemOfRank 55 = .ok (.iconst 2, 1) := dk_5 (dk_at dksX1_itemOfRank_2 7 rfl rfl)
theorem dX1_itemOfRank_56 : decode cX1_itemOfRank 56 = .ok (.iload 4, 2) := dk_21 4 (dk_at dksX1_itemOfRank_2 8 rfl rfl)
theorem dX1_itemOfRank_58 : decode cX1_itemOfRank 58 = .ok (.imul, 1) := dk_104 (dk_at dksX1_itemOfRank_2 10 rfl rfl)
theorem dX1_itemOfRank_59 : decode cX1_itemOfRank 59 = .ok (.iconst 1, 1) := dk_4 (dk_at dksX1_itemOfRank_2 11 rfl rfl)
theorem dX1_itemOfRank_60 : decode cX1_itemOfRank 60 = .ok (.iadd, 1) := dk_96 (dk_at dksX1_itemOfRank_2 12 rfl rfl)
theorem dX1_itemOfRank_61 : decode cX1_itemOfRank 61 = .ok (.istore 4, 2) := dk_54 4 (dk_at dksX1_itemOfRank_2 13 rfl rfl)
theorem dX1_itemOfRank_63 : decode cX1_itemOfRank 63 = .ok (.iload 5, 2) := dk_21 5 (dk_at dksX1_itemOfRank_2 15 rfl rfl)
theorem dX1_itemOfRank_65 : decode cX1_itemOfRank 65 = .ok (.iload 5, 2) := dk_21 5 (dk_at dksX1_itemOfRank_2 17 rfl rfl)
theorem dX1_itemOfRank_67 : decode cX1_itemOfRank 67 = .ok (.iload 7, 2) := dk_21 7 (dk_at dksX1_itemOfRank_2 19 rfl rfl)
theorem dX1_itemOfRank_69 : decode cX1_itemOfRank 69 = .ok (.if_icmp .gt 7, 3) := dk_163 0 7 (dk_at dksX1_itemOfRank_2 21 rfl rfl)
theorem dX1_itemOfRank_72 : decode cX1_itemOfRank 72 = .ok (.iconst 0, 1) := dk_3 (dk_at dksX1_itemOfRank_3 0 rfl rfl)
theorem dX1_itemOfRank_73 : decode cX1_itemOfRank 73 = .ok (.goto 5, 3) := dk_167 0 5 (dk_at dksX1_itemOfRank_3 1 rfl rfl)
theorem dX1_itemOfRank_76 : decode cX1_itemOfRank 76 = .ok (.iload 7, 2) := dk_21 7 (dk_at dksX1_itemOfRank_3 4 rfl rfl)
theorem dX1_itemOfRank_78 : decode cX1_itemOfRank 78 = .ok (.isub, 1) := dk_100 (dk_at dksX1_itemOfRank_3 6 rfl rfl)
theorem dX1_itemOfRank_79 : decode cX1_itemOfRank 79 = .ok (.istore 5, 2) := dk_54 5 (dk_at dksX1_itemOfRank_3 7 rfl rfl)
theorem dX1_itemOfRank_81 : decode cX1_itemOfRank 81 = .ok (.iinc 6 (-1), 3) := dk_132 6 255 (dk_at dksX1_itemOfRank_3 9 rfl rfl)
theorem dX1_itemOfRank_84 : decode cX1_itemOfRank 84 = .ok (.goto (-60), 3) := dk_167 255 196 (dk_at dksX1_itemOfRank_3 12 rfl rfl)
theorem dX1_itemOfRank_87 : decode cX1_itemOfRank 87 = .ok (.iload 4, 2) := dk_21 4 (dk_at dksX1_itemOfRank_3 15 rfl rfl)
theorem dX1_itemOfRank_89 : decode cX1_itemOfRank 89 = .ok (.ireturn, 1) := dk_172 (dk_at dksX1_itemOfRank_3 17 rfl rfl)
abbrev cX1_signedColumn : ByteArray := prog_1_method_27_code
def yX1_signedColumn : MethodName := ⟨RX1, "signedColumn", "(II)I"⟩
def dkwX1_signedColumn_0 : List UInt8 := [27, 8, 184, 0, 55, 28, 16, 64, 184, 0, 55, 42, 180, 0, 32, 27, 50, 28, 185, 0, 7, 2, 0, 172]
abbrev dktX1_signedColumn_0 : List UInt8 := dkwX1_signedColumn_0 ++ []
theorem dksX1_signedColumn_0 : cX1_signedColumn.data.toList.drop 0 = dktX1_signedColumn_0 := by decide +kernel
theorem dX1_signedColumn_0 : decode cX1_signedColumn 0 = .ok (.iload_n 1, 1) := dk_27 (dk_at dksX1_signedColumn_0 0 rfl rfl)
theorem dX1_signedColumn_1 : decode cX1_signedColumn 1 = .ok (.iconst 5, 1) := dk_8 (dk_at dksX1_signedColumn_0 1 rfl rfl)
theorem dX1_signedColumn_2 : decode cX1_signedColumn 2 = .ok (.invokestatic 55, 3) := dk_184 0 55 (dk_at dksX1_signedColumn_0 2 rfl rfl)
theorem dX1_signedColumn_5 : decode cX1_signedColumn 5 = .ok (.iload_n 2, 1) := dk_28 (dk_at dksX1_signedColumn_0 5 rfl rfl)
theorem dX1_signedColumn_6 : decode cX1_signedColumn 6 = .ok (.bipush 64, 2) := dk_16 64 (dk_at dksX1_signedColumn_0 6 rfl rfl)
theorem dX1_signedColumn_8 : decode cX1_signedColumn 8 = .ok (.invokestatic 55, 3) := dk_184 0 55 (dk_at dksX1_signedColumn_0 8 rfl rfl)
theorem dX1_signedColumn_11 : decode cX1_signedColumn 11 = .ok (.aload_n 0, 1) := dk_42 (dk_at dksX1_signedColumn_0 11 rfl rfl)
theorem dX1_signedColumn_12 : decode cX1_signedColumn 12 = .ok (.getfield 32, 3) := dk_180 0 32 (dk_at dksX1_signedColumn_0 12 rfl rfl)
theorem dX1_signedColumn_15 : decode cX1_signedColumn 15 = .ok (.iload_n 1, 1) := dk_27 (dk_at dksX1_signedColumn_0 15 rfl rfl)
theorem dX1_signedColumn_16 : decode cX1_signedColumn 16 = .ok (.aaload, 1) := dk_50 (dk_at dksX1_signedColumn_0 16 rfl rfl)
theorem dX1_signedColumn_17 : decode cX1_signedColumn 17 = .ok (.iload_n 2, 1) := dk_28 (dk_at dksX1_signedColumn_0 17 rfl rfl)
theorem dX1_signedColumn_18 : decode cX1_signedColumn 18 = .ok (.invokeinterface 7 2, 5) := by decide +kernel
theorem dX1_signedColumn_23 : decode cX1_signedColumn 23 = .ok (.ireturn, 1) := dk_172 (dk_at dksX1_signedColumn_0 23 rfl rfl)
abbrev cX1_sign : ByteArray := prog_1_method_28_code
def yX1_sign : MethodName := ⟨RX1, "sign", "(II)I"⟩
def dkwX1_sign_0 : List UInt8 := [27, 8, 184, 0, 55, 28, 16, 64, 184, 0, 55, 42, 27, 28, 182, 0, 141, 172]
abbrev dktX1_sign_0 : List UInt8 := dkwX1_sign_0 ++ []
theorem dksX1_sign_0 : cX1_sign.data.toList.drop 0 = dktX1_sign_0 := by decide +kernel
theorem dX1_sign_0 : decode cX1_sign 0 = .ok (.iload_n 1, 1) := dk_27 (dk_at dksX1_sign_0 0 rfl rfl)
theorem dX1_sign_1 : decode cX1_sign 1 = .ok (.iconst 5, 1) := dk_8 (dk_at dksX1_sign_0 1 rfl rfl)
theorem dX1_sign_2 : decode cX1_sign 2 = .ok (.invokestatic 55, 3) := dk_184 0 55 (dk_at dksX1_sign_0 2 rfl rfl)
theorem dX1_sign_5 : decode cX1_sign 5 = .ok (.iload_n 2, 1) := dk_28 (dk_at dksX1_sign_0 5 rfl rfl)
theorem dX1_sign_6 : decode cX1_sign 6 = .ok (.bipush 64, 2) := dk_16 64 (dk_at dksX1_sign_0 6 rfl rfl)
theorem dX1_sign_8 : decode cX1_sign 8 = .ok (.invokestatic 55, 3) := dk_184 0 55 (dk_at dksX1_sign_0 8 rfl rfl)
theorem dX1_sign_11 : decode cX1_sign 11 = .ok (.aload_n 0, 1) := dk_42 (dk_at dksX1_sign_0 11 rfl rfl)
theorem dX1_sign_12 : decode cX1_sign 12 = .ok (.iload_n 1, 1) := dk_27 (dk_at dksX1_sign_0 12 rfl rfl)
theorem dX1_sign_13 : decode cX1_sign 13 = .ok (.iload_n 2, 1) := dk_28 (dk_at dksX1_sign_0 13 rfl rfl)
theorem dX1_sign_14 : decode cX1_sign 14 = .ok (.invokevirtual 141, 3) := dk_182 0 141 (dk_at dksX1_sign_0 14 rfl rfl)
theorem dX1_sign_17 : decode cX1_sign 17 = .ok (.ireturn, 1) := dk_172 (dk_at dksX1_sign_0 17 rfl rfl)
abbrev cX1_signedCell : ByteArray := prog_1_method_29_code
def yX1_signedCell : MethodName := ⟨RX1, "signedCell", "(III)I"⟩
def dkwX1_signedCell_1 : List UInt8 := [50, 29, 46, 172]
abbrev dktX1_signedCell_1 : List UInt8 := dkwX1_signedCell_1 ++ []
def dkwX1_signedCell_0 : List UInt8 := [42, 27, 182, 0, 63, 58, 4, 28, 8, 184, 0, 55, 29, 16, 8, 184, 0, 55, 25, 4, 180, 0, 144, 28]
abbrev dktX1_signedCell_0 : List UInt8 := dkwX1_signedCell_0 ++ dktX1_signedCell_1
theorem dksX1_signedCell_0 : cX1_signedCell.data.toList.drop 0 = dktX1_signedCell_0 := by decide +kernel
theorem dksX1_signedCell_1 : cX1_signedCell.data.toList.drop 24 = dktX1_signedCell_1 := dk_seg dksX1_signedCell_0 24 rfl rfl
theorem dX1_signedCell_0 : decode cX1_signedCell 0 = .ok (.aload_n 0, 1) := dk_42 (dk_at dksX1_signedCell_0 0 rfl rfl)
theorem dX1_signedCell_1 : decode cX1_signedCell 1 = .ok (.iload_n 1, 1) := dk_27 (dk_at dksX1_signedCell_0 1 rfl rfl)
theorem dX1_signedCell_2 : decode cX1_signedCell 2 = .ok (.invokevirtual 63, 3) := dk_182 0 63 (dk_at dksX1_signedCell_0 2 rfl rfl)
theorem dX1_signedCell_5 : decode cX1_signedCell 5 = .ok (.astore 4, 2) := dk_58 4 (dk_at dksX1_signedCell_0 5 rfl rfl)
theorem dX1_signedCell_7 : decode cX1_signedCell 7 = .ok (.iload_n 2, 1) := dk_28 (dk_at dksX1_signedCell_0 7 rfl rfl)
theorem dX1_signedCell_8 : decode cX1_signedCell 8 = .ok (.iconst 5, 1) := dk_8 (dk_at dksX1_signedCell_0 8 rfl rfl)
theorem dX1_signedCell_9 : decode cX1_signedCell 9 = .ok (.invokestatic 55, 3) := dk_184 0 55 (dk_at dksX1_signedCell_0 9 rfl rfl)
theorem dX1_signedCell_12 : decode cX1_signedCell 12 = .ok (.iload_n 3, 1) := dk_29 (dk_at dksX1_signedCell_0 12 rfl rfl)
theorem dX1_signedCell_13 : decode cX1_signedCell 13 = .ok (.bipush 8, 2) := dk_16 8 (dk_at dksX1_signedCell_0 13 rfl rfl)
theorem dX1_signedCell_15 : decode cX1_signedCell 15 = .ok (.invokestatic 55, 3) := dk_184 0 55 (dk_at dksX1_signedCell_0 15 rfl rfl)
theorem dX1_signedCell_18 : decode cX1_signedCell 18 = .ok (.aload 4, 2) := dk_25 4 (dk_at dksX1_signedCell_0 18 rfl rfl)
theorem dX1_signedCell_20 : decode cX1_signedCell 20 = .ok (.getfield 144, 3) := dk_180 0 144 (dk_at dksX1_signedCell_0 20 rfl rfl)
theorem dX1_signedCell_23 : decode cX1_signedCell 23 = .ok (.iload_n 2, 1) := dk_28 (dk_at dksX1_signedCell_0 23 rfl rfl)
theorem dX1_signedCell_24 : decode cX1_signedCell 24 = .ok (.aaload, 1) := dk_50 (dk_at dksX1_signedCell_1 0 rfl rfl)
theorem dX1_signedCell_25 : decode cX1_signedCell 25 = .ok (.iload_n 3, 1) := dk_29 (dk_at dksX1_signedCell_1 1 rfl rfl)
theorem dX1_signedCell_26 : decode cX1_signedCell 26 = .ok (.iaload, 1) := dk_46 (dk_at dksX1_signedCell_1 2 rfl rfl)
theorem dX1_signedCell_27 : decode cX1_signedCell 27 = .ok (.ireturn, 1) := dk_172 (dk_at dksX1_signedCell_1 3 rfl rfl)
abbrev cX1_signedEstimate : ByteArray := prog_1_method_30_code
def yX1_signedEstimate : MethodName := ⟨RX1, "signedEstimate", "(II)I"⟩
def dkwX1_signedEstimate_3 : List UInt8 := [184, 0, 148, 5, 46, 172]
abbrev dktX1_signedEstimate_3 : List UInt8 := dkwX1_signedEstimate_3 ++ []
def dkwX1_signedEstimate_2 : List UInt8 := [180, 0, 32, 21, 5, 50, 28, 185, 0, 7, 2, 0, 46, 104, 79, 132, 5, 1, 167, 255, 213, 25, 4]
abbrev dktX1_signedEstimate_2 : List UInt8 := dkwX1_signedEstimate_2 ++ dktX1_signedEstimate_3
def dkwX1_signedEstimate_1 : List UInt8 := [162, 0, 43, 25, 4, 21, 5, 42, 21, 5, 28, 182, 0, 141, 45, 180, 0, 144, 21, 5, 50, 42]
abbrev dktX1_signedEstimate_1 : List UInt8 := dkwX1_signedEstimate_1 ++ dktX1_signedEstimate_2
def dkwX1_signedEstimate_0 : List UInt8 := [42, 27, 182, 0, 63, 78, 28, 16, 64, 184, 0, 55, 8, 188, 10, 58, 4, 3, 54, 5, 21, 5, 8]
abbrev dktX1_signedEstimate_0 : List UInt8 := dkwX1_signedEstimate_0 ++ dktX1_signedEstimate_1
theorem dksX1_signedEstimate_0 : cX1_signedEstimate.data.toList.drop 0 = dktX1_signedEstimate_0 := by decide +kernel
theorem dksX1_signedEstimate_1 : cX1_signedEstimate.data.toList.drop 23 = dktX1_signedEstimate_1 := dk_seg dksX1_signedEstimate_0 23 rfl rfl
theorem dksX1_signedEstimate_2 : cX1_signedEstimate.data.toList.drop 45 = dktX1_signedEstimate_2 := dk_seg dksX1_signedEstimate_1 22 rfl rfl
theorem dksX1_signedEstimate_3 : cX1_signedEstimate.data.toList.drop 68 = dktX1_signedEstimate_3 := dk_seg dksX1_signedEstimate_2 23 rfl rfl
theorem dX1_signedEstimate_0 : decode cX1_signedEstimate 0 = .ok (.aload_n 0, 1) := dk_42 (dk_at dksX1_signedEstimate_0 0 rfl rfl)
theorem dX1_signedEstimate_1 : decode cX1_signedEstimate 1 = .ok (.iload_n 1, 1) := dk_27 (dk_at dksX1_signedEstimate_0 1 rfl rfl)
theorem dX1_signedEstimate_2 : decode cX1_signedEstimate 2 = .ok (.invokevirtual 63, 3) := dk_182 0 63 (dk_at dksX1_signedEstimate_0 2 rfl rfl)
theorem dX1_signedEstimate_5 : decode cX1_signedEstimate 5 = .ok (.astore_n 3, 1) := dk_78 (dk_at dksX1_signedEstimate_0 5 rfl rfl)
theorem dX1_signedEstimate_6 : decode cX1_signedEstimate 6 = .ok (.iload_n 2, 1) := dk_28 (dk_at dksX1_signedEstimate_0 6 rfl rfl)
theorem dX1_signedEstimate_7 : decode cX1_signedEstimate 7 = .ok (.bipush 64, 2) := dk_16 64 (dk_at dksX1_signedEstimate_0 7 rfl rfl)
theorem dX1_signedEstimate_9 : decode cX1_signedEstimate 9 = .ok (.invokestatic 55, 3) := dk_184 0 55 (dk_at dksX1_signedEstimate_0 9 rfl rfl)
theorem dX1_signedEstimate_12 : decode cX1_signedEstimate 12 = .ok (.iconst 5, 1) := dk_8 (dk_at dksX1_signedEstimate_0 12 rfl rfl)
theorem dX1_signedEstimate_13 : decode cX1_signedEstimate 13 = .ok (.newarray .int, 2) := dk_188_10 (dk_at dksX1_signedEstimate_0 13 rfl rfl)
theorem dX1_signedEstimate_15 : decode cX1_signedEstimate 15 = .ok (.astore 4, 2) := dk_58 4 (dk_at dksX1_signedEstimate_0 15 rfl rfl)
theorem dX1_signedEstimate_17 : decode cX1_signedEstimate 17 = .ok (.iconst 0, 1) := dk_3 (dk_at dksX1_signedEstimate_0 17 rfl rfl)
theorem dX1_signedEstimate_18 : decode cX1_signedEstimate 18 = .ok (.istore 5, 2) := dk_54 5 (dk_at dksX1_signedEstimate_0 18 rfl rfl)
theorem dX1_signedEstimate_20 : decode cX1_signedEstimate 20 = .ok (.iload 5, 2) := dk_21 5 (dk_at dksX1_signedEstimate_0 20 rfl rfl)
theorem dX1_signedEstimate_22 : decode cX1_signedEstimate 22 = .ok (.iconst 5, 1) := dk_8 (dk_at dksX1_signedEstimate_0 22 rfl rfl)
theorem dX1_signedEstimate_23 : decode cX1_signedEstimate 23 = .ok (.if_icmp .ge 43, 3) := dk_162 0 43 (dk_at dksX1_signedEstimate_1 0 rfl rfl)
theorem dX1_signedEstimate_26 : decode cX1_signedEstimate 26 = .ok (.aload 4, 2) := dk_25 4 (dk_at dksX1_signedEstimate_1 3 rfl rfl)
theorem dX1_signedEstimate_28 : decode cX1_signedEstimate 28 = .ok (.iload 5, 2) := dk_21 5 (dk_at dksX1_signedEstimate_1 5 rfl rfl)
theorem dX1_signedEstimate_30 : decode cX1_signedEstimate 30 = .ok (.aload_n 0, 1) := dk_42 (dk_at dksX1_signedEstimate_1 7 rfl rfl)
theorem dX1_signedEstimate_31 : decode cX1_signedEstimate 31 = .ok (.iload 5, 2) := dk_21 5 (dk_at dksX1_signedEstimate_1 8 rfl rfl)
theorem dX1_signedEstimate_33 : decode cX1_signedEstimate 33 = .ok (.iload_n 2, 1) := dk_28 (dk_at dksX1_signedEstimate_1 10 rfl rfl)
theorem dX1_signedEstimate_34 : decode cX1_signedEstimate 34 = .ok (.invokevirtual 141, 3) := dk_182 0 141 (dk_at dksX1_signedEstimate_1 11 rfl rfl)
theorem dX1_signedEstimate_37 : decode cX1_signedEstimate 37 = .ok (.aload_n 3, 1) := dk_45 (dk_at dksX1_signedEstimate_1 14 rfl rfl)
theorem dX1_signedEstimate_38 : decode cX1_signedEstimate 38 = .ok (.getfield 144, 3) := dk_180 0 144 (dk_at dksX1_signedEstimate_1 15 rfl rfl)
theorem dX1_signedEstimate_41 : decode cX1_signedEstimate 41 = .ok (.iload 5, 2) := dk_21 5 (dk_at dksX1_signedEstimate_1 18 rfl rfl)
theorem dX1_signedEstimate_43 : decode cX1_signedEstimate 43 = .ok (.aaload, 1) := dk_50 (dk_at dksX1_signedEstimate_1 20 rfl rfl)
theorem dX1_signedEstimate_44 : decode cX1_signedEstimate 44 = .ok (.aload_n 0, 1) := dk_42 (dk_at dksX1_signedEstimate_1 21 rfl rfl)
theorem dX1_signedEstimate_45 : decode cX1_signedEstimate 45 = .ok (.getfield 32, 3) := dk_180 0 32 (dk_at dksX1_signedEstimate_2 0 rfl rfl)
theorem dX1_signedEstimate_48 : decode cX1_signedEstimate 48 = .ok (.iload 5, 2) := dk_21 5 (dk_at dksX1_signedEstimate_2 3 rfl rfl)
theorem dX1_signedEstimate_50 : decode cX1_signedEstimate 50 = .ok (.aaload, 1) := dk_50 (dk_at dksX1_signedEstimate_2 5 rfl rfl)
theorem dX1_signedEstimate_51 : decode cX1_signedEstimate 51 = .ok (.iload_n 2, 1) := dk_28 (dk_at dksX1_signedEstimate_2 6 rfl rfl)
theorem dX1_signedEstimate_52 : decode cX1_signedEstimate 52 = .ok (.invokeinterface 7 2, 5) := by decide +kernel
theorem dX1_signedEstimate_57 : decode cX1_signedEstimate 57 = .ok (.iaload, 1) := dk_46 (dk_at dksX1_signedEstimate_2 12 rfl rfl)
theorem dX1_signedEstimate_58 : decode cX1_signedEstimate 58 = .ok (.imul, 1) := dk_104 (dk_at dksX1_signedEstimate_2 13 rfl rfl)
theorem dX1_signedEstimate_59 : decode cX1_signedEstimate 59 = .ok (.iastore, 1) := dk_79 (dk_at dksX1_signedEstimate_2 14 rfl rfl)
theorem dX1_signedEstimate_60 : decode cX1_signedEstimate 60 = .ok (.iinc 5 1, 3) := dk_132 5 1 (dk_at dksX1_signedEstimate_2 15 rfl rfl)
theorem dX1_signedEstimate_63 : decode cX1_signedEstimate 63 = .ok (.goto (-43), 3) := dk_167 255 213 (dk_at dksX1_signedEstimate_2 18 rfl rfl)
theorem dX1_signedEstimate_66 : decode cX1_signedEstimate 66 = .ok (.aload 4, 2) := dk_25 4 (dk_at dksX1_signedEstimate_2 21 rfl rfl)
theorem dX1_signedEstimate_68 : decode cX1_signedEstimate 68 = .ok (.invokestatic 148, 3) := dk_184 0 148 (dk_at dksX1_signedEstimate_3 0 rfl rfl)
theorem dX1_signedEstimate_71 : decode cX1_signedEstimate 71 = .ok (.iconst 2, 1) := dk_5 (dk_at dksX1_signedEstimate_3 3 rfl rfl)
theorem dX1_signedEstimate_72 : decode cX1_signedEstimate 72 = .ok (.iaload, 1) := dk_46 (dk_at dksX1_signedEstimate_3 4 rfl rfl)
theorem dX1_signedEstimate_73 : decode cX1_signedEstimate 73 = .ok (.ireturn, 1) := dk_172 (dk_at dksX1_signedEstimate_3 5 rfl rfl)
abbrev cX1_signedProduct : ByteArray := prog_1_method_31_code
def yX1_signedProduct : MethodName := ⟨RX1, "signedProduct", "(II)J"⟩
def dkwX1_signedProduct_9 : List UInt8 := [167, 255, 141, 22, 6, 173]
abbrev dktX1_signedProduct_9 : List UInt8 := dkwX1_signedProduct_9 ++ []
def dkwX1_signedProduct_8 : List UInt8 := [163, 0, 17, 5, 21, 13, 21, 14, 96, 162, 0, 8, 22, 11, 167, 0, 5, 22, 6, 55, 6, 132, 10, 1]
abbrev dktX1_signedProduct_8 : List UInt8 := dkwX1_signedProduct_8 ++ dktX1_signedProduct_9
def dkwX1_signedProduct_7 : List UInt8 := [22, 11, 148, 154, 0, 7, 4, 167, 0, 4, 3, 96, 54, 14, 132, 17, 1, 167, 255, 203, 21, 13, 5]
abbrev dktX1_signedProduct_7 : List UInt8 := dkwX1_signedProduct_7 ++ dktX1_signedProduct_8
def dkwX1_signedProduct_6 : List UInt8 := [55, 18, 21, 13, 22, 18, 22, 11, 148, 156, 0, 7, 4, 167, 0, 4, 3, 96, 54, 13, 21, 14, 22, 18]
abbrev dktX1_signedProduct_6 : List UInt8 := dkwX1_signedProduct_6 ++ dktX1_signedProduct_7
def dkwX1_signedProduct_5 : List UInt8 := [25, 5, 58, 15, 25, 15, 190, 54, 16, 3, 54, 17, 21, 17, 21, 16, 162, 0, 52, 25, 15, 21, 17, 47]
abbrev dktX1_signedProduct_5 : List UInt8 := dkwX1_signedProduct_5 ++ dktX1_signedProduct_6
def dkwX1_signedProduct_4 : List UInt8 := [3, 54, 10, 21, 10, 21, 9, 162, 0, 114, 25, 8, 21, 10, 47, 55, 11, 3, 54, 13, 3, 54, 14]
abbrev dktX1_signedProduct_4 : List UInt8 := dkwX1_signedProduct_4 ++ dktX1_signedProduct_5
def dkwX1_signedProduct_3 : List UInt8 := [132, 7, 1, 167, 255, 214, 132, 6, 1, 167, 255, 199, 9, 55, 6, 25, 5, 58, 8, 25, 8, 190, 54, 9]
abbrev dktX1_signedProduct_3 : List UInt8 := dkwX1_signedProduct_3 ++ dktX1_signedProduct_4
def dkwX1_signedProduct_2 : List UInt8 := [21, 6, 50, 21, 7, 46, 133, 25, 4, 180, 0, 144, 21, 6, 50, 21, 7, 46, 133, 105, 97, 80]
abbrev dktX1_signedProduct_2 : List UInt8 := dkwX1_signedProduct_2 ++ dktX1_signedProduct_3
def dkwX1_signedProduct_1 : List UInt8 := [162, 0, 57, 3, 54, 7, 21, 7, 16, 8, 162, 0, 41, 25, 5, 21, 6, 92, 47, 45, 180, 0, 144]
abbrev dktX1_signedProduct_1 : List UInt8 := dkwX1_signedProduct_1 ++ dktX1_signedProduct_2
def dkwX1_signedProduct_0 : List UInt8 := [42, 27, 182, 0, 63, 78, 42, 28, 182, 0, 63, 58, 4, 8, 188, 11, 58, 5, 3, 54, 6, 21, 6, 8]
abbrev dktX1_signedProduct_0 : List UInt8 := dkwX1_signedProduct_0 ++ dktX1_signedProduct_1
theorem dksX1_signedProduct_0 : cX1_signedProduct.data.toList.drop 0 = dktX1_signedProduct_0 := by decide +kernel
theorem dksX1_signedProduct_1 : cX1_signedProduct.data.toList.drop 24 = dktX1_signedProduct_1 := dk_seg dksX1_signedProduct_0 24 rfl rfl
theorem dksX1_signedProduct_2 : cX1_signedProduct.data.toList.drop 47 = dktX1_signedProduct_2 := dk_seg dksX1_signedProduct_1 23 rfl rfl
theorem dksX1_signedProduct_3 : cX1_signedProduct.data.toList.drop 69 = dktX1_signedProduct_3 := dk_seg dksX1_signedProduct_2 22 rfl rfl
theorem dksX1_signedProduct_4 : cX1_signedProduct.data.toList.drop 93 = dktX1_signedProduct_4 := dk_seg dksX1_signedProduct_3 24 rfl rfl
theorem dksX1_signedProduct_5 : cX1_signedProduct.data.toList.drop 116 = dktX1_signedProduct_5 := dk_seg dksX1_signedProduct_4 23 rfl rfl
theorem dksX1_signedProduct_6 : cX1_signedProduct.data.toList.drop 140 = dktX1_signedProduct_6 := dk_seg dksX1_signedProduct_5 24 rfl rfl
theorem dksX1_signedProduct_7 : cX1_signedProduct.data.toList.drop 164 = dktX1_signedProduct_7 := dk_seg dksX1_signedProduct_6 24 rfl rfl
theorem dksX1_signedProduct_8 : cX1_signedProduct.data.toList.drop 187 = dktX1_signedProduct_8 := dk_seg dksX1_signedProduct_7 23 rfl rfl
theorem dksX1_signedProduct_9 : cX1_signedProduct.data.toList.drop 211 = dktX1_signedProduct_9 := dk_seg dksX1_signedProduct_8 24 rfl rfl
theorem dX1_signedProduct_0 : decode cX1_signedProduct 0 = .ok (.aload_n 0, 1) := dk_42 (dk_at dksX1_signedProduct_0 0 rfl rfl)
theorem dX1_signedProduct_1 : decode cX1_signedProduct 1 = .ok (.iload_n 1, 1) := dk_27 (dk_at dksX1_signedProduct_0 1 rfl rfl)
theorem dX1_signedProduct_2 : decode cX1_signedProduct 2 = .ok (.invokevirtual 63, 3) := dk_182 0 63 (dk_at dksX1_signedProduct_0 2 rfl rfl)
theorem dX1_signedProduct_5 : decode cX1_signedProduct 5 = .ok (.astore_n 3, 1) := dk_78 (dk_at dksX1_signedProduct_0 5 rfl rfl)
theorem dX1_signedProduct_6 : decode cX1_signedProduct 6 = .ok (.aload_n 0, 1) := dk_42 (dk_at dksX1_signedProduct_0 6 rfl rfl)
theorem dX1_signedProduct_7 : decode cX1_signedProduct 7 = .ok (.iload_n 2, 1) := dk_28 (dk_at dksX1_signedProduct_0 7 rfl rfl)
theorem dX1_signedProduct_8 : decode cX1_signedProduct 8 = .ok (.invokevirtual 63, 3) := dk_182 0 63 (dk_at dksX1_signedProduct_0 8 rfl rfl)
theorem dX1_signedProduct_11 : decode cX1_signedProduct 11 = .ok (.astore 4, 2) := dk_58 4 (dk_at dksX1_signedProduct_0 11 rfl rfl)
theorem dX1_signedProduct_13 : decode cX1_signedProduct 13 = .ok (.iconst 5, 1) := dk_8 (dk_at dksX1_signedProduct_0 13 rfl rfl)
theorem dX1_signedProduct_14 : decode cX1_signedProduct 14 = .ok (.newarray .long, 2) := dk_188_11 (dk_at dksX1_signedProduct_0 14 rfl rfl)
theorem dX1_signedProduct_16 : decode cX1_signedProduct 16 = .ok (.astore 5, 2) := dk_58 5 (dk_at dksX1_signedProduct_0 16 rfl rfl)
theorem dX1_signedProduct_18 : decode cX1_signedProduct 18 = .ok (.iconst 0, 1) := dk_3 (dk_at dksX1_signedProduct_0 18 rfl rfl)
theorem dX1_signedProduct_19 : decode cX1_signedProduct 19 = .ok (.istore 6, 2) := dk_54 6 (dk_at dksX1_signedProduct_0 19 rfl rfl)
theorem dX1_signedProduct_21 : decode cX1_signedProduct 21 = .ok (.iload 6, 2) := dk_21 6 (dk_at dksX1_signedProduct_0 21 rfl rfl)
theorem dX1_signedProduct_23 : decode cX1_signedProduct 23 = .ok (.iconst 5, 1) := dk_8 (dk_at dksX1_signedProduct_0 23 rfl rfl)
theorem dX1_signedProduct_24 : decode cX1_signedProduct 24 = .ok (.if_icmp .ge 57, 3) := dk_162 0 57 (dk_at dksX1_signedProduct_1 0 rfl rfl)
theorem dX1_signedProduct_27 : decode cX1_signedProduct 27 = .ok (.iconst 0, 1) := dk_3 (dk_at dksX1_signedProduct_1 3 rfl rfl)
theorem dX1_signedProduct_28 : decode cX1_signedProduct 28 = .ok (.istore 7, 2) := dk_54 7 (dk_at dksX1_signedProduct_1 4 rfl rfl)
theorem dX1_signedProduct_30 : decode cX1_signedProduct 30 = .ok (.iload 7, 2) := dk_21 7 (dk_at dksX1_signedProduct_1 6 rfl rfl)
theorem dX1_signedProduct_32 : decode cX1_signedProduct 32 = .ok (.bipush 8, 2) := dk_16 8 (dk_at dksX1_signedProduct_1 8 rfl rfl)
theorem dX1_signedProduct_34 : decode cX1_signedProduct 34 = .ok (.if_icmp .ge 41, 3) := dk_162 0 41 (dk_at dksX1_signedProduct_1 10 rfl rfl)
theorem dX1_signedProduct_37 : decode cX1_signedProduct 37 = .ok (.aload 5, 2) := dk_25 5 (dk_at dksX1_signedProduct_1 13 rfl rfl)
theorem dX1_signedProduct_39 : decode cX1_signedProduct 39 = .ok (.iload 6, 2) := dk_21 6 (dk_at dksX1_signedProduct_1 15 rfl rfl)
theorem dX1_signedProduct_41 : decode cX1_signedProduct 41 = .ok (.dup2, 1) := dk_92 (dk_at dksX1_signedProduct_1 17 rfl rfl)
theorem dX1_signedProduct_42 : decode cX1_signedProduct 42 = .ok (.laload, 1) := dk_47 (dk_at dksX1_signedProduct_1 18 rfl rfl)
theorem dX1_signedProduct_43 : decode cX1_signedProduct 43 = .ok (.aload_n 3, 1) := dk_45 (dk_at dksX1_signedProduct_1 19 rfl rfl)
theorem dX1_signedProduct_44 : decode cX1_signedProduct 44 = .ok (.getfield 144, 3) := dk_180 0 144 (dk_at dksX1_signedProduct_1 20 rfl rfl)
theorem dX1_signedProduct_47 : decode cX1_signedProduct 47 = .ok (.iload 6, 2) := dk_21 6 (dk_at dksX1_signedProduct_2 0 rfl rfl)
theorem dX1_signedProduct_49 : decode cX1_signedProduct 49 = .ok (.aaload, 1) := dk_50 (dk_at dksX1_signedProduct_2 2 rfl rfl)
theorem dX1_signedProduct_50 : decode cX1_signedProduct 50 = .ok (.iload 7, 2) := dk_21 7 (dk_at dksX1_signedProduct_2 3 rfl rfl)
theorem dX1_signedProduct_52 : decode cX1_signedProduct 52 = .ok (.iaload, 1) := dk_46 (dk_at dksX1_signedProduct_2 5 rfl rfl)
theorem dX1_signedProduct_53 : decode cX1_signedProduct 53 = .ok (.i2l, 1) := dk_133 (dk_at dksX1_signedProduct_2 6 rfl rfl)
theorem dX1_signedProduct_54 : decode cX1_signedProduct 54 = .ok (.aload 4, 2) := dk_25 4 (dk_at dksX1_signedProduct_2 7 rfl rfl)
theorem dX1_signedProduct_56 : decode cX1_signedProduct 56 = .ok (.getfield 144, 3) := dk_180 0 144 (dk_at dksX1_signedProduct_2 9 rfl rfl)
theorem dX1_signedProduct_59 : decode cX1_signedProduct 59 = .ok (.iload 6, 2) := dk_21 6 (dk_at dksX1_signedProduct_2 12 rfl rfl)
theorem dX1_signedProduct_61 : decode cX1_signedProduct 61 = .ok (.aaload, 1) := dk_50 (dk_at dksX1_signedProduct_2 14 rfl rfl)
theorem dX1_signedProduct_62 : decode cX1_signedProduct 62 = .ok (.iload 7, 2) := dk_21 7 (dk_at dksX1_signedProduct_2 15 rfl rfl)
theorem dX1_signedProduct_64 : decode cX1_signedProduct 64 = .ok (.iaload, 1) := dk_46 (dk_at dksX1_signedProduct_2 17 rfl rfl)
theorem dX1_signedProduct_65 : decode cX1_signedProduct 65 = .ok (.i2l, 1) := dk_133 (dk_at dksX1_signedProduct_2 18 rfl rfl)
theorem dX1_signedProduct_66 : decode cX1_signedProduct 66 = .ok (.lmul, 1) := dk_105 (dk_at dksX1_signedProduct_2 19 rfl rfl)
theorem dX1_signedProduct_67 : decode cX1_signedProduct 67 = .ok (.ladd, 1) := dk_97 (dk_at dksX1_signedProduct_2 20 rfl rfl)
theorem dX1_signedProduct_68 : decode cX1_signedProduct 68 = .ok (.lastore, 1) := dk_80 (dk_at dksX1_signedProduct_2 21 rfl rfl)
theorem dX1_signedProduct_69 : decode cX1_signedProduct 69 = .ok (.iinc 7 1, 3) := dk_132 7 1 (dk_at dksX1_signedProduct_3 0 rfl rfl)
theorem dX1_signedProduct_72 : decode cX1_signedProduct 72 = .ok (.goto (-42), 3) := dk_167 255 214 (dk_at dksX1_signedProduct_3 3 rfl rfl)
theorem dX1_signedProduct_75 : decode cX1_signedProduct 75 = .ok (.iinc 6 1, 3) := dk_132 6 1 (dk_at dksX1_signedProduct_3 6 rfl rfl)
theorem dX1_signedProduct_78 : decode cX1_signedProduct 78 = .ok (.goto (-57), 3) := dk_167 255 199 (dk_at dksX1_signedProduct_3 9 rfl rfl)
theorem dX1_signedProduct_81 : decode cX1_signedProduct 81 = .ok (.lconst 0, 1) := dk_9 (dk_at dksX1_signedProduct_3 12 rfl rfl)
theorem dX1_signedProduct_82 : decode cX1_signedProduct 82 = .ok (.lstore 6, 2) := dk_55 6 (dk_at dksX1_signedProduct_3 13 rfl rfl)
theorem dX1_signedProduct_84 : decode cX1_signedProduct 84 = .ok (.aload 5, 2) := dk_25 5 (dk_at dksX1_signedProduct_3 15 rfl rfl)
theorem dX1_signedProduct_86 : decode cX1_signedProduct 86 = .ok (.astore 8, 2) := dk_58 8 (dk_at dksX1_signedProduct_3 17 rfl rfl)
theorem dX1_signedProduct_88 : decode cX1_signedProduct 88 = .ok (.aload 8, 2) := dk_25 8 (dk_at dksX1_signedProduct_3 19 rfl rfl)
theorem dX1_signedProduct_90 : decode cX1_signedProduct 90 = .ok (.arraylength, 1) := dk_190 (dk_at dksX1_signedProduct_3 21 rfl rfl)
theorem dX1_signedProduct_91 : decode cX1_signedProduct 91 = .ok (.istore 9, 2) := dk_54 9 (dk_at dksX1_signedProduct_3 22 rfl rfl)
theorem dX1_signedProduct_93 : decode cX1_signedProduct 93 = .ok (.iconst 0, 1) := dk_3 (dk_at dksX1_signedProduct_4 0 rfl rfl)
theorem dX1_signedProduct_94 : decode cX1_signedProduct 94 = .ok (.istore 10, 2) := dk_54 10 (dk_at dksX1_signedProduct_4 1 rfl rfl)
theorem dX1_signedProduct_96 : decode cX1_signedProduct 96 = .ok (.iload 10, 2) := dk_21 10 (dk_at dksX1_signedProduct_4 3 rfl rfl)
theorem dX1_signedProduct_98 : decode cX1_signedProduct 98 = .ok (.iload 9, 2) := dk_21 9 (dk_at dksX1_signedProduct_4 5 rfl rfl)
theorem dX1_signedProduct_100 : decode cX1_signedProduct 100 = .ok (.if_icmp .ge 114, 3) := dk_162 0 114 (dk_at dksX1_signedProduct_4 7 rfl rfl)
theorem dX1_signedProduct_103 : decode cX1_signedProduct 103 = .ok (.aload 8, 2) := dk_25 8 (dk_at dksX1_signedProduct_4 10 rfl rfl)
theorem dX1_signedProduct_105 : decode cX1_signedProduct 105 = .ok (.iload 10, 2) := dk_21 10 (dk_at dksX1_signedProduct_4 12 rfl rfl)
theorem dX1_signedProduct_107 : decode cX1_signedProduct 107 = .ok (.laload, 1) := dk_47 (dk_at dksX1_signedProduct_4 14 rfl rfl)
theorem dX1_signedProduct_108 : decode cX1_signedProduct 108 = .ok (.lstore 11, 2) := dk_55 11 (dk_at dksX1_signedProduct_4 15 rfl rfl)
theorem dX1_signedProduct_110 : decode cX1_signedProduct 110 = .ok (.iconst 0, 1) := dk_3 (dk_at dksX1_signedProduct_4 17 rfl rfl)
theorem dX1_signedProduct_111 : decode cX1_signedProduct 111 = .ok (.istore 13, 2) := dk_54 13 (dk_at dksX1_signedProduct_4 18 rfl rfl)
theorem dX1_signedProduct_113 : decode cX1_signedProduct 113 = .ok (.iconst 0, 1) := dk_3 (dk_at dksX1_signedProduct_4 20 rfl rfl)
theorem dX1_signedProduct_114 : decode cX1_signedProduct 114 = .ok (.istore 14, 2) := dk_54 14 (dk_at dksX1_signedProduct_4 21 rfl rfl)
theorem dX1_signedProduct_116 : decode cX1_signedProduct 116 = .ok (.aload 5, 2) := dk_25 5 (dk_at dksX1_signedProduct_5 0 rfl rfl)
theorem dX1_signedProduct_118 : decode cX1_signedProduct 118 = .ok (.astore 15, 2) := dk_58 15 (dk_at dksX1_signedProduct_5 2 rfl rfl)
theorem dX1_signedProduct_120 : decode cX1_signedProduct 120 = .ok (.aload 15, 2) := dk_25 15 (dk_at dksX1_signedProduct_5 4 rfl rfl)
theorem dX1_signedProduct_122 : decode cX1_signedProduct 122 = .ok (.arraylength, 1) := dk_190 (dk_at dksX1_signedProduct_5 6 rfl rfl)
theorem dX1_signedProduct_123 : decode cX1_signedProduct 123 = .ok (.istore 16, 2) := dk_54 16 (dk_at dksX1_signedProduct_5 7 rfl rfl)
theorem dX1_signedProduct_125 : decode cX1_signedProduct 125 = .ok (.iconst 0, 1) := dk_3 (dk_at dksX1_signedProduct_5 9 rfl rfl)
theorem dX1_signedProduct_126 : decode cX1_signedProduct 126 = .ok (.istore 17, 2) := dk_54 17 (dk_at dksX1_signedProduct_5 10 rfl rfl)
theorem dX1_signedProduct_128 : decode cX1_signedProduct 128 = .ok (.iload 17, 2) := dk_21 17 (dk_at dksX1_signedProduct_5 12 rfl rfl)
theorem dX1_signedProduct_130 : decode cX1_signedProduct 130 = .ok (.iload 16, 2) := dk_21 16 (dk_at dksX1_signedProduct_5 14 rfl rfl)
theorem dX1_signedProduct_132 : decode cX1_signedProduct 132 = .ok (.if_icmp .ge 52, 3) := dk_162 0 52 (dk_at dksX1_signedProduct_5 16 rfl rfl)
theorem dX1_signedProduct_135 : decode cX1_signedProduct 135 = .ok (.aload 15, 2) := dk_25 15 (dk_at dksX1_signedProduct_5 19 rfl rfl)
theorem dX1_signedProduct_137 : decode cX1_signedProduct 137 = .ok (.iload 17, 2) := dk_21 17 (dk_at dksX1_signedProduct_5 21 rfl rfl)
theorem dX1_signedProduct_139 : decode cX1_signedProduct 139 = .ok (.laload, 1) := dk_47 (dk_at dksX1_signedProduct_5 23 rfl rfl)
theorem dX1_signedProduct_140 : decode cX1_signedProduct 140 = .ok (.lstore 18, 2) := dk_55 18 (dk_at dksX1_signedProduct_6 0 rfl rfl)
theorem dX1_signedProduct_142 : decode cX1_signedProduct 142 = .ok (.iload 13, 2) := dk_21 13 (dk_at dksX1_signedProduct_6 2 rfl rfl)
theorem dX1_signedProduct_144 : decode cX1_signedProduct 144 = .ok (.lload 18, 2) := dk_22 18 (dk_at dksX1_signedProduct_6 4 rfl rfl)
theorem dX1_signedProduct_146 : decode cX1_signedProduct 146 = .ok (.lload 11, 2) := dk_22 11 (dk_at dksX1_signedProduct_6 6 rfl rfl)
theorem dX1_signedProduct_148 : decode cX1_signedProduct 148 = .ok (.lcmp, 1) := dk_148 (dk_at dksX1_signedProduct_6 8 rfl rfl)
theorem dX1_signedProduct_149 : decode cX1_signedProduct 149 = .ok (.ifCond .ge 7, 3) := dk_156 0 7 (dk_at dksX1_signedProduct_6 9 rfl rfl)
theorem dX1_signedProduct_152 : decode cX1_signedProduct 152 = .ok (.iconst 1, 1) := dk_4 (dk_at dksX1_signedProduct_6 12 rfl rfl)
theorem dX1_signedProduct_153 : decode cX1_signedProduct 153 = .ok (.goto 4, 3) := dk_167 0 4 (dk_at dksX1_signedProduct_6 13 rfl rfl)
theorem dX1_signedProduct_156 : decode cX1_signedProduct 156 = .ok (.iconst 0, 1) := dk_3 (dk_at dksX1_signedProduct_6 16 rfl rfl)
theorem dX1_signedProduct_157 : decode cX1_signedProduct 157 = .ok (.iadd, 1) := dk_96 (dk_at dksX1_signedProduct_6 17 rfl rfl)
theorem dX1_signedProduct_158 : decode cX1_signedProduct 158 = .ok (.istore 13, 2) := dk_54 13 (dk_at dksX1_signedProduct_6 18 rfl rfl)
theorem dX1_signedProduct_160 : decode cX1_signedProduct 160 = .ok (.iload 14, 2) := dk_21 14 (dk_at dksX1_signedProduct_6 20 rfl rfl)
theorem dX1_signedProduct_162 : decode cX1_signedProduct 162 = .ok (.lload 18, 2) := dk_22 18 (dk_at dksX1_signedProduct_6 22 rfl rfl)
theorem dX1_signedProduct_164 : decode cX1_signedProduct 164 = .ok (.lload 11, 2) := dk_22 11 (dk_at dksX1_signedProduct_7 0 rfl rfl)
theorem dX1_signedProduct_166 : decode cX1_signedProduct 166 = .ok (.lcmp, 1) := dk_148 (dk_at dksX1_signedProduct_7 2 rfl rfl)
theorem dX1_signedProduct_167 : decode cX1_signedProduct 167 = .ok (.ifCond .ne 7, 3) := dk_154 0 7 (dk_at dksX1_signedProduct_7 3 rfl rfl)
theorem dX1_signedProduct_170 : decode cX1_signedProduct 170 = .ok (.iconst 1, 1) := dk_4 (dk_at dksX1_signedProduct_7 6 rfl rfl)
theorem dX1_signedProduct_171 : decode cX1_signedProduct 171 = .ok (.goto 4, 3) := dk_167 0 4 (dk_at dksX1_signedProduct_7 7 rfl rfl)
theorem dX1_signedProduct_174 : decode cX1_signedProduct 174 = .ok (.iconst 0, 1) := dk_3 (dk_at dksX1_signedProduct_7 10 rfl rfl)
theorem dX1_signedProduct_175 : decode cX1_signedProduct 175 = .ok (.iadd, 1) := dk_96 (dk_at dksX1_signedProduct_7 11 rfl rfl)
theorem dX1_signedProduct_176 : decode cX1_signedProduct 176 = .ok (.istore 14, 2) := dk_54 14 (dk_at dksX1_signedProduct_7 12 rfl rfl)
theorem dX1_signedProduct_178 : decode cX1_signedProduct 178 = .ok (.iinc 17 1, 3) := dk_132 17 1 (dk_at dksX1_signedProduct_7 14 rfl rfl)
theorem dX1_signedProduct_181 : decode cX1_signedProduct 181 = .ok (.goto (-53), 3) := dk_167 255 203 (dk_at dksX1_signedProduct_7 17 rfl rfl)
theorem dX1_signedProduct_184 : decode cX1_signedProduct 184 = .ok (.iload 13, 2) := dk_21 13 (dk_at dksX1_signedProduct_7 20 rfl rfl)
theorem dX1_signedProduct_186 : decode cX1_signedProduct 186 = .ok (.iconst 2, 1) := dk_5 (dk_at dksX1_signedProduct_7 22 rfl rfl)
theorem dX1_signedProduct_187 : decode cX1_signedProduct 187 = .ok (.if_icmp .gt 17, 3) := dk_163 0 17 (dk_at dksX1_signedProduct_8 0 rfl rfl)
theorem dX1_signedProduct_190 : decode cX1_signedProduct 190 = .ok (.iconst 2, 1) := dk_5 (dk_at dksX1_signedProduct_8 3 rfl rfl)
theorem dX1_signedProduct_191 : decode cX1_signedProduct 191 = .ok (.iload 13, 2) := dk_21 13 (dk_at dksX1_signedProduct_8 4 rfl rfl)
theorem dX1_signedProduct_193 : decode cX1_signedProduct 193 = .ok (.iload 14, 2) := dk_21 14 (dk_at dksX1_signedProduct_8 6 rfl rfl)
theorem dX1_signedProduct_195 : decode cX1_signedProduct 195 = .ok (.iadd, 1) := dk_96 (dk_at dksX1_signedProduct_8 8 rfl rfl)
theorem dX1_signedProduct_196 : decode cX1_signedProduct 196 = .ok (.if_icmp .ge 8, 3) := dk_162 0 8 (dk_at dksX1_signedProduct_8 9 rfl rfl)
theorem dX1_signedProduct_199 : decode cX1_signedProduct 199 = .ok (.lload 11, 2) := dk_22 11 (dk_at dksX1_signedProduct_8 12 rfl rfl)
theorem dX1_signedProduct_201 : decode cX1_signedProduct 201 = .ok (.goto 5, 3) := dk_167 0 5 (dk_at dksX1_signedProduct_8 14 rfl rfl)
theorem dX1_signedProduct_204 : decode cX1_signedProduct 204 = .ok (.lload 6, 2) := dk_22 6 (dk_at dksX1_signedProduct_8 17 rfl rfl)
theorem dX1_signedProduct_206 : decode cX1_signedProduct 206 = .ok (.lstore 6, 2) := dk_55 6 (dk_at dksX1_signedProduct_8 19 rfl rfl)
theorem dX1_signedProduct_208 : decode cX1_signedProduct 208 = .ok (.iinc 10 1, 3) := dk_132 10 1 (dk_at dksX1_signedProduct_8 21 rfl rfl)
theorem dX1_signedProduct_211 : decode cX1_signedProduct 211 = .ok (.goto (-115), 3) := dk_167 255 141 (dk_at dksX1_signedProduct_9 0 rfl rfl)
theorem dX1_signedProduct_214 : decode cX1_signedProduct 214 = .ok (.lload 6, 2) := dk_22 6 (dk_at dksX1_signedProduct_9 3 rfl rfl)
theorem dX1_signedProduct_216 : decode cX1_signedProduct 216 = .ok (.lreturn, 1) := dk_173 (dk_at dksX1_signedProduct_9 5 rfl rfl)
abbrev cX1_counters : ByteArray := prog_1_method_32_code
def yX1_counters : MethodName := ⟨RX1, "counters", "(I)I"⟩
def dkwX1_counters_0 : List UInt8 := [42, 27, 182, 0, 63, 180, 0, 152, 185, 0, 156, 1, 0, 172]
abbrev dktX1_counters_0 : List UInt8 := dkwX1_counters_0 ++ []
theorem dksX1_counters_0 : cX1_counters.data.toList.drop 0 = dktX1_counters_0 := by decide +kernel
theorem dX1_counters_0 : decode cX1_counters 0 = .ok (.aload_n 0, 1) := dk_42 (dk_at dksX1_counters_0 0 rfl rfl)
theorem dX1_counters_1 : decode cX1_counters 1 = .ok (.iload_n 1, 1) := dk_27 (dk_at dksX1_counters_0 1 rfl rfl)
theorem dX1_counters_2 : decode cX1_counters 2 = .ok (.invokevirtual 63, 3) := dk_182 0 63 (dk_at dksX1_counters_0 2 rfl rfl)
theorem dX1_counters_5 : decode cX1_counters 5 = .ok (.getfield 152, 3) := dk_180 0 152 (dk_at dksX1_counters_0 5 rfl rfl)
theorem dX1_counters_8 : decode cX1_counters 8 = .ok (.invokeinterface 156 1, 5) := by decide +kernel
theorem dX1_counters_13 : decode cX1_counters 13 = .ok (.ireturn, 1) := dk_172 (dk_at dksX1_counters_0 13 rfl rfl)
abbrev cX1_counterItem : ByteArray := prog_1_method_33_code
def yX1_counterItem : MethodName := ⟨RX1, "counterItem", "(II)I"⟩
def dkwX1_counterItem_1 : List UInt8 := [185, 0, 161, 2, 0, 192, 0, 165, 180, 0, 167, 172]
abbrev dktX1_counterItem_1 : List UInt8 := dkwX1_counterItem_1 ++ []
def dkwX1_counterItem_0 : List UInt8 := [42, 27, 182, 0, 63, 78, 28, 45, 180, 0, 152, 185, 0, 156, 1, 0, 184, 0, 55, 45, 180, 0, 152, 28]
abbrev dktX1_counterItem_0 : List UInt8 := dkwX1_counterItem_0 ++ dktX1_counterItem_1
theorem dksX1_counterItem_0 : cX1_counterItem.data.toList.drop 0 = dktX1_counterItem_0 := by decide +kernel
theorem dksX1_counterItem_1 : cX1_counterItem.data.toList.drop 24 = dktX1_counterItem_1 := dk_seg dksX1_counterItem_0 24 rfl rfl
theorem dX1_counterItem_0 : decode cX1_counterItem 0 = .ok (.aload_n 0, 1) := dk_42 (dk_at dksX1_counterItem_0 0 rfl rfl)
theorem dX1_counterItem_1 : decode cX1_counterItem 1 = .ok (.iload_n 1, 1) := dk_27 (dk_at dksX1_counterItem_0 1 rfl rfl)
theorem dX1_counterItem_2 : decode cX1_counterItem 2 = .ok (.invokevirtual 63, 3) := dk_182 0 63 (dk_at dksX1_counterItem_0 2 rfl rfl)
theorem dX1_counterItem_5 : decode cX1_counterItem 5 = .ok (.astore_n 3, 1) := dk_78 (dk_at dksX1_counterItem_0 5 rfl rfl)
theorem dX1_counterItem_6 : decode cX1_counterItem 6 = .ok (.iload_n 2, 1) := dk_28 (dk_at dksX1_counterItem_0 6 rfl rfl)
theorem dX1_counterItem_7 : decode cX1_counterItem 7 = .ok (.aload_n 3, 1) := dk_45 (dk_at dksX1_counterItem_0 7 rfl rfl)
theorem dX1_counterItem_8 : decode cX1_counterItem 8 = .ok (.getfield 152, 3) := dk_180 0 152 (dk_at dksX1_counterItem_0 8 rfl rfl)
theorem dX1_counterItem_11 : decode cX1_counterItem 11 = .ok (.invokeinterface 156 1, 5) := by decide +kernel
theorem dX1_counterItem_16 : decode cX1_counterItem 16 = .ok (.invokestatic 55, 3) := dk_184 0 55 (dk_at dksX1_counterItem_0 16 rfl rfl)
theorem dX1_counterItem_19 : decode cX1_counterItem 19 = .ok (.aload_n 3, 1) := dk_45 (dk_at dksX1_counterItem_0 19 rfl rfl)
theorem dX1_counterItem_20 : decode cX1_counterItem 20 = .ok (.getfield 152, 3) := dk_180 0 152 (dk_at dksX1_counterItem_0 20 rfl rfl)
theorem dX1_counterItem_23 : decode cX1_counterItem 23 = .ok (.iload_n 2, 1) := dk_28 (dk_at dksX1_counterItem_0 23 rfl rfl)
theorem dX1_counterItem_24 : decode cX1_counterItem 24 = .ok (.invokeinterface 161 2, 5) := by decide +kernel
theorem dX1_counterItem_29 : decode cX1_counterItem 29 = .ok (.checkcast 165, 3) := dk_192 0 165 (dk_at dksX1_counterItem_1 5 rfl rfl)
theorem dX1_counterItem_32 : decode cX1_counterItem 32 = .ok (.getfield 167, 3) := dk_180 0 167 (dk_at dksX1_counterItem_1 8 rfl rfl)
theorem dX1_counterItem_35 : decode cX1_counterItem 35 = .ok (.ireturn, 1) := dk_172 (dk_at dksX1_counterItem_1 11 rfl rfl)
abbrev cX1_counterOf : ByteArray := prog_1_method_34_code
def yX1_counterOf : MethodName := ⟨RX1, "counterOf", "(II)I"⟩
def dkwX1_counterOf_1 : List UInt8 := [3, 167, 0, 8, 25, 4, 180, 0, 174, 172]
abbrev dktX1_counterOf_1 : List UInt8 := dkwX1_counterOf_1 ++ []
def dkwX1_counterOf_0 : List UInt8 := [42, 27, 182, 0, 63, 78, 28, 16, 64, 184, 0, 55, 45, 28, 182, 0, 170, 58, 4, 25, 4, 199, 0, 7]
abbrev dktX1_counterOf_0 : List UInt8 := dkwX1_counterOf_0 ++ dktX1_counterOf_1
theorem dksX1_counterOf_0 : cX1_counterOf.data.toList.drop 0 = dktX1_counterOf_0 := by decide +kernel
theorem dksX1_counterOf_1 : cX1_counterOf.data.toList.drop 24 = dktX1_counterOf_1 := dk_seg dksX1_counterOf_0 24 rfl rfl
theorem dX1_counterOf_0 : decode cX1_counterOf 0 = .ok (.aload_n 0, 1) := dk_42 (dk_at dksX1_counterOf_0 0 rfl rfl)
theorem dX1_counterOf_1 : decode cX1_counterOf 1 = .ok (.iload_n 1, 1) := dk_27 (dk_at dksX1_counterOf_0 1 rfl rfl)
theorem dX1_counterOf_2 : decode cX1_counterOf 2 = .ok (.invokevirtual 63, 3) := dk_182 0 63 (dk_at dksX1_counterOf_0 2 rfl rfl)
theorem dX1_counterOf_5 : decode cX1_counterOf 5 = .ok (.astore_n 3, 1) := dk_78 (dk_at dksX1_counterOf_0 5 rfl rfl)
theorem dX1_counterOf_6 : decode cX1_counterOf 6 = .ok (.iload_n 2, 1) := dk_28 (dk_at dksX1_counterOf_0 6 rfl rfl)
theorem dX1_counterOf_7 : decode cX1_counterOf 7 = .ok (.bipush 64, 2) := dk_16 64 (dk_at dksX1_counterOf_0 7 rfl rfl)
theorem dX1_counterOf_9 : decode cX1_counterOf 9 = .ok (.invokestatic 55, 3) := dk_184 0 55 (dk_at dksX1_counterOf_0 9 rfl rfl)
theorem dX1_counterOf_12 : decode cX1_counterOf 12 = .ok (.aload_n 3, 1) := dk_45 (dk_at dksX1_counterOf_0 12 rfl rfl)
theorem dX1_counterOf_13 : decode cX1_counterOf 13 = .ok (.iload_n 2, 1) := dk_28 (dk_at dksX1_counterOf_0 13 rfl rfl)
theorem dX1_counterOf_14 : decode cX1_counterOf 14 = .ok (.invokevirtual 170, 3) := dk_182 0 170 (dk_at dksX1_counterOf_0 14 rfl rfl)
theorem dX1_counterOf_17 : decode cX1_counterOf 17 = .ok (.astore 4, 2) := dk_58 4 (dk_at dksX1_counterOf_0 17 rfl rfl)
theorem dX1_counterOf_19 : decode cX1_counterOf 19 = .ok (.aload 4, 2) := dk_25 4 (dk_at dksX1_counterOf_0 19 rfl rfl)
theorem dX1_counterOf_21 : decode cX1_counterOf 21 = .ok (.ifnonnull 7, 3) := dk_199 0 7 (dk_at dksX1_counterOf_0 21 rfl rfl)
theorem dX1_counterOf_24 : decode cX1_counterOf 24 = .ok (.iconst 0, 1) := dk_3 (dk_at dksX1_counterOf_1 0 rfl rfl)
theorem dX1_counterOf_25 : decode cX1_counterOf 25 = .ok (.goto 8, 3) := dk_167 0 8 (dk_at dksX1_counterOf_1 1 rfl rfl)
theorem dX1_counterOf_28 : decode cX1_counterOf 28 = .ok (.aload 4, 2) := dk_25 4 (dk_at dksX1_counterOf_1 4 rfl rfl)
theorem dX1_counterOf_30 : decode cX1_counterOf 30 = .ok (.getfield 174, 3) := dk_180 0 174 (dk_at dksX1_counterOf_1 6 rfl rfl)
theorem dX1_counterOf_33 : decode cX1_counterOf 33 = .ok (.ireturn, 1) := dk_172 (dk_at dksX1_counterOf_1 9 rfl rfl)
abbrev cX1_taken : ByteArray := prog_1_method_35_code
def yX1_taken : MethodName := ⟨RX1, "taken", "(I)I"⟩
def dkwX1_taken_0 : List UInt8 := [42, 27, 182, 0, 63, 180, 0, 177, 172]
abbrev dktX1_taken_0 : List UInt8 := dkwX1_taken_0 ++ []
theorem dksX1_taken_0 : cX1_taken.data.toList.drop 0 = dktX1_taken_0 := by decide +kernel
theorem dX1_taken_0 : decode cX1_taken 0 = .ok (.aload_n 0, 1) := dk_42 (dk_at dksX1_taken_0 0 rfl rfl)
theorem dX1_taken_1 : decode cX1_taken 1 = .ok (.iload_n 1, 1) := dk_27 (dk_at dksX1_taken_0 1 rfl rfl)
theorem dX1_taken_2 : decode cX1_taken 2 = .ok (.invokevirtual 63, 3) := dk_182 0 63 (dk_at dksX1_taken_0 2 rfl rfl)
theorem dX1_taken_5 : decode cX1_taken 5 = .ok (.getfield 177, 3) := dk_180 0 177 (dk_at dksX1_taken_0 5 rfl rfl)
theorem dX1_taken_8 : decode cX1_taken 8 = .ok (.ireturn, 1) := dk_172 (dk_at dksX1_taken_0 8 rfl rfl)
theorem q28 : (Jvm.Cond.initialized "Countcote") ∈ lw_all := lw_g (lw_at lw_m1 1 rfl) rfl
theorem q55 : (Jvm.Cond.instantiable "Countcote" (4 : Nat)) ∈ lw_all := lw_g (lw_at lw_m1 28 rfl) rfl
theorem q57 : (Jvm.Cond.instanceMethod ({ cls := "Countcote", name := "<init>", desc := "()V" } : Jvm.MethodName)) ∈ lw_all := lw_g (lw_at lw_m1 30 rfl) rfl
theorem q58 : (Jvm.Cond.code ({ cls := "Countcote", name := "<init>", desc := "()V" } : Jvm.MethodName) prog_1_method_4_code (2 : Nat) (Option.none : Option Jvm.ClassFile.FieldType)) ∈ lw_all := lw_g (lw_at lw_m1 31 rfl) rfl
theorem q59 : (Jvm.Cond.methodLink "Countcote" (13 : Nat) ({ cls := "java/lang/Object", name := "<init>", desc := "()V" } : Jvm.MethodName)) ∈ lw_all := lw_g (lw_at lw_m1 32 rfl) rfl
theorem q62 : (Jvm.Cond.classLink "Countcote" (8 : Nat) "Countcote$Hash") ∈ lw_all := lw_g (lw_at lw_m1 35 rfl) rfl
theorem q64 : (Jvm.Cond.static ({ cls := "Countcote", name := "lambda$new$0", desc := "(I)I" } : Jvm.MethodName)) ∈ lw_all := lw_g (lw_at lw_m1 37 rfl) rfl
theorem q65 : (Jvm.Cond.code ({ cls := "Countcote", name := "lambda$new$0", desc := "(I)I" } : Jvm.MethodName) prog_1_method_48_code (1 : Nat) (Option.some Jvm.ClassFile.FieldType.int)) ∈ lw_all := lw_g (lw_at lw_m1 38 rfl) rfl
theorem q66 : (Jvm.Cond.static ({ cls := "Countcote", name := "lambda$new$1", desc := "(I)I" } : Jvm.MethodName)) ∈ lw_all := lw_g (lw_at lw_m1 39 rfl) rfl
theorem q67 : (Jvm.Cond.code ({ cls := "Countcote", name := "lambda$new$1", desc := "(I)I" } : Jvm.MethodName) prog_1_method_47_code (1 : Nat) (Option.some Jvm.ClassFile.FieldType.int)) ∈ lw_all := lw_g (lw_at lw_m1 40 rfl) rfl
theorem q68 : (Jvm.Cond.static ({ cls := "Countcote", name := "lambda$new$2", desc := "(I)I" } : Jvm.MethodName)) ∈ lw_all := lw_g (lw_at lw_m1 41 rfl) rfl
theorem q69 : (Jvm.Cond.code ({ cls := "Countcote", name := "lambda$new$2", desc := "(I)I" } : Jvm.MethodName) prog_1_method_46_code (1 : Nat) (Option.some Jvm.ClassFile.FieldType.int)) ∈ lw_all := lw_g (lw_at lw_m1 42 rfl) rfl
theorem q70 : (Jvm.Cond.static ({ cls := "Countcote", name := "lambda$new$3", desc := "(I)I" } : Jvm.MethodName)) ∈ lw_all := lw_g (lw_at lw_m1 43 rfl) rfl
theorem q71 : (Jvm.Cond.code ({ cls := "Countcote", name := "lambda$new$3", desc := "(I)I" } : Jvm.MethodName) prog_1_method_45_code (1 : Nat) (Option.some Jvm.ClassFile.FieldType.int)) ∈ lw_all := lw_g (lw_at lw_m1 44 rfl) rfl
theorem q72 : (Jvm.Cond.static ({ cls := "Countcote", name := "lambda$new$4", desc := "(I)I" } : Jvm.MethodName)) ∈ lw_all := lw_g (lw_at lw_m1 45 rfl) rfl
theorem q73 : (Jvm.Cond.code ({ cls := "Countcote", name := "lambda$new$4", desc := "(I)I" } : Jvm.MethodName) prog_1_method_44_code (1 : Nat) (Option.some Jvm.ClassFile.FieldType.int)) ∈ lw_all := lw_g (lw_at lw_m1 46 rfl) rfl
theorem q74 : (Jvm.Cond.static ({ cls := "Countcote", name := "lambda$new$5", desc := "(I)I" } : Jvm.MethodName)) ∈ lw_all := lw_g (lw_at lw_m1 47 rfl) rfl
theorem q75 : (Jvm.Cond.code ({ cls := "Countcote", name := "lambda$new$5", desc := "(I)I" } : Jvm.MethodName) prog_1_method_43_code (1 : Nat) (Option.some Jvm.ClassFile.FieldType.int)) ∈ lw_all := lw_g (lw_at lw_m1 48 rfl) rfl
theorem q76 : (Jvm.Cond.static ({ cls := "Countcote", name := "lambda$new$6", desc := "(I)I" } : Jvm.MethodName)) ∈ lw_all := lw_g (lw_at lw_m1 49 rfl) rfl
theorem q77 : (Jvm.Cond.code ({ cls := "Countcote", name := "lambda$new$6", desc := "(I)I" } : Jvm.MethodName) prog_1_method_42_code (1 : Nat) (Option.some Jvm.ClassFile.FieldType.int)) ∈ lw_all := lw_g (lw_at lw_m1 50 rfl) rfl
theorem q78 : (Jvm.Cond.static ({ cls := "Countcote", name := "lambda$new$7", desc := "(I)I" } : Jvm.MethodName)) ∈ lw_all := lw_g (lw_at lw_m1 51 rfl) rfl
theorem q79 : (Jvm.Cond.code ({ cls := "Countcote", name := "lambda$new$7", desc := "(I)I" } : Jvm.MethodName) prog_1_method_41_code (1 : Nat) (Option.some Jvm.ClassFile.FieldType.int)) ∈ lw_all := lw_g (lw_at lw_m1 52 rfl) rfl
theorem q80 : (Jvm.Cond.static ({ cls := "Countcote", name := "lambda$new$8", desc := "(I)I" } : Jvm.MethodName)) ∈ lw_all := lw_g (lw_at lw_m1 53 rfl) rfl
theorem q81 : (Jvm.Cond.code ({ cls := "Countcote", name := "lambda$new$8", desc := "(I)I" } : Jvm.MethodName) prog_1_method_40_code (1 : Nat) (Option.some Jvm.ClassFile.FieldType.int)) ∈ lw_all := lw_g (lw_at lw_m1 54 rfl) rfl
theorem q82 : (Jvm.Cond.static ({ cls := "Countcote", name := "lambda$new$9", desc := "(I)I" } : Jvm.MethodName)) ∈ lw_all := lw_g (lw_at lw_m1 55 rfl) rfl
theorem q83 : (Jvm.Cond.code ({ cls := "Countcote", name := "lambda$new$9", desc := "(I)I" } : Jvm.MethodName) prog_1_method_39_code (1 : Nat) (Option.some Jvm.ClassFile.FieldType.int)) ∈ lw_all := lw_g (lw_at lw_m1 56 rfl) rfl
theorem q84 : (Jvm.Cond.static ({ cls := "Countcote", name := "lambda$new$10", desc := "(I)I" } : Jvm.MethodName)) ∈ lw_all := lw_g (lw_at lw_m1 57 rfl) rfl
theorem q85 : (Jvm.Cond.code ({ cls := "Countcote", name := "lambda$new$10", desc := "(I)I" } : Jvm.MethodName) prog_1_method_38_code (1 : Nat) (Option.some Jvm.ClassFile.FieldType.int)) ∈ lw_all := lw_g (lw_at lw_m1 58 rfl) rfl
theorem q86 : (Jvm.Cond.static ({ cls := "Countcote", name := "lambda$new$11", desc := "(I)I" } : Jvm.MethodName)) ∈ lw_all := lw_g (lw_at lw_m1 59 rfl) rfl
theorem q87 : (Jvm.Cond.code ({ cls := "Countcote", name := "lambda$new$11", desc := "(I)I" } : Jvm.MethodName) prog_1_method_37_code (1 : Nat) (Option.some Jvm.ClassFile.FieldType.int)) ∈ lw_all := lw_g (lw_at lw_m1 60 rfl) rfl
theorem q88 : (Jvm.Cond.static ({ cls := "Countcote", name := "lambda$new$12", desc := "(I)I" } : Jvm.MethodName)) ∈ lw_all := lw_g (lw_at lw_m1 61 rfl) rfl
theorem q89 : (Jvm.Cond.code ({ cls := "Countcote", name := "lambda$new$12", desc := "(I)I" } : Jvm.MethodName) prog_1_method_36_code (1 : Nat) (Option.some Jvm.ClassFile.FieldType.int)) ∈ lw_all := lw_g (lw_at lw_m1 62 rfl) rfl
theorem q90 : (Jvm.Cond.classLink "Countcote" (40 : Nat) "Countcote$Stream") ∈ lw_all := lw_g (lw_at lw_m1 63 rfl) rfl
theorem q93 : (Jvm.Cond.methodLink "Countcote" (46 : Nat) ({ cls := "Countcote$Stream", name := "<init>", desc := "(LCountcote;)V" } : Jvm.MethodName)) ∈ lw_all := lw_g (lw_at lw_m1 66 rfl) rfl
theorem q130 : (Jvm.Cond.fieldLink "Countcote" (67 : Nat) "Countcote$Stream" "total" "I") ∈ lw_all := lw_g (lw_at lw_m1 103 rfl) rfl
theorem q132 : (Jvm.Cond.fieldLink "Countcote" (82 : Nat) "Countcote$Stream" "plain" "[I") ∈ lw_all := lw_g (lw_at lw_m1 105 rfl) rfl
theorem q134 : (Jvm.Cond.fieldLink "Countcote" (89 : Nat) "Countcote$Stream" "cells" "[[[I") ∈ lw_all := lw_g (lw_at lw_m1 107 rfl) rfl
theorem q137 : (Jvm.Cond.fieldLink "Countcote" (144 : Nat) "Countcote$Stream" "signed" "[[I") ∈ lw_all := lw_g (lw_at lw_m1 110 rfl) rfl
theorem q139 : (Jvm.Cond.fieldLink "Countcote" (152 : Nat) "Countcote$Stream" "counters" "Ljava/util/List;") ∈ lw_all := lw_g (lw_at lw_m1 112 rfl) rfl
theorem q141 : (Jvm.Cond.fieldLink "Countcote" (177 : Nat) "Countcote$Stream" "taken" "I") ∈ lw_all := lw_g (lw_at lw_m1 114 rfl) rfl
theorem q161 : (Jvm.Cond.fieldLink "Countcote" (24 : Nat) "Countcote" "columns" "[LCountcote$Hash;") ∈ lw_all := lw_g (lw_at lw_m1 134 rfl) rfl
theorem q163 : (Jvm.Cond.fieldLink "Countcote" (32 : Nat) "Countcote" "signedColumns" "[LCountcote$Hash;") ∈ lw_all := lw_g (lw_at lw_m1 136 rfl) rfl
theorem q164 : (Jvm.Cond.fieldLink "Countcote" (1 : Nat) "Countcote" "parities" "[LCountcote$Hash;") ∈ lw_all := lw_g (lw_at lw_m1 137 rfl) rfl
theorem q165 : (Jvm.Cond.fieldLink "Countcote" (42 : Nat) "Countcote" "streams" "[LCountcote$Stream;") ∈ lw_all := lw_g (lw_at lw_m1 138 rfl) rfl
theorem q166 : (Jvm.Cond.laysFinal "Countcote" "Countcote" "columns" "[LCountcote$Hash;") ∈ lw_all := lw_g (lw_at lw_m1 139 rfl) rfl
theorem q167 : (Jvm.Cond.soleField "Countcote" "columns") ∈ lw_all := lw_g (lw_at lw_m1 140 rfl) rfl
theorem q168 : (Jvm.Cond.laysFinal "Countcote" "Countcote" "signedColumns" "[LCountcote$Hash;") ∈ lw_all := lw_g (lw_at lw_m1 141 rfl) rfl
theorem q169 : (Jvm.Cond.soleField "Countcote" "signedColumns") ∈ lw_all := lw_g (lw_at lw_m1 142 rfl) rfl
theorem q170 : (Jvm.Cond.laysFinal "Countcote" "Countcote" "parities" "[LCountcote$Hash;") ∈ lw_all := lw_g (lw_at lw_m1 143 rfl) rfl
theorem q171 : (Jvm.Cond.soleField "Countcote" "parities") ∈ lw_all := lw_g (lw_at lw_m1 144 rfl) rfl
theorem q172 : (Jvm.Cond.laysFinal "Countcote" "Countcote" "streams" "[LCountcote$Stream;") ∈ lw_all := lw_g (lw_at lw_m1 145 rfl) rfl
theorem q173 : (Jvm.Cond.soleField "Countcote" "streams") ∈ lw_all := lw_g (lw_at lw_m1 146 rfl) rfl
theorem q174 : (Jvm.Cond.superclass "Countcote" "java/lang/Object") ∈ lw_all := lw_g (lw_at lw_m1 147 rfl) rfl
theorem q259 : (Jvm.Cond.instanceMethod ({ cls := "Countcote", name := "add", desc := "(III)I" } : Jvm.MethodName)) ∈ lw_all := lw_g (lw_at lw_m1 232 rfl) rfl
theorem q260 : (Jvm.Cond.selects "Countcote" ({ cls := "Countcote", name := "add", desc := "(III)I" } : Jvm.MethodName) ({ cls := "Countcote", name := "add", desc := "(III)I" } : Jvm.MethodName)) ∈ lw_all := lw_g (lw_at lw_m1 233 rfl) rfl
theorem q261 : (Jvm.Cond.code ({ cls := "Countcote", name := "add", desc := "(III)I" } : Jvm.MethodName) prog_1_method_9_code (5 : Nat) (Option.some Jvm.ClassFile.FieldType.int)) ∈ lw_all := lw_g (lw_at lw_m1 234 rfl) rfl
theorem q262 : (Jvm.Cond.methodLink "Countcote" (63 : Nat) ({ cls := "Countcote", name := "streamAt", desc := "(I)LCountcote$Stream;" } : Jvm.MethodName)) ∈ lw_all := lw_g (lw_at lw_m1 235 rfl) rfl
theorem q263 : (Jvm.Cond.privateMethod ({ cls := "Countcote", name := "streamAt", desc := "(I)LCountcote$Stream;" } : Jvm.MethodName)) ∈ lw_tbl := lw_at lw_m1 236 rfl
theorem q264 : (Jvm.Cond.instanceMethod ({ cls := "Countcote", name := "streamAt", desc := "(I)LCountcote$Stream;" } : Jvm.MethodName)) ∈ lw_all := lw_g (lw_at lw_m1 237 rfl) rfl
theorem q265 : (Jvm.Cond.code ({ cls := "Countcote", name := "streamAt", desc := "(I)LCountcote$Stream;" } : Jvm.MethodName) prog_1_method_7_code (2 : Nat) (Option.some (Jvm.ClassFile.FieldType.object "Countcote$Stream"))) ∈ lw_all := lw_g (lw_at lw_m1 238 rfl) rfl
theorem q266 : (Jvm.Cond.methodLink "Countcote" (55 : Nat) ({ cls := "Countcote", name := "needPlace", desc := "(II)V" } : Jvm.MethodName)) ∈ lw_all := lw_g (lw_at lw_m1 239 rfl) rfl
theorem q267 : (Jvm.Cond.static ({ cls := "Countcote", name := "needPlace", desc := "(II)V" } : Jvm.MethodName)) ∈ lw_all := lw_g (lw_at lw_m2 0 rfl) rfl
theorem q268 : (Jvm.Cond.code ({ cls := "Countcote", name := "needPlace", desc := "(II)V" } : Jvm.MethodName) prog_1_method_5_code (2 : Nat) (Option.none : Option Jvm.ClassFile.FieldType)) ∈ lw_all := lw_g (lw_at lw_m2 1 rfl) rfl
theorem q269 : (Jvm.Cond.classLink "Countcote" (49 : Nat) "java/lang/IndexOutOfBoundsException") ∈ lw_all := lw_g (lw_at lw_m2 2 rfl) rfl
theorem q278 : (Jvm.Cond.methodLink "Countcote" (51 : Nat) ({ cls := "java/lang/IndexOutOfBoundsException", name := "<init>", desc := "()V" } : Jvm.MethodName)) ∈ lw_all := lw_g (lw_at lw_m2 11 rfl) rfl
theorem q290 : (Jvm.Cond.methodLink "Countcote" (59 : Nat) ({ cls := "Countcote", name := "needNumber", desc := "(III)V" } : Jvm.MethodName)) ∈ lw_all := lw_g (lw_at lw_m2 23 rfl) rfl
theorem q291 : (Jvm.Cond.static ({ cls := "Countcote", name := "needNumber", desc := "(III)V" } : Jvm.MethodName)) ∈ lw_all := lw_g (lw_at lw_m2 24 rfl) rfl
theorem q292 : (Jvm.Cond.code ({ cls := "Countcote", name := "needNumber", desc := "(III)V" } : Jvm.MethodName) prog_1_method_6_code (3 : Nat) (Option.none : Option Jvm.ClassFile.FieldType)) ∈ lw_all := lw_g (lw_at lw_m2 25 rfl) rfl
theorem q293 : (Jvm.Cond.classLink "Countcote" (52 : Nat) "java/lang/IllegalArgumentException") ∈ lw_all := lw_g (lw_at lw_m2 26 rfl) rfl
theorem q302 : (Jvm.Cond.methodLink "Countcote" (54 : Nat) ({ cls := "java/lang/IllegalArgumentException", name := "<init>", desc := "()V" } : Jvm.MethodName)) ∈ lw_all := lw_g (lw_at lw_m2 35 rfl) rfl
theorem q308 : (Jvm.Cond.constant "Countcote" (71 : Nat) (1000000 : Int32)) ∈ lw_all := lw_g (lw_at lw_m2 41 rfl) rfl
theorem q309 : (Jvm.Cond.classLink "Countcote" (72 : Nat) "java/lang/IllegalStateException") ∈ lw_all := lw_g (lw_at lw_m2 42 rfl) rfl
theorem q318 : (Jvm.Cond.methodLink "Countcote" (74 : Nat) ({ cls := "java/lang/IllegalStateException", name := "<init>", desc := "()V" } : Jvm.MethodName)) ∈ lw_all := lw_g (lw_at lw_m2 51 rfl) rfl
theorem q324 : (Jvm.Cond.methodLink "Countcote" (75 : Nat) ({ cls := "Countcote$Stream", name := "add", desc := "(II)V" } : Jvm.MethodName)) ∈ lw_all := lw_g (lw_at lw_m2 57 rfl) rfl
theorem q344 : (Jvm.Cond.privateMethod ({ cls := "Countcote", name := "signOf", desc := "(II)I" } : Jvm.MethodName)) ∈ lw_tbl := lw_at lw_m2 77 rfl
theorem q345 : (Jvm.Cond.instanceMethod ({ cls := "Countcote", name := "signOf", desc := "(II)I" } : Jvm.MethodName)) ∈ lw_all := lw_g (lw_at lw_m2 78 rfl) rfl
theorem q346 : (Jvm.Cond.code ({ cls := "Countcote", name := "signOf", desc := "(II)I" } : Jvm.MethodName) prog_1_method_3_code (3 : Nat) (Option.some Jvm.ClassFile.FieldType.int)) ∈ lw_all := lw_g (lw_at lw_m2 79 rfl) rfl
theorem q347 : (Jvm.Cond.interfaceEntry "Countcote" (7 : Nat)) ∈ lw_tbl := lw_at lw_m2 80 rfl
theorem q348 : (Jvm.Cond.methodLink "Countcote" (7 : Nat) ({ cls := "Countcote$Hash", name := "of", desc := "(I)I" } : Jvm.MethodName)) ∈ lw_all := lw_g (lw_at lw_m2 81 rfl) rfl
theorem q394 : (Jvm.Cond.fieldLink "Countcote" (167 : Nat) "Countcote$Counter" "item" "I") ∈ lw_all := lw_g (lw_at lw_m2 127 rfl) rfl
theorem q397 : (Jvm.Cond.fieldLink "Countcote" (174 : Nat) "Countcote$Counter" "weight" "I") ∈ lw_all := lw_g (lw_at lw_m2 130 rfl) rfl
theorem q438 : (Jvm.Cond.selects "Countcote" ({ cls := "java/lang/Object", name := "getClass", desc := "()Ljava/lang/Class;" } : Jvm.MethodName) ({ cls := "java/lang/Object", name := "getClass", desc := "()Ljava/lang/Class;" } : Jvm.MethodName)) ∈ lw_all := lw_g (lw_at lw_m2 171 rfl) rfl
theorem q486 : (Jvm.Cond.instanceMethod ({ cls := "Countcote", name := "merge", desc := "(II)I" } : Jvm.MethodName)) ∈ lw_all := lw_g (lw_at lw_m2 219 rfl) rfl
theorem q487 : (Jvm.Cond.selects "Countcote" ({ cls := "Countcote", name := "merge", desc := "(II)I" } : Jvm.MethodName) ({ cls := "Countcote", name := "merge", desc := "(II)I" } : Jvm.MethodName)) ∈ lw_all := lw_g (lw_at lw_m2 220 rfl) rfl
theorem q488 : (Jvm.Cond.code ({ cls := "Countcote", name := "merge", desc := "(II)I" } : Jvm.MethodName) prog_1_method_10_code (5 : Nat) (Option.some Jvm.ClassFile.FieldType.int)) ∈ lw_all := lw_g (lw_at lw_m2 221 rfl) rfl
theorem q489 : (Jvm.Cond.methodLink "Countcote" (78 : Nat) ({ cls := "Countcote$Stream", name := "merge", desc := "(LCountcote$Stream;)V" } : Jvm.MethodName)) ∈ lw_all := lw_g (lw_at lw_m2 222 rfl) rfl
theorem q494 : (Jvm.Cond.static ({ cls := "Countcote", name := "addTo", desc := "([I[I)V" } : Jvm.MethodName)) ∈ lw_all := lw_g (lw_at lw_m2 227 rfl) rfl
theorem q495 : (Jvm.Cond.code ({ cls := "Countcote", name := "addTo", desc := "([I[I)V" } : Jvm.MethodName) prog_1_method_1_code (3 : Nat) (Option.none : Option Jvm.ClassFile.FieldType)) ∈ lw_all := lw_g (lw_at lw_m2 228 rfl) rfl
theorem q497 : (Jvm.Cond.static ({ cls := "Countcote", name := "ordered", desc := "([I)[I" } : Jvm.MethodName)) ∈ lw_all := lw_g (lw_at lw_m2 230 rfl) rfl
theorem q498 : (Jvm.Cond.code ({ cls := "Countcote", name := "ordered", desc := "([I)[I" } : Jvm.MethodName) prog_1_method_2_code (4 : Nat) (Option.some (Jvm.ClassFile.FieldType.array Jvm.ClassFile.FieldType.int))) ∈ lw_all := lw_g (lw_at lw_m2 231 rfl) rfl
theorem q503 : (Jvm.Cond.instanceMethod ({ cls := "Countcote", name := "clear", desc := "(I)I" } : Jvm.MethodName)) ∈ lw_all := lw_g (lw_at lw_m2 236 rfl) rfl
theorem q504 : (Jvm.Cond.selects "Countcote" ({ cls := "Countcote", name := "clear", desc := "(I)I" } : Jvm.MethodName) ({ cls := "Countcote", name := "clear", desc := "(I)I" } : Jvm.MethodName)) ∈ lw_all := lw_g (lw_at lw_m2 237 rfl) rfl
theorem q505 : (Jvm.Cond.code ({ cls := "Countcote", name := "clear", desc := "(I)I" } : Jvm.MethodName) prog_1_method_11_code (3 : Nat) (Option.some Jvm.ClassFile.FieldType.int)) ∈ lw_all := lw_g (lw_at lw_m2 238 rfl) rfl
theorem q510 : (Jvm.Cond.instanceMethod ({ cls := "Countcote", name := "total", desc := "(I)I" } : Jvm.MethodName)) ∈ lw_all := lw_g (lw_at lw_m3 3 rfl) rfl
theorem q511 : (Jvm.Cond.selects "Countcote" ({ cls := "Countcote", name := "total", desc := "(I)I" } : Jvm.MethodName) ({ cls := "Countcote", name := "total", desc := "(I)I" } : Jvm.MethodName)) ∈ lw_all := lw_g (lw_at lw_m3 4 rfl) rfl
theorem q512 : (Jvm.Cond.code ({ cls := "Countcote", name := "total", desc := "(I)I" } : Jvm.MethodName) prog_1_method_12_code (2 : Nat) (Option.some Jvm.ClassFile.FieldType.int)) ∈ lw_all := lw_g (lw_at lw_m3 5 rfl) rfl
theorem q517 : (Jvm.Cond.instanceMethod ({ cls := "Countcote", name := "count", desc := "(II)I" } : Jvm.MethodName)) ∈ lw_all := lw_g (lw_at lw_m3 10 rfl) rfl
theorem q518 : (Jvm.Cond.selects "Countcote" ({ cls := "Countcote", name := "count", desc := "(II)I" } : Jvm.MethodName) ({ cls := "Countcote", name := "count", desc := "(II)I" } : Jvm.MethodName)) ∈ lw_all := lw_g (lw_at lw_m3 11 rfl) rfl
theorem q519 : (Jvm.Cond.code ({ cls := "Countcote", name := "count", desc := "(II)I" } : Jvm.MethodName) prog_1_method_13_code (4 : Nat) (Option.some Jvm.ClassFile.FieldType.int)) ∈ lw_all := lw_g (lw_at lw_m3 12 rfl) rfl
theorem q524 : (Jvm.Cond.instanceMethod ({ cls := "Countcote", name := "countOfRange", desc := "(III)I" } : Jvm.MethodName)) ∈ lw_all := lw_g (lw_at lw_m3 17 rfl) rfl
theorem q525 : (Jvm.Cond.selects "Countcote" ({ cls := "Countcote", name := "countOfRange", desc := "(III)I" } : Jvm.MethodName) ({ cls := "Countcote", name := "countOfRange", desc := "(III)I" } : Jvm.MethodName)) ∈ lw_all := lw_g (lw_at lw_m3 18 rfl) rfl
theorem q526 : (Jvm.Cond.code ({ cls := "Countcote", name := "countOfRange", desc := "(III)I" } : Jvm.MethodName) prog_1_method_14_code (7 : Nat) (Option.some Jvm.ClassFile.FieldType.int)) ∈ lw_all := lw_g (lw_at lw_m3 19 rfl) rfl
theorem q527 : (Jvm.Cond.methodLink "Countcote" (86 : Nat) ({ cls := "Countcote", name := "needRange", desc := "(II)V" } : Jvm.MethodName)) ∈ lw_all := lw_g (lw_at lw_m3 20 rfl) rfl
theorem q528 : (Jvm.Cond.static ({ cls := "Countcote", name := "needRange", desc := "(II)V" } : Jvm.MethodName)) ∈ lw_all := lw_g (lw_at lw_m3 21 rfl) rfl
theorem q529 : (Jvm.Cond.code ({ cls := "Countcote", name := "needRange", desc := "(II)V" } : Jvm.MethodName) prog_1_method_8_code (2 : Nat) (Option.none : Option Jvm.ClassFile.FieldType)) ∈ lw_all := lw_g (lw_at lw_m3 22 rfl) rfl
theorem q534 : (Jvm.Cond.instanceMethod ({ cls := "Countcote", name := "product", desc := "(II)J" } : Jvm.MethodName)) ∈ lw_all := lw_g (lw_at lw_m3 27 rfl) rfl
theorem q535 : (Jvm.Cond.selects "Countcote" ({ cls := "Countcote", name := "product", desc := "(II)J" } : Jvm.MethodName) ({ cls := "Countcote", name := "product", desc := "(II)J" } : Jvm.MethodName)) ∈ lw_all := lw_g (lw_at lw_m3 28 rfl) rfl
theorem q536 : (Jvm.Cond.code ({ cls := "Countcote", name := "product", desc := "(II)J" } : Jvm.MethodName) prog_1_method_15_code (8 : Nat) (Option.some Jvm.ClassFile.FieldType.long)) ∈ lw_all := lw_g (lw_at lw_m3 29 rfl) rfl
theorem q541 : (Jvm.Cond.instanceMethod ({ cls := "Countcote", name := "column", desc := "(II)I" } : Jvm.MethodName)) ∈ lw_all := lw_g (lw_at lw_m3 34 rfl) rfl
theorem q542 : (Jvm.Cond.selects "Countcote" ({ cls := "Countcote", name := "column", desc := "(II)I" } : Jvm.MethodName) ({ cls := "Countcote", name := "column", desc := "(II)I" } : Jvm.MethodName)) ∈ lw_all := lw_g (lw_at lw_m3 35 rfl) rfl
theorem q543 : (Jvm.Cond.code ({ cls := "Countcote", name := "column", desc := "(II)I" } : Jvm.MethodName) prog_1_method_16_code (3 : Nat) (Option.some Jvm.ClassFile.FieldType.int)) ∈ lw_all := lw_g (lw_at lw_m3 36 rfl) rfl
theorem q548 : (Jvm.Cond.instanceMethod ({ cls := "Countcote", name := "cell", desc := "(IIII)I" } : Jvm.MethodName)) ∈ lw_all := lw_g (lw_at lw_m3 41 rfl) rfl
theorem q549 : (Jvm.Cond.selects "Countcote" ({ cls := "Countcote", name := "cell", desc := "(IIII)I" } : Jvm.MethodName) ({ cls := "Countcote", name := "cell", desc := "(IIII)I" } : Jvm.MethodName)) ∈ lw_all := lw_g (lw_at lw_m3 42 rfl) rfl
theorem q550 : (Jvm.Cond.code ({ cls := "Countcote", name := "cell", desc := "(IIII)I" } : Jvm.MethodName) prog_1_method_17_code (6 : Nat) (Option.some Jvm.ClassFile.FieldType.int)) ∈ lw_all := lw_g (lw_at lw_m3 43 rfl) rfl
theorem q555 : (Jvm.Cond.instanceMethod ({ cls := "Countcote", name := "estimate", desc := "(III)I" } : Jvm.MethodName)) ∈ lw_all := lw_g (lw_at lw_m3 48 rfl) rfl
theorem q556 : (Jvm.Cond.selects "Countcote" ({ cls := "Countcote", name := "estimate", desc := "(III)I" } : Jvm.MethodName) ({ cls := "Countcote", name := "estimate", desc := "(III)I" } : Jvm.MethodName)) ∈ lw_all := lw_g (lw_at lw_m3 49 rfl) rfl
theorem q557 : (Jvm.Cond.code ({ cls := "Countcote", name := "estimate", desc := "(III)I" } : Jvm.MethodName) prog_1_method_18_code (5 : Nat) (Option.some Jvm.ClassFile.FieldType.int)) ∈ lw_all := lw_g (lw_at lw_m3 50 rfl) rfl
theorem q558 : (Jvm.Cond.methodLink "Countcote" (93 : Nat) ({ cls := "Countcote$Stream", name := "estimate", desc := "(II)I" } : Jvm.MethodName)) ∈ lw_all := lw_g (lw_at lw_m3 51 rfl) rfl
theorem q563 : (Jvm.Cond.instanceMethod ({ cls := "Countcote", name := "share", desc := "(II)D" } : Jvm.MethodName)) ∈ lw_all := lw_g (lw_at lw_m3 56 rfl) rfl
theorem q564 : (Jvm.Cond.selects "Countcote" ({ cls := "Countcote", name := "share", desc := "(II)D" } : Jvm.MethodName) ({ cls := "Countcote", name := "share", desc := "(II)D" } : Jvm.MethodName)) ∈ lw_all := lw_g (lw_at lw_m3 57 rfl) rfl
theorem q565 : (Jvm.Cond.code ({ cls := "Countcote", name := "share", desc := "(II)D" } : Jvm.MethodName) prog_1_method_19_code (4 : Nat) (Option.some Jvm.ClassFile.FieldType.double)) ∈ lw_all := lw_g (lw_at lw_m3 58 rfl) rfl
theorem q570 : (Jvm.Cond.instanceMethod ({ cls := "Countcote", name := "parts", desc := "(II)I" } : Jvm.MethodName)) ∈ lw_all := lw_g (lw_at lw_m3 63 rfl) rfl
theorem q571 : (Jvm.Cond.selects "Countcote" ({ cls := "Countcote", name := "parts", desc := "(II)I" } : Jvm.MethodName) ({ cls := "Countcote", name := "parts", desc := "(II)I" } : Jvm.MethodName)) ∈ lw_all := lw_g (lw_at lw_m3 64 rfl) rfl
theorem q572 : (Jvm.Cond.code ({ cls := "Countcote", name := "parts", desc := "(II)I" } : Jvm.MethodName) prog_1_method_20_code (6 : Nat) (Option.some Jvm.ClassFile.FieldType.int)) ∈ lw_all := lw_g (lw_at lw_m3 65 rfl) rfl
theorem q573 : (Jvm.Cond.classLink "Countcote" (97 : Nat) "Countcote$Parts") ∈ lw_all := lw_g (lw_at lw_m3 66 rfl) rfl
theorem q575 : (Jvm.Cond.methodLink "Countcote" (99 : Nat) ({ cls := "Countcote$Parts", name := "<init>", desc := "(II)V" } : Jvm.MethodName)) ∈ lw_all := lw_g (lw_at lw_m3 68 rfl) rfl
theorem q588 : (Jvm.Cond.methodLink "Countcote" (101 : Nat) ({ cls := "Countcote$Parts", name := "iterator", desc := "()Ljava/util/Iterator;" } : Jvm.MethodName)) ∈ lw_all := lw_g (lw_at lw_m3 81 rfl) rfl
theorem q605 : (Jvm.Cond.interfaceEntry "Countcote" (105 : Nat)) ∈ lw_tbl := lw_at lw_m3 98 rfl
theorem q606 : (Jvm.Cond.methodLink "Countcote" (105 : Nat) ({ cls := "java/util/Iterator", name := "hasNext", desc := "()Z" } : Jvm.MethodName)) ∈ lw_all := lw_g (lw_at lw_m3 99 rfl) rfl
theorem q615 : (Jvm.Cond.interfaceEntry "Countcote" (111 : Nat)) ∈ lw_tbl := lw_at lw_m3 108 rfl
theorem q616 : (Jvm.Cond.methodLink "Countcote" (111 : Nat) ({ cls := "java/util/Iterator", name := "next", desc := "()Ljava/lang/Object;" } : Jvm.MethodName)) ∈ lw_all := lw_g (lw_at lw_m3 109 rfl) rfl
theorem q664 : (Jvm.Cond.classLink "Countcote" (115 : Nat) "Countcote$Half") ∈ lw_all := lw_g (lw_at lw_m3 157 rfl) rfl
theorem q665 : (Jvm.Cond.methodLink "Countcote" (117 : Nat) ({ cls := "Countcote$Half", name := "first", desc := "()I" } : Jvm.MethodName)) ∈ lw_all := lw_g (lw_at lw_m3 158 rfl) rfl
theorem q669 : (Jvm.Cond.methodLink "Countcote" (121 : Nat) ({ cls := "Countcote$Half", name := "behind", desc := "()I" } : Jvm.MethodName)) ∈ lw_all := lw_g (lw_at lw_m3 162 rfl) rfl
theorem q674 : (Jvm.Cond.instanceMethod ({ cls := "Countcote", name := "estimateOfRange", desc := "(III)I" } : Jvm.MethodName)) ∈ lw_all := lw_g (lw_at lw_m3 167 rfl) rfl
theorem q675 : (Jvm.Cond.selects "Countcote" ({ cls := "Countcote", name := "estimateOfRange", desc := "(III)I" } : Jvm.MethodName) ({ cls := "Countcote", name := "estimateOfRange", desc := "(III)I" } : Jvm.MethodName)) ∈ lw_all := lw_g (lw_at lw_m3 168 rfl) rfl
theorem q676 : (Jvm.Cond.code ({ cls := "Countcote", name := "estimateOfRange", desc := "(III)I" } : Jvm.MethodName) prog_1_method_21_code (8 : Nat) (Option.some Jvm.ClassFile.FieldType.int)) ∈ lw_all := lw_g (lw_at lw_m3 169 rfl) rfl
theorem q677 : (Jvm.Cond.methodLink "Countcote" (124 : Nat) ({ cls := "Countcote$Half", name := "level", desc := "()I" } : Jvm.MethodName)) ∈ lw_all := lw_g (lw_at lw_m3 170 rfl) rfl
theorem q681 : (Jvm.Cond.methodLink "Countcote" (127 : Nat) ({ cls := "Countcote$Half", name := "number", desc := "()I" } : Jvm.MethodName)) ∈ lw_all := lw_g (lw_at lw_m3 174 rfl) rfl
theorem q689 : (Jvm.Cond.instanceMethod ({ cls := "Countcote", name := "frequent", desc := "(II)I" } : Jvm.MethodName)) ∈ lw_all := lw_g (lw_at lw_m3 182 rfl) rfl
theorem q690 : (Jvm.Cond.selects "Countcote" ({ cls := "Countcote", name := "frequent", desc := "(II)I" } : Jvm.MethodName) ({ cls := "Countcote", name := "frequent", desc := "(II)I" } : Jvm.MethodName)) ∈ lw_all := lw_g (lw_at lw_m3 183 rfl) rfl
theorem q691 : (Jvm.Cond.code ({ cls := "Countcote", name := "frequent", desc := "(II)I" } : Jvm.MethodName) prog_1_method_24_code (6 : Nat) (Option.some Jvm.ClassFile.FieldType.int)) ∈ lw_all := lw_g (lw_at lw_m3 184 rfl) rfl
theorem q692 : (Jvm.Cond.methodLink "Countcote" (134 : Nat) ({ cls := "Countcote", name := "frequentItems", desc := "(II)J" } : Jvm.MethodName)) ∈ lw_all := lw_g (lw_at lw_m3 185 rfl) rfl
theorem q693 : (Jvm.Cond.privateMethod ({ cls := "Countcote", name := "frequentItems", desc := "(II)J" } : Jvm.MethodName)) ∈ lw_tbl := lw_at lw_m3 186 rfl
theorem q694 : (Jvm.Cond.instanceMethod ({ cls := "Countcote", name := "frequentItems", desc := "(II)J" } : Jvm.MethodName)) ∈ lw_all := lw_g (lw_at lw_m3 187 rfl) rfl
theorem q695 : (Jvm.Cond.code ({ cls := "Countcote", name := "frequentItems", desc := "(II)J" } : Jvm.MethodName) prog_1_method_23_code (4 : Nat) (Option.some Jvm.ClassFile.FieldType.long)) ∈ lw_all := lw_g (lw_at lw_m3 188 rfl) rfl
theorem q696 : (Jvm.Cond.methodLink "Countcote" (130 : Nat) ({ cls := "Countcote", name := "gather", desc := "(LCountcote$Stream;III)J" } : Jvm.MethodName)) ∈ lw_all := lw_g (lw_at lw_m3 189 rfl) rfl
theorem q697 : (Jvm.Cond.privateMethod ({ cls := "Countcote", name := "gather", desc := "(LCountcote$Stream;III)J" } : Jvm.MethodName)) ∈ lw_tbl := lw_at lw_m3 190 rfl
theorem q698 : (Jvm.Cond.instanceMethod ({ cls := "Countcote", name := "gather", desc := "(LCountcote$Stream;III)J" } : Jvm.MethodName)) ∈ lw_all := lw_g (lw_at lw_m3 191 rfl) rfl
theorem q699 : (Jvm.Cond.code ({ cls := "Countcote", name := "gather", desc := "(LCountcote$Stream;III)J" } : Jvm.MethodName) prog_1_method_22_code (5 : Nat) (Option.some Jvm.ClassFile.FieldType.long)) ∈ lw_all := lw_g (lw_at lw_m3 192 rfl) rfl
theorem q705 : (Jvm.Cond.instanceMethod ({ cls := "Countcote", name := "frequentAt", desc := "(III)I" } : Jvm.MethodName)) ∈ lw_all := lw_g (lw_at lw_m3 198 rfl) rfl
theorem q706 : (Jvm.Cond.selects "Countcote" ({ cls := "Countcote", name := "frequentAt", desc := "(III)I" } : Jvm.MethodName) ({ cls := "Countcote", name := "frequentAt", desc := "(III)I" } : Jvm.MethodName)) ∈ lw_all := lw_g (lw_at lw_m3 199 rfl) rfl
theorem q707 : (Jvm.Cond.code ({ cls := "Countcote", name := "frequentAt", desc := "(III)I" } : Jvm.MethodName) prog_1_method_25_code (8 : Nat) (Option.some Jvm.ClassFile.FieldType.int)) ∈ lw_all := lw_g (lw_at lw_m3 200 rfl) rfl
theorem q708 : (Jvm.Cond.classLink "Countcote" (138 : Nat) "java/util/NoSuchElementException") ∈ lw_all := lw_g (lw_at lw_m3 201 rfl) rfl
theorem q709 : (Jvm.Cond.methodLink "Countcote" (140 : Nat) ({ cls := "java/util/NoSuchElementException", name := "<init>", desc := "()V" } : Jvm.MethodName)) ∈ lw_all := lw_g (lw_at lw_m3 202 rfl) rfl
theorem q714 : (Jvm.Cond.instanceMethod ({ cls := "Countcote", name := "itemOfRank", desc := "(II)I" } : Jvm.MethodName)) ∈ lw_all := lw_g (lw_at lw_m3 207 rfl) rfl
theorem q715 : (Jvm.Cond.selects "Countcote" ({ cls := "Countcote", name := "itemOfRank", desc := "(II)I" } : Jvm.MethodName) ({ cls := "Countcote", name := "itemOfRank", desc := "(II)I" } : Jvm.MethodName)) ∈ lw_all := lw_g (lw_at lw_m3 208 rfl) rfl
theorem q716 : (Jvm.Cond.code ({ cls := "Countcote", name := "itemOfRank", desc := "(II)I" } : Jvm.MethodName) prog_1_method_26_code (8 : Nat) (Option.some Jvm.ClassFile.FieldType.int)) ∈ lw_all := lw_g (lw_at lw_m3 209 rfl) rfl
theorem q721 : (Jvm.Cond.instanceMethod ({ cls := "Countcote", name := "signedColumn", desc := "(II)I" } : Jvm.MethodName)) ∈ lw_all := lw_g (lw_at lw_m3 214 rfl) rfl
theorem q722 : (Jvm.Cond.selects "Countcote" ({ cls := "Countcote", name := "signedColumn", desc := "(II)I" } : Jvm.MethodName) ({ cls := "Countcote", name := "signedColumn", desc := "(II)I" } : Jvm.MethodName)) ∈ lw_all := lw_g (lw_at lw_m3 215 rfl) rfl
theorem q723 : (Jvm.Cond.code ({ cls := "Countcote", name := "signedColumn", desc := "(II)I" } : Jvm.MethodName) prog_1_method_27_code (3 : Nat) (Option.some Jvm.ClassFile.FieldType.int)) ∈ lw_all := lw_g (lw_at lw_m3 216 rfl) rfl
theorem q728 : (Jvm.Cond.instanceMethod ({ cls := "Countcote", name := "sign", desc := "(II)I" } : Jvm.MethodName)) ∈ lw_all := lw_g (lw_at lw_m3 221 rfl) rfl
theorem q729 : (Jvm.Cond.selects "Countcote" ({ cls := "Countcote", name := "sign", desc := "(II)I" } : Jvm.MethodName) ({ cls := "Countcote", name := "sign", desc := "(II)I" } : Jvm.MethodName)) ∈ lw_all := lw_g (lw_at lw_m3 222 rfl) rfl
theorem q730 : (Jvm.Cond.code ({ cls := "Countcote", name := "sign", desc := "(II)I" } : Jvm.MethodName) prog_1_method_28_code (3 : Nat) (Option.some Jvm.ClassFile.FieldType.int)) ∈ lw_all := lw_g (lw_at lw_m3 223 rfl) rfl
theorem q731 : (Jvm.Cond.methodLink "Countcote" (141 : Nat) ({ cls := "Countcote", name := "signOf", desc := "(II)I" } : Jvm.MethodName)) ∈ lw_all := lw_g (lw_at lw_m3 224 rfl) rfl
theorem q736 : (Jvm.Cond.instanceMethod ({ cls := "Countcote", name := "signedCell", desc := "(III)I" } : Jvm.MethodName)) ∈ lw_all := lw_g (lw_at lw_m3 229 rfl) rfl
theorem q737 : (Jvm.Cond.selects "Countcote" ({ cls := "Countcote", name := "signedCell", desc := "(III)I" } : Jvm.MethodName) ({ cls := "Countcote", name := "signedCell", desc := "(III)I" } : Jvm.MethodName)) ∈ lw_all := lw_g (lw_at lw_m3 230 rfl) rfl
theorem q738 : (Jvm.Cond.code ({ cls := "Countcote", name := "signedCell", desc := "(III)I" } : Jvm.MethodName) prog_1_method_29_code (5 : Nat) (Option.some Jvm.ClassFile.FieldType.int)) ∈ lw_all := lw_g (lw_at lw_m3 231 rfl) rfl
theorem q743 : (Jvm.Cond.instanceMethod ({ cls := "Countcote", name := "signedEstimate", desc := "(II)I" } : Jvm.MethodName)) ∈ lw_all := lw_g (lw_at lw_m3 236 rfl) rfl
theorem q744 : (Jvm.Cond.selects "Countcote" ({ cls := "Countcote", name := "signedEstimate", desc := "(II)I" } : Jvm.MethodName) ({ cls := "Countcote", name := "signedEstimate", desc := "(II)I" } : Jvm.MethodName)) ∈ lw_all := lw_g (lw_at lw_m3 237 rfl) rfl
theorem q745 : (Jvm.Cond.code ({ cls := "Countcote", name := "signedEstimate", desc := "(II)I" } : Jvm.MethodName) prog_1_method_30_code (6 : Nat) (Option.some Jvm.ClassFile.FieldType.int)) ∈ lw_all := lw_g (lw_at lw_m3 238 rfl) rfl
theorem q746 : (Jvm.Cond.methodLink "Countcote" (148 : Nat) ({ cls := "Countcote", name := "ordered", desc := "([I)[I" } : Jvm.MethodName)) ∈ lw_all := lw_g (lw_at lw_m3 239 rfl) rfl
theorem q751 : (Jvm.Cond.instanceMethod ({ cls := "Countcote", name := "signedProduct", desc := "(II)J" } : Jvm.MethodName)) ∈ lw_all := lw_g (lw_at lw_m4 4 rfl) rfl
theorem q752 : (Jvm.Cond.selects "Countcote" ({ cls := "Countcote", name := "signedProduct", desc := "(II)J" } : Jvm.MethodName) ({ cls := "Countcote", name := "signedProduct", desc := "(II)J" } : Jvm.MethodName)) ∈ lw_all := lw_g (lw_at lw_m4 5 rfl) rfl
theorem q753 : (Jvm.Cond.code ({ cls := "Countcote", name := "signedProduct", desc := "(II)J" } : Jvm.MethodName) prog_1_method_31_code (20 : Nat) (Option.some Jvm.ClassFile.FieldType.long)) ∈ lw_all := lw_g (lw_at lw_m4 6 rfl) rfl
theorem q759 : (Jvm.Cond.instanceMethod ({ cls := "Countcote", name := "counters", desc := "(I)I" } : Jvm.MethodName)) ∈ lw_all := lw_g (lw_at lw_m4 12 rfl) rfl
theorem q760 : (Jvm.Cond.selects "Countcote" ({ cls := "Countcote", name := "counters", desc := "(I)I" } : Jvm.MethodName) ({ cls := "Countcote", name := "counters", desc := "(I)I" } : Jvm.MethodName)) ∈ lw_all := lw_g (lw_at lw_m4 13 rfl) rfl
theorem q761 : (Jvm.Cond.code ({ cls := "Countcote", name := "counters", desc := "(I)I" } : Jvm.MethodName) prog_1_method_32_code (2 : Nat) (Option.some Jvm.ClassFile.FieldType.int)) ∈ lw_all := lw_g (lw_at lw_m4 14 rfl) rfl
theorem q762 : (Jvm.Cond.interfaceEntry "Countcote" (156 : Nat)) ∈ lw_tbl := lw_at lw_m4 15 rfl
theorem q763 : (Jvm.Cond.methodLink "Countcote" (156 : Nat) ({ cls := "java/util/List", name := "size", desc := "()I" } : Jvm.MethodName)) ∈ lw_all := lw_g (lw_at lw_m4 16 rfl) rfl
theorem q768 : (Jvm.Cond.instanceMethod ({ cls := "Countcote", name := "counterItem", desc := "(II)I" } : Jvm.MethodName)) ∈ lw_all := lw_g (lw_at lw_m4 21 rfl) rfl
theorem q769 : (Jvm.Cond.selects "Countcote" ({ cls := "Countcote", name := "counterItem", desc := "(II)I" } : Jvm.MethodName) ({ cls := "Countcote", name := "counterItem", desc := "(II)I" } : Jvm.MethodName)) ∈ lw_all := lw_g (lw_at lw_m4 22 rfl) rfl
theorem q770 : (Jvm.Cond.code ({ cls := "Countcote", name := "counterItem", desc := "(II)I" } : Jvm.MethodName) prog_1_method_33_code (4 : Nat) (Option.some Jvm.ClassFile.FieldType.int)) ∈ lw_all := lw_g (lw_at lw_m4 23 rfl) rfl
theorem q771 : (Jvm.Cond.interfaceEntry "Countcote" (161 : Nat)) ∈ lw_tbl := lw_at lw_m4 24 rfl
theorem q772 : (Jvm.Cond.methodLink "Countcote" (161 : Nat) ({ cls := "java/util/List", name := "get", desc := "(I)Ljava/lang/Object;" } : Jvm.MethodName)) ∈ lw_all := lw_g (lw_at lw_m4 25 rfl) rfl
theorem q773 : (Jvm.Cond.classLink "Countcote" (165 : Nat) "Countcote$Counter") ∈ lw_all := lw_g (lw_at lw_m4 26 rfl) rfl
theorem q778 : (Jvm.Cond.instanceMethod ({ cls := "Countcote", name := "counterOf", desc := "(II)I" } : Jvm.MethodName)) ∈ lw_all := lw_g (lw_at lw_m4 31 rfl) rfl
theorem q779 : (Jvm.Cond.selects "Countcote" ({ cls := "Countcote", name := "counterOf", desc := "(II)I" } : Jvm.MethodName) ({ cls := "Countcote", name := "counterOf", desc := "(II)I" } : Jvm.MethodName)) ∈ lw_all := lw_g (lw_at lw_m4 32 rfl) rfl
theorem q780 : (Jvm.Cond.code ({ cls := "Countcote", name := "counterOf", desc := "(II)I" } : Jvm.MethodName) prog_1_method_34_code (5 : Nat) (Option.some Jvm.ClassFile.FieldType.int)) ∈ lw_all := lw_g (lw_at lw_m4 33 rfl) rfl
theorem q781 : (Jvm.Cond.methodLink "Countcote" (170 : Nat) ({ cls := "Countcote$Stream", name := "counterOf", desc := "(I)LCountcote$Counter;" } : Jvm.MethodName)) ∈ lw_all := lw_g (lw_at lw_m4 34 rfl) rfl
theorem q786 : (Jvm.Cond.instanceMethod ({ cls := "Countcote", name := "taken", desc := "(I)I" } : Jvm.MethodName)) ∈ lw_all := lw_g (lw_at lw_m4 39 rfl) rfl
theorem q787 : (Jvm.Cond.selects "Countcote" ({ cls := "Countcote", name := "taken", desc := "(I)I" } : Jvm.MethodName) ({ cls := "Countcote", name := "taken", desc := "(I)I" } : Jvm.MethodName)) ∈ lw_all := lw_g (lw_at lw_m4 40 rfl) rfl
theorem q788 : (Jvm.Cond.code ({ cls := "Countcote", name := "taken", desc := "(I)I" } : Jvm.MethodName) prog_1_method_35_code (2 : Nat) (Option.some Jvm.ClassFile.FieldType.int)) ∈ lw_all := lw_g (lw_at lw_m4 41 rfl) rfl
theorem q1026 : (Jvm.Cond.castable "Countcote" "java/lang/Object") ∈ lw_tbl := lw_at lw_m5 39 rfl
theorem in_X1 : ∀ w ∈ wsX10, w ∈ lw_all := lw_in wsX10 [166, 168, 170, 172] (by decide +kernel) (by decide +kernel)
/-! Countcote$Stream -/
set_option maxRecDepth 100000
def RX2 : String := "Countcote$Stream"
def TX2 : u_T := fun k => match k with
  | 0 => ("Countcote$Stream", "total", "I", false)
  | 1 => ("Countcote$Stream", "plain", "[I", true)
  | 2 => ("Countcote$Stream", "cells", "[[[I", true)
  | 3 => ("Countcote$Stream", "halves", "[[I", true)
  | 4 => ("Countcote$Stream", "signed", "[[I", true)
  | 5 => ("Countcote$Stream", "counters", "Ljava/util/List;", true)
  | 6 => ("Countcote$Stream", "taken", "I", false)
  | _ => ("Countcote$Stream", "this$0", "LCountcote;", true)
def tyX2 : Nat → FieldType := fun k => match k with
  | 0 => .int
  | 1 => .array .int
  | 2 => .array (.array (.array .int))
  | 3 => .array (.array .int)
  | 4 => .array (.array .int)
  | 5 => .object "java/util/List"
  | 6 => .int
  | _ => .object "Countcote"
abbrev wsX20 : List Cond := u_ws RX2 TX2 8
theorem nmX2 : ∀ a, a < 8 → ∀ b, b < 8 → a ≠ b → (TX2 a).2.1 ≠ (TX2 b).2.1 := by decide +kernel
theorem tyX2_ok : ∀ k, k < 8 → parseFieldDescriptor (TX2 k).2.2.1 = some (tyX2 k) := by decide +kernel
abbrev cX2_init : ByteArray := prog_7_method_1_code
def yX2_init : MethodName := ⟨RX2, "<init>", "(LCountcote;)V"⟩
def dkwX2_init_3 : List UInt8 := [180, 0, 25, 28, 16, 64, 28, 122, 188, 10, 83, 132, 2, 1, 167, 255, 235, 177]
abbrev dktX2_init_3 : List UInt8 := dkwX2_init_3 ++ []
def dkwX2_init_2 : List UInt8 := [181, 0, 30, 42, 187, 0, 33, 89, 183, 0, 35, 181, 0, 36, 6, 61, 28, 16, 6, 163, 0, 21, 42]
abbrev dktX2_init_2 : List UInt8 := dkwX2_init_2 ++ dktX2_init_3
def dkwX2_init_1 : List UInt8 := [197, 0, 19, 3, 181, 0, 21, 42, 16, 7, 189, 0, 24, 181, 0, 25, 42, 8, 16, 8, 197, 0, 29, 2]
abbrev dktX2_init_1 : List UInt8 := dkwX2_init_1 ++ dktX2_init_2
def dkwX2_init_0 : List UInt8 := [42, 43, 181, 0, 3, 42, 183, 0, 9, 42, 16, 64, 188, 10, 181, 0, 15, 42, 6, 6, 16, 8]
abbrev dktX2_init_0 : List UInt8 := dkwX2_init_0 ++ dktX2_init_1
theorem dksX2_init_0 : cX2_init.data.toList.drop 0 = dktX2_init_0 := by decide +kernel
theorem dksX2_init_1 : cX2_init.data.toList.drop 22 = dktX2_init_1 := dk_seg dksX2_init_0 22 rfl rfl
theorem dksX2_init_2 : cX2_init.data.toList.drop 46 = dktX2_init_2 := dk_seg dksX2_init_1 24 rfl rfl
theorem dksX2_init_3 : cX2_init.data.toList.drop 69 = dktX2_init_3 := dk_seg dksX2_init_2 23 rfl rfl
theorem dX2_init_0 : decode cX2_init 0 = .ok (.aload_n 0, 1) := dk_42 (dk_at dksX2_init_0 0 rfl rfl)
theorem dX2_init_1 : decode cX2_init 1 = .ok (.aload_n 1, 1) := dk_43 (dk_at dksX2_init_0 1 rfl rfl)
theorem dX2_init_2 : decode cX2_init 2 = .ok (.putfield 3, 3) := dk_181 0 3 (dk_at dksX2_init_0 2 rfl rfl)
theorem dX2_init_5 : decode cX2_init 5 = .ok (.aload_n 0, 1) := dk_42 (dk_at dksX2_init_0 5 rfl rfl)
theorem dX2_init_6 : decode cX2_init 6 = .ok (.invokespecial 9, 3) := dk_183 0 9 (dk_at dksX2_init_0 6 rfl rfl)
theorem dX2_init_9 : decode cX2_init 9 = .ok (.aload_n 0, 1) := dk_42 (dk_at dksX2_init_0 9 rfl rfl)
theorem dX2_init_10 : decode cX2_init 10 = .ok (.bipush 64, 2) := dk_16 64 (dk_at dksX2_init_0 10 rfl rfl)
theorem dX2_init_12 : decode cX2_init 12 = .ok (.newarray .int, 2) := dk_188_10 (dk_at dksX2_init_0 12 rfl rfl)
theorem dX2_init_14 : decode cX2_init 14 = .ok (.putfield 15, 3) := dk_181 0 15 (dk_at dksX2_init_0 14 rfl rfl)
theorem dX2_init_17 : decode cX2_init 17 = .ok (.aload_n 0, 1) := dk_42 (dk_at dksX2_init_0 17 rfl rfl)
theorem dX2_init_18 : decode cX2_init 18 = .ok (.iconst 3, 1) := dk_6 (dk_at dksX2_init_0 18 rfl rfl)
theorem dX2_init_19 : decode cX2_init 19 = .ok (.iconst 3, 1) := dk_6 (dk_at dksX2_init_0 19 rfl rfl)
theorem dX2_init_20 : decode cX2_init 20 = .ok (.bipush 8, 2) := dk_16 8 (dk_at dksX2_init_0 20 rfl rfl)
theorem dX2_init_22 : decode cX2_init 22 = .ok (.multianewarray 19 3, 4) := by decide +kernel
theorem dX2_init_26 : decode cX2_init 26 = .ok (.putfield 21, 3) := dk_181 0 21 (dk_at dksX2_init_1 4 rfl rfl)
theorem dX2_init_29 : decode cX2_init 29 = .ok (.aload_n 0, 1) := dk_42 (dk_at dksX2_init_1 7 rfl rfl)
theorem dX2_init_30 : decode cX2_init 30 = .ok (.bipush 7, 2) := dk_16 7 (dk_at dksX2_init_1 8 rfl rfl)
theorem dX2_init_32 : decode cX2_init 32 = .ok (.anewarray 24, 3) := dk_189 0 24 (dk_at dksX2_init_1 10 rfl rfl)
theorem dX2_init_35 : decode cX2_init 35 = .ok (.putfield 25, 3) := dk_181 0 25 (dk_at dksX2_init_1 13 rfl rfl)
theorem dX2_init_38 : decode cX2_init 38 = .ok (.aload_n 0, 1) := dk_42 (dk_at dksX2_init_1 16 rfl rfl)
theorem dX2_init_39 : decode cX2_init 39 = .ok (.iconst 5, 1) := dk_8 (dk_at dksX2_init_1 17 rfl rfl)
theorem dX2_init_40 : decode cX2_init 40 = .ok (.bipush 8, 2) := dk_16 8 (dk_at dksX2_init_1 18 rfl rfl)
theorem dX2_init_42 : decode cX2_init 42 = .ok (.multianewarray 29 2, 4) := by decide +kernel
theorem dX2_init_46 : decode cX2_init 46 = .ok (.putfield 30, 3) := dk_181 0 30 (dk_at dksX2_init_2 0 rfl rfl)
theorem dX2_init_49 : decode cX2_init 49 = .ok (.aload_n 0, 1) := dk_42 (dk_at dksX2_init_2 3 rfl rfl)
theorem dX2_init_50 : decode cX2_init 50 = .ok (.new 33, 3) := dk_187 0 33 (dk_at dksX2_init_2 4 rfl rfl)
theorem dX2_init_53 : decode cX2_init 53 = .ok (.dup, 1) := dk_89 (dk_at dksX2_init_2 7 rfl rfl)
theorem dX2_init_54 : decode cX2_init 54 = .ok (.invokespecial 35, 3) := dk_183 0 35 (dk_at dksX2_init_2 8 rfl rfl)
theorem dX2_init_57 : decode cX2_init 57 = .ok (.putfield 36, 3) := dk_181 0 36 (dk_at dksX2_init_2 11 rfl rfl)
theorem dX2_init_60 : decode cX2_init 60 = .ok (.iconst 3, 1) := dk_6 (dk_at dksX2_init_2 14 rfl rfl)
theorem dX2_init_61 : decode cX2_init 61 = .ok (.istore_n 2, 1) := dk_61 (dk_at dksX2_init_2 15 rfl rfl)
theorem dX2_init_62 : decode cX2_init 62 = .ok (.iload_n 2, 1) := dk_28 (dk_at dksX2_init_2 16 rfl rfl)
theorem dX2_init_63 : decode cX2_init 63 = .ok (.bipush 6, 2) := dk_16 6 (dk_at dksX2_init_2 17 rfl rfl)
theorem dX2_init_65 : decode cX2_init 65 = .ok (.if_icmp .gt 21, 3) := dk_163 0 21 (dk_at dksX2_init_2 19 rfl rfl)
theorem dX2_init_68 : decode cX2_init 68 = .ok (.aload_n 0, 1) := dk_42 (dk_at dksX2_init_2 22 rfl rfl)
theorem dX2_init_69 : decode cX2_init 69 = .ok (.getfield 25, 3) := dk_180 0 25 (dk_at dksX2_init_3 0 rfl rfl)
theorem dX2_init_72 : decode cX2_init 72 = .ok (.iload_n 2, 1) := dk_28 (dk_at dksX2_init_3 3 rfl rfl)
theorem dX2_init_73 : decode cX2_init 73 = .ok (.bipush 64, 2) := dk_16 64 (dk_at dksX2_init_3 4 rfl rfl)
theorem dX2_init_75 : decode cX2_init 75 = .ok (.iload_n 2, 1) := dk_28 (dk_at dksX2_init_3 6 rfl rfl)
theorem dX2_init_76 : decode cX2_init 76 = .ok (.ishr, 1) := dk_122 (dk_at dksX2_init_3 7 rfl rfl)
theorem dX2_init_77 : decode cX2_init 77 = .ok (.newarray .int, 2) := dk_188_10 (dk_at dksX2_init_3 8 rfl rfl)
theorem dX2_init_79 : decode cX2_init 79 = .ok (.aastore, 1) := dk_83 (dk_at dksX2_init_3 10 rfl rfl)
theorem dX2_init_80 : decode cX2_init 80 = .ok (.iinc 2 1, 3) := dk_132 2 1 (dk_at dksX2_init_3 11 rfl rfl)
theorem dX2_init_83 : decode cX2_init 83 = .ok (.goto (-21), 3) := dk_167 255 235 (dk_at dksX2_init_3 14 rfl rfl)
theorem dX2_init_86 : decode cX2_init 86 = .ok (.return_, 1) := dk_177 (dk_at dksX2_init_3 17 rfl rfl)
abbrev cX2_add : ByteArray := prog_7_method_3_code
def yX2_add : MethodName := ⟨RX2, "add", "(II)V"⟩
def dkwX2_add_8 : List UInt8 := [177]
abbrev dktX2_add_8 : List UInt8 := dkwX2_add_8 ++ []
def dkwX2_add_7 : List UInt8 := [180, 0, 3, 29, 27, 182, 0, 72, 28, 104, 96, 79, 132, 3, 1, 167, 255, 212, 42, 27, 28, 182, 0, 75]
abbrev dktX2_add_7 : List UInt8 := dkwX2_add_7 ++ dktX2_add_8
def dkwX2_add_6 : List UInt8 := [180, 0, 30, 29, 50, 42, 180, 0, 3, 180, 0, 69, 29, 50, 27, 185, 0, 47, 2, 0, 92, 46, 42]
abbrev dktX2_add_6 : List UInt8 := dkwX2_add_6 ++ dktX2_add_7
def dkwX2_add_5 : List UInt8 := [184, 0, 66, 79, 132, 6, 1, 167, 255, 199, 132, 3, 1, 167, 255, 147, 3, 62, 29, 8, 162, 0, 45, 42]
abbrev dktX2_add_5 : List UInt8 := dkwX2_add_5 ++ dktX2_add_6
def dkwX2_add_4 : List UInt8 := [180, 0, 21, 29, 50, 21, 6, 50, 21, 7, 42, 180, 0, 21, 29, 50, 21, 6, 50, 21, 7, 46, 21, 5]
abbrev dktX2_add_4 : List UInt8 := dkwX2_add_4 ++ dktX2_add_5
def dkwX2_add_3 : List UInt8 := [162, 0, 57, 42, 180, 0, 3, 180, 0, 43, 21, 6, 50, 21, 4, 185, 0, 47, 2, 0, 54, 7, 42]
abbrev dktX2_add_3 : List UInt8 := dkwX2_add_3 ++ dktX2_add_4
def dkwX2_add_2 : List UInt8 := [46, 28, 96, 79, 167, 0, 77, 42, 29, 21, 4, 182, 0, 63, 28, 96, 54, 5, 3, 54, 6, 21, 6, 6]
abbrev dktX2_add_2 : List UInt8 := dkwX2_add_2 ++ dktX2_add_3
def dkwX2_add_1 : List UInt8 := [16, 6, 163, 0, 109, 27, 29, 122, 54, 4, 29, 6, 161, 0, 19, 42, 180, 0, 25, 29, 50, 21, 4, 92]
abbrev dktX2_add_1 : List UInt8 := dkwX2_add_1 ++ dktX2_add_2
def dkwX2_add_0 : List UInt8 := [42, 89, 180, 0, 59, 28, 96, 181, 0, 59, 42, 180, 0, 15, 27, 92, 46, 28, 96, 79, 3, 62, 29]
abbrev dktX2_add_0 : List UInt8 := dkwX2_add_0 ++ dktX2_add_1
theorem dksX2_add_0 : cX2_add.data.toList.drop 0 = dktX2_add_0 := by decide +kernel
theorem dksX2_add_1 : cX2_add.data.toList.drop 23 = dktX2_add_1 := dk_seg dksX2_add_0 23 rfl rfl
theorem dksX2_add_2 : cX2_add.data.toList.drop 47 = dktX2_add_2 := dk_seg dksX2_add_1 24 rfl rfl
theorem dksX2_add_3 : cX2_add.data.toList.drop 71 = dktX2_add_3 := dk_seg dksX2_add_2 24 rfl rfl
theorem dksX2_add_4 : cX2_add.data.toList.drop 94 = dktX2_add_4 := dk_seg dksX2_add_3 23 rfl rfl
theorem dksX2_add_5 : cX2_add.data.toList.drop 118 = dktX2_add_5 := dk_seg dksX2_add_4 24 rfl rfl
theorem dksX2_add_6 : cX2_add.data.toList.drop 142 = dktX2_add_6 := dk_seg dksX2_add_5 24 rfl rfl
theorem dksX2_add_7 : cX2_add.data.toList.drop 165 = dktX2_add_7 := dk_seg dksX2_add_6 23 rfl rfl
theorem dksX2_add_8 : cX2_add.data.toList.drop 189 = dktX2_add_8 := dk_seg dksX2_add_7 24 rfl rfl
theorem dX2_add_0 : decode cX2_add 0 = .ok (.aload_n 0, 1) := dk_42 (dk_at dksX2_add_0 0 rfl rfl)
theorem dX2_add_1 : decode cX2_add 1 = .ok (.dup, 1) := dk_89 (dk_at dksX2_add_0 1 rfl rfl)
theorem dX2_add_2 : decode cX2_add 2 = .ok (.getfield 59, 3) := dk_180 0 59 (dk_at dksX2_add_0 2 rfl rfl)
theorem dX2_add_5 : decode cX2_add 5 = .ok (.iload_n 2, 1) := dk_28 (dk_at dksX2_add_0 5 rfl rfl)
theorem dX2_add_6 : decode cX2_add 6 = .ok (.iadd, 1) := dk_96 (dk_at dksX2_add_0 6 rfl rfl)
theorem dX2_add_7 : decode cX2_add 7 = .ok (.putfield 59, 3) := dk_181 0 59 (dk_at dksX2_add_0 7 rfl rfl)
theorem dX2_add_10 : decode cX2_add 10 = .ok (.aload_n 0, 1) := dk_42 (dk_at dksX2_add_0 10 rfl rfl)
theorem dX2_add_11 : decode cX2_add 11 = .ok (.getfield 15, 3) := dk_180 0 15 (dk_at dksX2_add_0 11 rfl rfl)
theorem dX2_add_14 : decode cX2_add 14 = .ok (.iload_n 1, 1) := dk_27 (dk_at dksX2_add_0 14 rfl rfl)
theorem dX2_add_15 : decode cX2_add 15 = .ok (.dup2, 1) := dk_92 (dk_at dksX2_add_0 15 rfl rfl)
theorem dX2_add_16 : decode cX2_add 16 = .ok (.iaload, 1) := dk_46 (dk_at dksX2_add_0 16 rfl rfl)
theorem dX2_add_17 : decode cX2_add 17 = .ok (.iload_n 2, 1) := dk_28 (dk_at dksX2_add_0 17 rfl rfl)
theorem dX2_add_18 : decode cX2_add 18 = .ok (.iadd, 1) := dk_96 (dk_at dksX2_add_0 18 rfl rfl)
theorem dX2_add_19 : decode cX2_add 19 = .ok (.iastore, 1) := dk_79 (dk_at dksX2_add_0 19 rfl rfl)
theorem dX2_add_20 : decode cX2_add 20 = .ok (.iconst 0, 1) := dk_3 (dk_at dksX2_add_0 20 rfl rfl)
theorem dX2_add_21 : decode cX2_add 21 = .ok (.istore_n 3, 1) := dk_62 (dk_at dksX2_add_0 21 rfl rfl)
theorem dX2_add_22 : decode cX2_add 22 = .ok (.iload_n 3, 1) := dk_29 (dk_at dksX2_add_0 22 rfl rfl)
theorem dX2_add_23 : decode cX2_add 23 = .ok (.bipush 6, 2) := dk_16 6 (dk_at dksX2_add_1 0 rfl rfl)
theorem dX2_add_25 : decode cX2_add 25 = .ok (.if_icmp .gt 109, 3) := dk_163 0 109 (dk_at dksX2_add_1 2 rfl rfl)
theorem dX2_add_28 : decode cX2_add 28 = .ok (.iload_n 1, 1) := dk_27 (dk_at dksX2_add_1 5 rfl rfl)
theorem dX2_add_29 : decode cX2_add 29 = .ok (.iload_n 3, 1) := dk_29 (dk_at dksX2_add_1 6 rfl rfl)
theorem dX2_add_30 : decode cX2_add 30 = .ok (.ishr, 1) := dk_122 (dk_at dksX2_add_1 7 rfl rfl)
theorem dX2_add_31 : decode cX2_add 31 = .ok (.istore 4, 2) := dk_54 4 (dk_at dksX2_add_1 8 rfl rfl)
theorem dX2_add_33 : decode cX2_add 33 = .ok (.iload_n 3, 1) := dk_29 (dk_at dksX2_add_1 10 rfl rfl)
theorem dX2_add_34 : decode cX2_add 34 = .ok (.iconst 3, 1) := dk_6 (dk_at dksX2_add_1 11 rfl rfl)
theorem dX2_add_35 : decode cX2_add 35 = .ok (.if_icmp .lt 19, 3) := dk_161 0 19 (dk_at dksX2_add_1 12 rfl rfl)
theorem dX2_add_38 : decode cX2_add 38 = .ok (.aload_n 0, 1) := dk_42 (dk_at dksX2_add_1 15 rfl rfl)
theorem dX2_add_39 : decode cX2_add 39 = .ok (.getfield 25, 3) := dk_180 0 25 (dk_at dksX2_add_1 16 rfl rfl)
theorem dX2_add_42 : decode cX2_add 42 = .ok (.iload_n 3, 1) := dk_29 (dk_at dksX2_add_1 19 rfl rfl)
theorem dX2_add_43 : decode cX2_add 43 = .ok (.aaload, 1) := dk_50 (dk_at dksX2_add_1 20 rfl rfl)
theorem dX2_add_44 : decode cX2_add 44 = .ok (.iload 4, 2) := dk_21 4 (dk_at dksX2_add_1 21 rfl rfl)
theorem dX2_add_46 : decode cX2_add 46 = .ok (.dup2, 1) := dk_92 (dk_at dksX2_add_1 23 rfl rfl)
theorem dX2_add_47 : decode cX2_add 47 = .ok (.iaload, 1) := dk_46 (dk_at dksX2_add_2 0 rfl rfl)
theorem dX2_add_48 : decode cX2_add 48 = .ok (.iload_n 2, 1) := dk_28 (dk_at dksX2_add_2 1 rfl rfl)
theorem dX2_add_49 : decode cX2_add 49 = .ok (.iadd, 1) := dk_96 (dk_at dksX2_add_2 2 rfl rfl)
theorem dX2_add_50 : decode cX2_add 50 = .ok (.iastore, 1) := dk_79 (dk_at dksX2_add_2 3 rfl rfl)
theorem dX2_add_51 : decode cX2_add 51 = .ok (.goto 77, 3) := dk_167 0 77 (dk_at dksX2_add_2 4 rfl rfl)
theorem dX2_add_54 : decode cX2_add 54 = .ok (.aload_n 0, 1) := dk_42 (dk_at dksX2_add_2 7 rfl rfl)
theorem dX2_add_55 : decode cX2_add 55 = .ok (.iload_n 3, 1) := dk_29 (dk_at dksX2_add_2 8 rfl rfl)
theorem dX2_add_56 : decode cX2_add 56 = .ok (.iload 4, 2) := dk_21 4 (dk_at dksX2_add_2 9 rfl rfl)
theorem dX2_add_58 : decode cX2_add 58 = .ok (.invokevirtual 63, 3) := dk_182 0 63 (dk_at dksX2_add_2 11 rfl rfl)
theorem dX2_add_61 : decode cX2_add 61 = .ok (.iload_n 2, 1) := dk_28 (dk_at dksX2_add_2 14 rfl rfl)
theorem dX2_add_62 : decode cX2_add 62 = .ok (.iadd, 1) := dk_96 (dk_at dksX2_add_2 15 rfl rfl)
theorem dX2_add_63 : decode cX2_add 63 = .ok (.istore 5, 2) := dk_54 5 (dk_at dksX2_add_2 16 rfl rfl)
theorem dX2_add_65 : decode cX2_add 65 = .ok (.iconst 0, 1) := dk_3 (dk_at dksX2_add_2 18 rfl rfl)
theorem dX2_add_66 : decode cX2_add 66 = .ok (.istore 6, 2) := dk_54 6 (dk_at dksX2_add_2 19 rfl rfl)
theorem dX2_add_68 : decode cX2_add 68 = .ok (.iload 6, 2) := dk_21 6 (dk_at dksX2_add_2 21 rfl rfl)
theorem dX2_add_70 : decode cX2_add 70 = .ok (.iconst 3, 1) := dk_6 (dk_at dksX2_add_2 23 rfl rfl)
theorem dX2_add_71 : decode cX2_add 71 = .ok (.if_icmp .ge 57, 3) := dk_162 0 57 (dk_at dksX2_add_3 0 rfl rfl)
theorem dX2_add_74 : decode cX2_add 74 = .ok (.aload_n 0, 1) := dk_42 (dk_at dksX2_add_3 3 rfl rfl)
theorem dX2_add_75 : decode cX2_add 75 = .ok (.getfield 3, 3) := dk_180 0 3 (dk_at dksX2_add_3 4 rfl rfl)
theorem dX2_add_78 : decode cX2_add 78 = .ok (.getfield 43, 3) := dk_180 0 43 (dk_at dksX2_add_3 7 rfl rfl)
theorem dX2_add_81 : decode cX2_add 81 = .ok (.iload 6, 2) := dk_21 6 (dk_at dksX2_add_3 10 rfl rfl)
theorem dX2_add_83 : decode cX2_add 83 = .ok (.aaload, 1) := dk_50 (dk_at dksX2_add_3 12 rfl rfl)
theorem dX2_add_84 : decode cX2_add 84 = .ok (.iload 4, 2) := dk_21 4 (dk_at dksX2_add_3 13 rfl rfl)
theorem dX2_add_86 : decode cX2_add 86 = .ok (.invokeinterface 47 2, 5) := by decide +kernel
theorem dX2_add_91 : decode cX2_add 91 = .ok (.istore 7, 2) := dk_54 7 (dk_at dksX2_add_3 20 rfl rfl)
theorem dX2_add_93 : decode cX2_add 93 = .ok (.aload_n 0, 1) := dk_42 (dk_at dksX2_add_3 22 rfl rfl)
theorem dX2_add_94 : decode cX2_add 94 = .ok (.getfield 21, 3) := dk_180 0 21 (dk_at dksX2_add_4 0 rfl rfl)
theorem dX2_add_97 : decode cX2_add 97 = .ok (.iload_n 3, 1) := dk_29 (dk_at dksX2_add_4 3 rfl rfl)
theorem dX2_add_98 : decode cX2_add 98 = .ok (.aaload, 1) := dk_50 (dk_at dksX2_add_4 4 rfl rfl)
theorem dX2_add_99 : decode cX2_add 99 = .ok (.iload 6, 2) := dk_21 6 (dk_at dksX2_add_4 5 rfl rfl)
theorem dX2_add_101 : decode cX2_add 101 = .ok (.aaload, 1) := dk_50 (dk_at dksX2_add_4 7 rfl rfl)
theorem dX2_add_102 : decode cX2_add 102 = .ok (.iload 7, 2) := dk_21 7 (dk_at dksX2_add_4 8 rfl rfl)
theorem dX2_add_104 : decode cX2_add 104 = .ok (.aload_n 0, 1) := dk_42 (dk_at dksX2_add_4 10 rfl rfl)
theorem dX2_add_105 : decode cX2_add 105 = .ok (.getfield 21, 3) := dk_180 0 21 (dk_at dksX2_add_4 11 rfl rfl)
theorem dX2_add_108 : decode cX2_add 108 = .ok (.iload_n 3, 1) := dk_29 (dk_at dksX2_add_4 14 rfl rfl)
theorem dX2_add_109 : decode cX2_add 109 = .ok (.aaload, 1) := dk_50 (dk_at dksX2_add_4 15 rfl rfl)
theorem dX2_add_110 : decode cX2_add 110 = .ok (.iload 6, 2) := dk_21 6 (dk_at dksX2_add_4 16 rfl rfl)
theorem dX2_add_112 : decode cX2_add 112 = .ok (.aaload, 1) := dk_50 (dk_at dksX2_add_4 18 rfl rfl)
theorem dX2_add_113 : decode cX2_add 113 = .ok (.iload 7, 2) := dk_21 7 (dk_at dksX2_add_4 19 rfl rfl)
theorem dX2_add_115 : decode cX2_add 115 = .ok (.iaload, 1) := dk_46 (dk_at dksX2_add_4 21 rfl rfl)
theorem dX2_add_116 : decode cX2_add 116 = .ok (.iload 5, 2) := dk_21 5 (dk_at dksX2_add_4 22 rfl rfl)
theorem dX2_add_118 : decode cX2_add 118 = .ok (.invokestatic 66, 3) := dk_184 0 66 (dk_at dksX2_add_5 0 rfl rfl)
theorem dX2_add_121 : decode cX2_add 121 = .ok (.iastore, 1) := dk_79 (dk_at dksX2_add_5 3 rfl rfl)
theorem dX2_add_122 : decode cX2_add 122 = .ok (.iinc 6 1, 3) := dk_132 6 1 (dk_at dksX2_add_5 4 rfl rfl)
theorem dX2_add_125 : decode cX2_add 125 = .ok (.goto (-57), 3) := dk_167 255 199 (dk_at dksX2_add_5 7 rfl rfl)
theorem dX2_add_128 : decode cX2_add 128 = .ok (.iinc 3 1, 3) := dk_132 3 1 (dk_at dksX2_add_5 10 rfl rfl)
theorem dX2_add_131 : decode cX2_add 131 = .ok (.goto (-109), 3) := dk_167 255 147 (dk_at dksX2_add_5 13 rfl rfl)
theorem dX2_add_134 : decode cX2_add 134 = .ok (.iconst 0, 1) := dk_3 (dk_at dksX2_add_5 16 rfl rfl)
theorem dX2_add_135 : decode cX2_add 135 = .ok (.istore_n 3, 1) := dk_62 (dk_at dksX2_add_5 17 rfl rfl)
theorem dX2_add_136 : decode cX2_add 136 = .ok (.iload_n 3, 1) := dk_29 (dk_at dksX2_add_5 18 rfl rfl)
theorem dX2_add_137 : decode cX2_add 137 = .ok (.iconst 5, 1) := dk_8 (dk_at dksX2_add_5 19 rfl rfl)
theorem dX2_add_138 : decode cX2_add 138 = .ok (.if_icmp .ge 45, 3) := dk_162 0 45 (dk_at dksX2_add_5 20 rfl rfl)
theorem dX2_add_141 : decode cX2_add 141 = .ok (.aload_n 0, 1) := dk_42 (dk_at dksX2_add_5 23 rfl rfl)
theorem dX2_add_142 : decode cX2_add 142 = .ok (.getfield 30, 3) := dk_180 0 30 (dk_at dksX2_add_6 0 rfl rfl)
theorem dX2_add_145 : decode cX2_add 145 = .ok (.iload_n 3, 1) := dk_29 (dk_at dksX2_add_6 3 rfl rfl)
theorem dX2_add_146 : decode cX2_add 146 = .ok (.aaload, 1) := dk_50 (dk_at dksX2_add_6 4 rfl rfl)
theorem dX2_add_147 : decode cX2_add 147 = .ok (.aload_n 0, 1) := dk_42 (dk_at dksX2_add_6 5 rfl rfl)
theorem dX2_add_148 : decode cX2_add 148 = .ok (.getfield 3, 3) := dk_180 0 3 (dk_at dksX2_add_6 6 rfl rfl)
theorem dX2_add_151 : decode cX2_add 151 = .ok (.getfield 69, 3) := dk_180 0 69 (dk_at dksX2_add_6 9 rfl rfl)
theorem dX2_add_154 : decode cX2_add 154 = .ok (.iload_n 3, 1) := dk_29 (dk_at dksX2_add_6 12 rfl rfl)
theorem dX2_add_155 : decode cX2_add 155 = .ok (.aaload, 1) := dk_50 (dk_at dksX2_add_6 13 rfl rfl)
theorem dX2_add_156 : decode cX2_add 156 = .ok (.iload_n 1, 1) := dk_27 (dk_at dksX2_add_6 14 rfl rfl)
theorem dX2_add_157 : decode cX2_add 157 = .ok (.invokeinterface 47 2, 5) := by decide +kernel
theorem dX2_add_162 : decode cX2_add 162 = .ok (.dup2, 1) := dk_92 (dk_at dksX2_add_6 20 rfl rfl)
theorem dX2_add_163 : decode cX2_add 163 = .ok (.iaload, 1) := dk_46 (dk_at dksX2_add_6 21 rfl rfl)
theorem dX2_add_164 : decode cX2_add 164 = .ok (.aload_n 0, 1) := dk_42 (dk_at dksX2_add_6 22 rfl rfl)
theorem dX2_add_165 : decode cX2_add 165 = .ok (.getfield 3, 3) := dk_180 0 3 (dk_at dksX2_add_7 0 rfl rfl)
theorem dX2_add_168 : decode cX2_add 168 = .ok (.iload_n 3, 1) := dk_29 (dk_at dksX2_add_7 3 rfl rfl)
theorem dX2_add_169 : decode cX2_add 169 = .ok (.iload_n 1, 1) := dk_27 (dk_at dksX2_add_7 4 rfl rfl)
theorem dX2_add_170 : decode cX2_add 170 = .ok (.invokevirtual 72, 3) := dk_182 0 72 (dk_at dksX2_add_7 5 rfl rfl)
theorem dX2_add_173 : decode cX2_add 173 = .ok (.iload_n 2, 1) := dk_28 (dk_at dksX2_add_7 8 rfl rfl)
theorem dX2_add_174 : decode cX2_add 174 = .ok (.imul, 1) := dk_104 (dk_at dksX2_add_7 9 rfl rfl)
theorem dX2_add_175 : decode cX2_add 175 = .ok (.iadd, 1) := dk_96 (dk_at dksX2_add_7 10 rfl rfl)
theorem dX2_add_176 : decode cX2_add 176 = .ok (.iastore, 1) := dk_79 (dk_at dksX2_add_7 11 rfl rfl)
theorem dX2_add_177 : decode cX2_add 177 = .ok (.iinc 3 1, 3) := dk_132 3 1 (dk_at dksX2_add_7 12 rfl rfl)
theorem dX2_add_180 : decode cX2_add 180 = .ok (.goto (-44), 3) := dk_167 255 212 (dk_at dksX2_add_7 15 rfl rfl)
theorem dX2_add_183 : decode cX2_add 183 = .ok (.aload_n 0, 1) := dk_42 (dk_at dksX2_add_7 18 rfl rfl)
theorem dX2_add_184 : decode cX2_add 184 = .ok (.iload_n 1, 1) := dk_27 (dk_at dksX2_add_7 19 rfl rfl)
theorem dX2_add_185 : decode cX2_add 185 = .ok (.iload_n 2, 1) := dk_28 (dk_at dksX2_add_7 20 rfl rfl)
theorem dX2_add_186 : decode cX2_add 186 = .ok (.invokevirtual 75, 3) := dk_182 0 75 (dk_at dksX2_add_7 21 rfl rfl)
theorem dX2_add_189 : decode cX2_add 189 = .ok (.return_, 1) := dk_177 (dk_at dksX2_add_8 0 rfl rfl)
abbrev cX2_estimate : ByteArray := prog_7_method_2_code
def yX2_estimate : MethodName := ⟨RX2, "estimate", "(II)I"⟩
def dkwX2_estimate_2 : List UInt8 := [185, 0, 47, 2, 0, 46, 184, 0, 53, 62, 132, 4, 1, 167, 255, 216, 29, 172]
abbrev dktX2_estimate_2 : List UInt8 := dkwX2_estimate_2 ++ []
def dkwX2_estimate_1 : List UInt8 := [162, 0, 40, 29, 42, 180, 0, 21, 27, 50, 21, 4, 50, 42, 180, 0, 3, 180, 0, 43, 21, 4, 50, 28]
abbrev dktX2_estimate_1 : List UInt8 := dkwX2_estimate_1 ++ dktX2_estimate_2
def dkwX2_estimate_0 : List UInt8 := [27, 6, 161, 0, 12, 42, 180, 0, 25, 27, 50, 28, 46, 172, 18, 42, 62, 3, 54, 4, 21, 4, 6]
abbrev dktX2_estimate_0 : List UInt8 := dkwX2_estimate_0 ++ dktX2_estimate_1
theorem dksX2_estimate_0 : cX2_estimate.data.toList.drop 0 = dktX2_estimate_0 := by decide +kernel
theorem dksX2_estimate_1 : cX2_estimate.data.toList.drop 23 = dktX2_estimate_1 := dk_seg dksX2_estimate_0 23 rfl rfl
theorem dksX2_estimate_2 : cX2_estimate.data.toList.drop 47 = dktX2_estimate_2 := dk_seg dksX2_estimate_1 24 rfl rfl
theorem dX2_estimate_0 : decode cX2_estimate 0 = .ok (.iload_n 1, 1) := dk_27 (dk_at dksX2_estimate_0 0 rfl rfl)
theorem dX2_estimate_1 : decode cX2_estimate 1 = .ok (.iconst 3, 1) := dk_6 (dk_at dksX2_estimate_0 1 rfl rfl)
theorem dX2_estimate_2 : decode cX2_estimate 2 = .ok (.if_icmp .lt 12, 3) := dk_161 0 12 (dk_at dksX2_estimate_0 2 rfl rfl)
theorem dX2_estimate_5 : decode cX2_estimate 5 = .ok (.aload_n 0, 1) := dk_42 (dk_at dksX2_estimate_0 5 rfl rfl)
theorem dX2_estimate_6 : decode cX2_estimate 6 = .ok (.getfield 25, 3) := dk_180 0 25 (dk_at dksX2_estimate_0 6 rfl rfl)
theorem dX2_estimate_9 : decode cX2_estimate 9 = .ok (.iload_n 1, 1) := dk_27 (dk_at dksX2_estimate_0 9 rfl rfl)
theorem dX2_estimate_10 : decode cX2_estimate 10 = .ok (.aaload, 1) := dk_50 (dk_at dksX2_estimate_0 10 rfl rfl)
theorem dX2_estimate_11 : decode cX2_estimate 11 = .ok (.iload_n 2, 1) := dk_28 (dk_at dksX2_estimate_0 11 rfl rfl)
theorem dX2_estimate_12 : decode cX2_estimate 12 = .ok (.iaload, 1) := dk_46 (dk_at dksX2_estimate_0 12 rfl rfl)
theorem dX2_estimate_13 : decode cX2_estimate 13 = .ok (.ireturn, 1) := dk_172 (dk_at dksX2_estimate_0 13 rfl rfl)
theorem dX2_estimate_14 : decode cX2_estimate 14 = .ok (.ldc 42, 2) := dk_18 42 (dk_at dksX2_estimate_0 14 rfl rfl)
theorem dX2_estimate_16 : decode cX2_estimate 16 = .ok (.istore_n 3, 1) := dk_62 (dk_at dksX2_estimate_0 16 rfl rfl)
theorem dX2_estimate_17 : decode cX2_estimate 17 = .ok (.iconst 0, 1) := dk_3 (dk_at dksX2_estimate_0 17 rfl rfl)
theorem dX2_estimate_18 : decode cX2_estimate 18 = .ok (.istore 4, 2) := dk_54 4 (dk_at dksX2_estimate_0 18 rfl rfl)
theorem dX2_estimate_20 : decode cX2_estimate 20 = .ok (.iload 4, 2) := dk_21 4 (dk_at dksX2_estimate_0 20 rfl rfl)
theorem dX2_estimate_22 : decode cX2_estimate 22 = .ok (.iconst 3, 1) := dk_6 (dk_at dksX2_estimate_0 22 rfl rfl)
theorem dX2_estimate_23 : decode cX2_estimate 23 = .ok (.if_icmp .ge 40, 3) := dk_162 0 40 (dk_at dksX2_estimate_1 0 rfl rfl)
theorem dX2_estimate_26 : decode cX2_estimate 26 = .ok (.iload_n 3, 1) := dk_29 (dk_at dksX2_estimate_1 3 rfl rfl)
theorem dX2_estimate_27 : decode cX2_estimate 27 = .ok (.aload_n 0, 1) := dk_42 (dk_at dksX2_estimate_1 4 rfl rfl)
theorem dX2_estimate_28 : decode cX2_estimate 28 = .ok (.getfield 21, 3) := dk_180 0 21 (dk_at dksX2_estimate_1 5 rfl rfl)
theorem dX2_estimate_31 : decode cX2_estimate 31 = .ok (.iload_n 1, 1) := dk_27 (dk_at dksX2_estimate_1 8 rfl rfl)
theorem dX2_estimate_32 : decode cX2_estimate 32 = .ok (.aaload, 1) := dk_50 (dk_at dksX2_estimate_1 9 rfl rfl)
theorem dX2_estimate_33 : decode cX2_estimate 33 = .ok (.iload 4, 2) := dk_21 4 (dk_at dksX2_estimate_1 10 rfl rfl)
theorem dX2_estimate_35 : decode cX2_estimate 35 = .ok (.aaload, 1) := dk_50 (dk_at dksX2_estimate_1 12 rfl rfl)
theorem dX2_estimate_36 : decode cX2_estimate 36 = .ok (.aload_n 0, 1) := dk_42 (dk_at dksX2_estimate_1 13 rfl rfl)
theorem dX2_estimate_37 : decode cX2_estimate 37 = .ok (.getfield 3, 3) := dk_180 0 3 (dk_at dksX2_estimate_1 14 rfl rfl)
theorem dX2_estimate_40 : decode cX2_estimate 40 = .ok (.getfield 43, 3) := dk_180 0 43 (dk_at dksX2_estimate_1 17 rfl rfl)
theorem dX2_estimate_43 : decode cX2_estimate 43 = .ok (.iload 4, 2) := dk_21 4 (dk_at dksX2_estimate_1 20 rfl rfl)
theorem dX2_estimate_45 : decode cX2_estimate 45 = .ok (.aaload, 1) := dk_50 (dk_at dksX2_estimate_1 22 rfl rfl)
theorem dX2_estimate_46 : decode cX2_estimate 46 = .ok (.iload_n 2, 1) := dk_28 (dk_at dksX2_estimate_1 23 rfl rfl)
theorem dX2_estimate_47 : decode cX2_estimate 47 = .ok (.invokeinterface 47 2, 5) := by decide +kernel
theorem dX2_estimate_52 : decode cX2_estimate 52 = .ok (.iaload, 1) := dk_46 (dk_at dksX2_estimate_2 5 rfl rfl)
theorem dX2_estimate_53 : decode cX2_estimate 53 = .ok (.invokestatic 53, 3) := dk_184 0 53 (dk_at dksX2_estimate_2 6 rfl rfl)
theorem dX2_estimate_56 : decode cX2_estimate 56 = .ok (.istore_n 3, 1) := dk_62 (dk_at dksX2_estimate_2 9 rfl rfl)
theorem dX2_estimate_57 : decode cX2_estimate 57 = .ok (.iinc 4 1, 3) := dk_132 4 1 (dk_at dksX2_estimate_2 10 rfl rfl)
theorem dX2_estimate_60 : decode cX2_estimate 60 = .ok (.goto (-40), 3) := dk_167 255 216 (dk_at dksX2_estimate_2 13 rfl rfl)
theorem dX2_estimate_63 : decode cX2_estimate 63 = .ok (.iload_n 3, 1) := dk_29 (dk_at dksX2_estimate_2 16 rfl rfl)
theorem dX2_estimate_64 : decode cX2_estimate 64 = .ok (.ireturn, 1) := dk_172 (dk_at dksX2_estimate_2 17 rfl rfl)
abbrev cX2_addToCounters : ByteArray := prog_7_method_5_code
def yX2_addToCounters : MethodName := ⟨RX2, "addToCounters", "(II)V"⟩
def dkwX2_addToCounters_5 : List UInt8 := [42, 21, 5, 182, 0, 107, 29, 21, 5, 100, 62, 167, 255, 130, 177]
abbrev dktX2_addToCounters_5 : List UInt8 := dkwX2_addToCounters_5 ++ []
def dkwX2_addToCounters_4 : List UInt8 := [21, 6, 185, 0, 85, 2, 0, 192, 0, 89, 180, 0, 98, 184, 0, 53, 54, 5, 132, 6, 1, 167, 255, 215]
abbrev dktX2_addToCounters_4 : List UInt8 := dkwX2_addToCounters_4 ++ dktX2_addToCounters_5
def dkwX2_addToCounters_3 : List UInt8 := [3, 54, 6, 21, 6, 42, 180, 0, 36, 185, 0, 79, 1, 0, 162, 0, 33, 21, 5, 42, 180, 0, 36]
abbrev dktX2_addToCounters_3 : List UInt8 := dkwX2_addToCounters_3 ++ dktX2_addToCounters_4
def dkwX2_addToCounters_2 : List UInt8 := [180, 0, 36, 187, 0, 89, 89, 27, 29, 183, 0, 101, 185, 0, 103, 2, 0, 87, 167, 0, 67, 29, 54, 5]
abbrev dktX2_addToCounters_2 : List UInt8 := dkwX2_addToCounters_2 ++ dktX2_addToCounters_3
def dkwX2_addToCounters_1 : List UInt8 := [29, 96, 181, 0, 98, 167, 0, 102, 42, 180, 0, 36, 185, 0, 79, 1, 0, 7, 162, 0, 25, 42]
abbrev dktX2_addToCounters_1 : List UInt8 := dkwX2_addToCounters_1 ++ dktX2_addToCounters_2
def dkwX2_addToCounters_0 : List UInt8 := [28, 62, 29, 158, 0, 128, 42, 27, 182, 0, 94, 58, 4, 25, 4, 198, 0, 17, 25, 4, 89, 180, 0, 98]
abbrev dktX2_addToCounters_0 : List UInt8 := dkwX2_addToCounters_0 ++ dktX2_addToCounters_1
theorem dksX2_addToCounters_0 : cX2_addToCounters.data.toList.drop 0 = dktX2_addToCounters_0 := by decide +kernel
theorem dksX2_addToCounters_1 : cX2_addToCounters.data.toList.drop 24 = dktX2_addToCounters_1 := dk_seg dksX2_addToCounters_0 24 rfl rfl
theorem dksX2_addToCounters_2 : cX2_addToCounters.data.toList.drop 46 = dktX2_addToCounters_2 := dk_seg dksX2_addToCounters_1 22 rfl rfl
theorem dksX2_addToCounters_3 : cX2_addToCounters.data.toList.drop 70 = dktX2_addToCounters_3 := dk_seg dksX2_addToCounters_2 24 rfl rfl
theorem dksX2_addToCounters_4 : cX2_addToCounters.data.toList.drop 93 = dktX2_addToCounters_4 := dk_seg dksX2_addToCounters_3 23 rfl rfl
theorem dksX2_addToCounters_5 : cX2_addToCounters.data.toList.drop 117 = dktX2_addToCounters_5 := dk_seg dksX2_addToCounters_4 24 rfl rfl
theorem dX2_addToCounters_0 : decode cX2_addToCounters 0 = .ok (.iload_n 2, 1) := dk_28 (dk_at dksX2_addToCounters_0 0 rfl rfl)
theorem dX2_addToCounters_1 : decode cX2_addToCounters 1 = .ok (.istore_n 3, 1) := dk_62 (dk_at dksX2_addToCounters_0 1 rfl rfl)
theorem dX2_addToCounters_2 : decode cX2_addToCounters 2 = .ok (.iload_n 3, 1) := dk_29 (dk_at dksX2_addToCounters_0 2 rfl rfl)
theorem dX2_addToCounters_3 : decode cX2_addToCounters 3 = .ok (.ifCond .le 128, 3) := dk_158 0 128 (dk_at dksX2_addToCounters_0 3 rfl rfl)
theorem dX2_addToCounters_6 : decode cX2_addToCounters 6 = .ok (.aload_n 0, 1) := dk_42 (dk_at dksX2_addToCounters_0 6 rfl rfl)
theorem dX2_addToCounters_7 : decode cX2_addToCounters 7 = .ok (.iload_n 1, 1) := dk_27 (dk_at dksX2_addToCounters_0 7 rfl rfl)
theorem dX2_addToCounters_8 : decode cX2_addToCounters 8 = .ok (.invokevirtual 94, 3) := dk_182 0 94 (dk_at dksX2_addToCounters_0 8 rfl rfl)
theorem dX2_addToCounters_11 : decode cX2_addToCounters 11 = .ok (.astore 4, 2) := dk_58 4 (dk_at dksX2_addToCounters_0 11 rfl rfl)
theorem dX2_addToCounters_13 : decode cX2_addToCounters 13 = .ok (.aload 4, 2) := dk_25 4 (dk_at dksX2_addToCounters_0 13 rfl rfl)
theorem dX2_addToCounters_15 : decode cX2_addToCounters 15 = .ok (.ifnull 17, 3) := dk_198 0 17 (dk_at dksX2_addToCounters_0 15 rfl rfl)
theorem dX2_addToCounters_18 : decode cX2_addToCounters 18 = .ok (.aload 4, 2) := dk_25 4 (dk_at dksX2_addToCounters_0 18 rfl rfl)
theorem dX2_addToCounters_20 : decode cX2_addToCounters 20 = .ok (.dup, 1) := dk_89 (dk_at dksX2_addToCounters_0 20 rfl rfl)
theorem dX2_addToCounters_21 : decode cX2_addToCounters 21 = .ok (.getfield 98, 3) := dk_180 0 98 (dk_at dksX2_addToCounters_0 21 rfl rfl)
theorem dX2_addToCounters_24 : decode cX2_addToCounters 24 = .ok (.iload_n 3, 1) := dk_29 (dk_at dksX2_addToCounters_1 0 rfl rfl)
theorem dX2_addToCounters_25 : decode cX2_addToCounters 25 = .ok (.iadd, 1) := dk_96 (dk_at dksX2_addToCounters_1 1 rfl rfl)
theorem dX2_addToCounters_26 : decode cX2_addToCounters 26 = .ok (.putfield 98, 3) := dk_181 0 98 (dk_at dksX2_addToCounters_1 2 rfl rfl)
theorem dX2_addToCounters_29 : decode cX2_addToCounters 29 = .ok (.goto 102, 3) := dk_167 0 102 (dk_at dksX2_addToCounters_1 5 rfl rfl)
theorem dX2_addToCounters_32 : decode cX2_addToCounters 32 = .ok (.aload_n 0, 1) := dk_42 (dk_at dksX2_addToCounters_1 8 rfl rfl)
theorem dX2_addToCounters_33 : decode cX2_addToCounters 33 = .ok (.getfield 36, 3) := dk_180 0 36 (dk_at dksX2_addToCounters_1 9 rfl rfl)
theorem dX2_addToCounters_36 : decode cX2_addToCounters 36 = .ok (.invokeinterface 79 1, 5) := by decide +kernel
theorem dX2_addToCounters_41 : decode cX2_addToCounters 41 = .ok (.iconst 4, 1) := dk_7 (dk_at dksX2_addToCounters_1 17 rfl rfl)
theorem dX2_addToCounters_42 : decode cX2_addToCounters 42 = .ok (.if_icmp .ge 25, 3) := dk_162 0 25 (dk_at dksX2_addToCounters_1 18 rfl rfl)
theorem dX2_addToCounters_45 : decode cX2_addToCounters 45 = .ok (.aload_n 0, 1) := dk_42 (dk_at dksX2_addToCounters_1 21 rfl rfl)
theorem dX2_addToCounters_46 : decode cX2_addToCounters 46 = .ok (.getfield 36, 3) := dk_180 0 36 (dk_at dksX2_addToCounters_2 0 rfl rfl)
theorem dX2_addToCounters_49 : decode cX2_addToCounters 49 = .ok (.new 89, 3) := dk_187 0 89 (dk_at dksX2_addToCounters_2 3 rfl rfl)
theorem dX2_addToCounters_52 : decode cX2_addToCounters 52 = .ok (.dup, 1) := dk_89 (dk_at dksX2_addToCounters_2 6 rfl rfl)
theorem dX2_addToCounters_53 : decode cX2_addToCounters 53 = .ok (.iload_n 1, 1) := dk_27 (dk_at dksX2_addToCounters_2 7 rfl rfl)
theorem dX2_addToCounters_54 : decode cX2_addToCounters 54 = .ok (.iload_n 3, 1) := dk_29 (dk_at dksX2_addToCounters_2 8 rfl rfl)
theorem dX2_addToCounters_55 : decode cX2_addToCounters 55 = .ok (.invokespecial 101, 3) := dk_183 0 101 (dk_at dksX2_addToCounters_2 9 rfl rfl)
theorem dX2_addToCounters_58 : decode cX2_addToCounters 58 = .ok (.invokeinterface 103 2, 5) := by decide +kernel
theorem dX2_addToCounters_63 : decode cX2_addToCounters 63 = .ok (.pop, 1) := dk_87 (dk_at dksX2_addToCounters_2 17 rfl rfl)
theorem dX2_addToCounters_64 : decode cX2_addToCounters 64 = .ok (.goto 67, 3) := dk_167 0 67 (dk_at dksX2_addToCounters_2 18 rfl rfl)
theorem dX2_addToCounters_67 : decode cX2_addToCounters 67 = .ok (.iload_n 3, 1) := dk_29 (dk_at dksX2_addToCounters_2 21 rfl rfl)
theorem dX2_addToCounters_68 : decode cX2_addToCounters 68 = .ok (.istore 5, 2) := dk_54 5 (dk_at dksX2_addToCounters_2 22 rfl rfl)
theorem dX2_addToCounters_70 : decode cX2_addToCounters 70 = .ok (.iconst 0, 1) := dk_3 (dk_at dksX2_addToCounters_3 0 rfl rfl)
theorem dX2_addToCounters_71 : decode cX2_addToCounters 71 = .ok (.istore 6, 2) := dk_54 6 (dk_at dksX2_addToCounters_3 1 rfl rfl)
theorem dX2_addToCounters_73 : decode cX2_addToCounters 73 = .ok (.iload 6, 2) := dk_21 6 (dk_at dksX2_addToCounters_3 3 rfl rfl)
theorem dX2_addToCounters_75 : decode cX2_addToCounters 75 = .ok (.aload_n 0, 1) := dk_42 (dk_at dksX2_addToCounters_3 5 rfl rfl)
theorem dX2_addToCounters_76 : decode cX2_addToCounters 76 = .ok (.getfield 36, 3) := dk_180 0 36 (dk_at dksX2_addToCounters_3 6 rfl rfl)
theorem dX2_addToCounters_79 : decode cX2_addToCounters 79 = .ok (.invokeinterface 79 1, 5) := by decide +kernel
theorem dX2_addToCounters_84 : decode cX2_addToCounters 84 = .ok (.if_icmp .ge 33, 3) := dk_162 0 33 (dk_at dksX2_addToCounters_3 14 rfl rfl)
theorem dX2_addToCounters_87 : decode cX2_addToCounters 87 = .ok (.iload 5, 2) := dk_21 5 (dk_at dksX2_addToCounters_3 17 rfl rfl)
theorem dX2_addToCounters_89 : decode cX2_addToCounters 89 = .ok (.aload_n 0, 1) := dk_42 (dk_at dksX2_addToCounters_3 19 rfl rfl)
theorem dX2_addToCounters_90 : decode cX2_addToCounters 90 = .ok (.getfield 36, 3) := dk_180 0 36 (dk_at dksX2_addToCounters_3 20 rfl rfl)
theorem dX2_addToCounters_93 : decode cX2_addToCounters 93 = .ok (.iload 6, 2) := dk_21 6 (dk_at dksX2_addToCounters_4 0 rfl rfl)
theorem dX2_addToCounters_95 : decode cX2_addToCounters 95 = .ok (.invokeinterface 85 2, 5) := by decide +kernel
theorem dX2_addToCounters_100 : decode cX2_addToCounters 100 = .ok (.checkcast 89, 3) := dk_192 0 89 (dk_at dksX2_addToCounters_4 7 rfl rfl)
theorem dX2_addToCounters_103 : decode cX2_addToCounters 103 = .ok (.getfield 98, 3) := dk_180 0 98 (dk_at dksX2_addToCounters_4 10 rfl rfl)
theorem dX2_addToCounters_106 : decode cX2_addToCounters 106 = .ok (.invokestatic 53, 3) := dk_184 0 53 (dk_at dksX2_addToCounters_4 13 rfl rfl)
theorem dX2_addToCounters_109 : decode cX2_addToCounters 109 = .ok (.istore 5, 2) := dk_54 5 (dk_at dksX2_addToCounters_4 16 rfl rfl)
theorem dX2_addToCounters_111 : decode cX2_addToCounters 111 = .ok (.iinc 6 1, 3) := dk_132 6 1 (dk_at dksX2_addToCounters_4 18 rfl rfl)
theorem dX2_addToCounters_114 : decode cX2_addToCounters 114 = .ok (.goto (-41), 3) := dk_167 255 215 (dk_at dksX2_addToCounters_4 21 rfl rfl)
theorem dX2_addToCounters_117 : decode cX2_addToCounters 117 = .ok (.aload_n 0, 1) := dk_42 (dk_at dksX2_addToCounters_5 0 rfl rfl)
theorem dX2_addToCounters_118 : decode cX2_addToCounters 118 = .ok (.iload 5, 2) := dk_21 5 (dk_at dksX2_addToCounters_5 1 rfl rfl)
theorem dX2_addToCounters_120 : decode cX2_addToCounters 120 = .ok (.invokevirtual 107, 3) := dk_182 0 107 (dk_at dksX2_addToCounters_5 3 rfl rfl)
theorem dX2_addToCounters_123 : decode cX2_addToCounters 123 = .ok (.iload_n 3, 1) := dk_29 (dk_at dksX2_addToCounters_5 6 rfl rfl)
theorem dX2_addToCounters_124 : decode cX2_addToCounters 124 = .ok (.iload 5, 2) := dk_21 5 (dk_at dksX2_addToCounters_5 7 rfl rfl)
theorem dX2_addToCounters_126 : decode cX2_addToCounters 126 = .ok (.isub, 1) := dk_100 (dk_at dksX2_addToCounters_5 9 rfl rfl)
theorem dX2_addToCounters_127 : decode cX2_addToCounters 127 = .ok (.istore_n 3, 1) := dk_62 (dk_at dksX2_addToCounters_5 10 rfl rfl)
theorem dX2_addToCounters_128 : decode cX2_addToCounters 128 = .ok (.goto (-126), 3) := dk_167 255 130 (dk_at dksX2_addToCounters_5 11 rfl rfl)
theorem dX2_addToCounters_131 : decode cX2_addToCounters 131 = .ok (.return_, 1) := dk_177 (dk_at dksX2_addToCounters_5 14 rfl rfl)
abbrev cX2_counterOf : ByteArray := prog_7_method_4_code
def yX2_counterOf : MethodName := ⟨RX2, "counterOf", "(I)LCountcote$Counter;"⟩
def dkwX2_counterOf_2 : List UInt8 := [185, 0, 85, 2, 0, 192, 0, 89, 176, 132, 2, 1, 167, 255, 206, 1, 176]
abbrev dktX2_counterOf_2 : List UInt8 := dkwX2_counterOf_2 ++ []
def dkwX2_counterOf_1 : List UInt8 := [185, 0, 85, 2, 0, 192, 0, 89, 180, 0, 91, 27, 160, 0, 17, 42, 180, 0, 36, 28]
abbrev dktX2_counterOf_1 : List UInt8 := dkwX2_counterOf_1 ++ dktX2_counterOf_2
def dkwX2_counterOf_0 : List UInt8 := [3, 61, 28, 42, 180, 0, 36, 185, 0, 79, 1, 0, 162, 0, 43, 42, 180, 0, 36, 28]
abbrev dktX2_counterOf_0 : List UInt8 := dkwX2_counterOf_0 ++ dktX2_counterOf_1
theorem dksX2_counterOf_0 : cX2_counterOf.data.toList.drop 0 = dktX2_counterOf_0 := by decide +kernel
theorem dksX2_counterOf_1 : cX2_counterOf.data.toList.drop 20 = dktX2_counterOf_1 := dk_seg dksX2_counterOf_0 20 rfl rfl
theorem dksX2_counterOf_2 : cX2_counterOf.data.toList.drop 40 = dktX2_counterOf_2 := dk_seg dksX2_counterOf_1 20 rfl rfl
theorem dX2_counterOf_0 : decode cX2_counterOf 0 = .ok (.iconst 0, 1) := dk_3 (dk_at dksX2_counterOf_0 0 rfl rfl)
theorem dX2_counterOf_1 : decode cX2_counterOf 1 = .ok (.istore_n 2, 1) := dk_61 (dk_at dksX2_counterOf_0 1 rfl rfl)
theorem dX2_counterOf_2 : decode cX2_counterOf 2 = .ok (.iload_n 2, 1) := dk_28 (dk_at dksX2_counterOf_0 2 rfl rfl)
theorem dX2_counterOf_3 : decode cX2_counterOf 3 = .ok (.aload_n 0, 1) := dk_42 (dk_at dksX2_counterOf_0 3 rfl rfl)
theorem dX2_counterOf_4 : decode cX2_counterOf 4 = .ok (.getfield 36, 3) := dk_180 0 36 (dk_at dksX2_counterOf_0 4 rfl rfl)
theorem dX2_counterOf_7 : decode cX2_counterOf 7 = .ok (.invokeinterface 79 1, 5) := by decide +kernel
theorem dX2_counterOf_12 : decode cX2_counterOf 12 = .ok (.if_icmp .ge 43, 3) := dk_162 0 43 (dk_at dksX2_counterOf_0 12 rfl rfl)
theorem dX2_counterOf_15 : decode cX2_counterOf 15 = .ok (.aload_n 0, 1) := dk_42 (dk_at dksX2_counterOf_0 15 rfl rfl)
theorem dX2_counterOf_16 : decode cX2_counterOf 16 = .ok (.getfield 36, 3) := dk_180 0 36 (dk_at dksX2_counterOf_0 16 rfl rfl)
theorem dX2_counterOf_19 : decode cX2_counterOf 19 = .ok (.iload_n 2, 1) := dk_28 (dk_at dksX2_counterOf_0 19 rfl rfl)
theorem dX2_counterOf_20 : decode cX2_counterOf 20 = .ok (.invokeinterface 85 2, 5) := by decide +kernel
theorem dX2_counterOf_25 : decode cX2_counterOf 25 = .ok (.checkcast 89, 3) := dk_192 0 89 (dk_at dksX2_counterOf_1 5 rfl rfl)
theorem dX2_counterOf_28 : decode cX2_counterOf 28 = .ok (.getfield 91, 3) := dk_180 0 91 (dk_at dksX2_counterOf_1 8 rfl rfl)
theorem dX2_counterOf_31 : decode cX2_counterOf 31 = .ok (.iload_n 1, 1) := dk_27 (dk_at dksX2_counterOf_1 11 rfl rfl)
theorem dX2_counterOf_32 : decode cX2_counterOf 32 = .ok (.if_icmp .ne 17, 3) := dk_160 0 17 (dk_at dksX2_counterOf_1 12 rfl rfl)
theorem dX2_counterOf_35 : decode cX2_counterOf 35 = .ok (.aload_n 0, 1) := dk_42 (dk_at dksX2_counterOf_1 15 rfl rfl)
theorem dX2_counterOf_36 : decode cX2_counterOf 36 = .ok (.getfield 36, 3) := dk_180 0 36 (dk_at dksX2_counterOf_1 16 rfl rfl)
theorem dX2_counterOf_39 : decode cX2_counterOf 39 = .ok (.iload_n 2, 1) := dk_28 (dk_at dksX2_counterOf_1 19 rfl rfl)
theorem dX2_counterOf_40 : decode cX2_counterOf 40 = .ok (.invokeinterface 85 2, 5) := by decide +kernel
theorem dX2_counterOf_45 : decode cX2_counterOf 45 = .ok (.checkcast 89, 3) := dk_192 0 89 (dk_at dksX2_counterOf_2 5 rfl rfl)
theorem dX2_counterOf_48 : decode cX2_counterOf 48 = .ok (.areturn, 1) := dk_176 (dk_at dksX2_counterOf_2 8 rfl rfl)
theorem dX2_counterOf_49 : decode cX2_counterOf 49 = .ok (.iinc 2 1, 3) := dk_132 2 1 (dk_at dksX2_counterOf_2 9 rfl rfl)
theorem dX2_counterOf_52 : decode cX2_counterOf 52 = .ok (.goto (-50), 3) := dk_167 255 206 (dk_at dksX2_counterOf_2 12 rfl rfl)
theorem dX2_counterOf_55 : decode cX2_counterOf 55 = .ok (.aconst_null, 1) := dk_1 (dk_at dksX2_counterOf_2 15 rfl rfl)
theorem dX2_counterOf_56 : decode cX2_counterOf 56 = .ok (.areturn, 1) := dk_176 (dk_at dksX2_counterOf_2 16 rfl rfl)
abbrev cX2_take : ByteArray := prog_7_method_6_code
def yX2_take : MethodName := ⟨RX2, "take", "(I)V"⟩
def dkwX2_take_3 : List UInt8 := [87, 132, 2, 255, 167, 255, 197, 42, 89, 180, 0, 114, 27, 96, 181, 0, 114, 177]
abbrev dktX2_take_3 : List UInt8 := dkwX2_take_3 ++ []
def dkwX2_take_2 : List UInt8 := [185, 0, 85, 2, 0, 192, 0, 89, 180, 0, 98, 157, 0, 14, 42, 180, 0, 36, 28, 185, 0, 111, 2, 0]
abbrev dktX2_take_2 : List UInt8 := dkwX2_take_2 ++ dktX2_take_3
def dkwX2_take_1 : List UInt8 := [185, 0, 85, 2, 0, 192, 0, 89, 89, 180, 0, 98, 27, 100, 181, 0, 98, 42, 180, 0, 36, 28]
abbrev dktX2_take_1 : List UInt8 := dkwX2_take_1 ++ dktX2_take_2
def dkwX2_take_0 : List UInt8 := [42, 180, 0, 36, 185, 0, 79, 1, 0, 4, 100, 61, 28, 155, 0, 61, 42, 180, 0, 36, 28]
abbrev dktX2_take_0 : List UInt8 := dkwX2_take_0 ++ dktX2_take_1
theorem dksX2_take_0 : cX2_take.data.toList.drop 0 = dktX2_take_0 := by decide +kernel
theorem dksX2_take_1 : cX2_take.data.toList.drop 21 = dktX2_take_1 := dk_seg dksX2_take_0 21 rfl rfl
theorem dksX2_take_2 : cX2_take.data.toList.drop 43 = dktX2_take_2 := dk_seg dksX2_take_1 22 rfl rfl
theorem dksX2_take_3 : cX2_take.data.toList.drop 67 = dktX2_take_3 := dk_seg dksX2_take_2 24 rfl rfl
theorem dX2_take_0 : decode cX2_take 0 = .ok (.aload_n 0, 1) := dk_42 (dk_at dksX2_take_0 0 rfl rfl)
theorem dX2_take_1 : decode cX2_take 1 = .ok (.getfield 36, 3) := dk_180 0 36 (dk_at dksX2_take_0 1 rfl rfl)
theorem dX2_take_4 : decode cX2_take 4 = .ok (.invokeinterface 79 1, 5) := by decide +kernel
theorem dX2_take_9 : decode cX2_take 9 = .ok (.iconst 1, 1) := dk_4 (dk_at dksX2_take_0 9 rfl rfl)
theorem dX2_take_10 : decode cX2_take 10 = .ok (.isub, 1) := dk_100 (dk_at dksX2_take_0 10 rfl rfl)
theorem dX2_take_11 : decode cX2_take 11 = .ok (.istore_n 2, 1) := dk_61 (dk_at dksX2_take_0 11 rfl rfl)
theorem dX2_take_12 : decode cX2_take 12 = .ok (.iload_n 2, 1) := dk_28 (dk_at dksX2_take_0 12 rfl rfl)
theorem dX2_take_13 : decode cX2_take 13 = .ok (.ifCond .lt 61, 3) := dk_155 0 61 (dk_at dksX2_take_0 13 rfl rfl)
theorem dX2_take_16 : decode cX2_take 16 = .ok (.aload_n 0, 1) := dk_42 (dk_at dksX2_take_0 16 rfl rfl)
theorem dX2_take_17 : decode cX2_take 17 = .ok (.getfield 36, 3) := dk_180 0 36 (dk_at dksX2_take_0 17 rfl rfl)
theorem dX2_take_20 : decode cX2_take 20 = .ok (.iload_n 2, 1) := dk_28 (dk_at dksX2_take_0 20 rfl rfl)
theorem dX2_take_21 : decode cX2_take 21 = .ok (.invokeinterface 85 2, 5) := by decide +kernel
theorem dX2_take_26 : decode cX2_take 26 = .ok (.checkcast 89, 3) := dk_192 0 89 (dk_at dksX2_take_1 5 rfl rfl)
theorem dX2_take_29 : decode cX2_take 29 = .ok (.dup, 1) := dk_89 (dk_at dksX2_take_1 8 rfl rfl)
theorem dX2_take_30 : decode cX2_take 30 = .ok (.getfield 98, 3) := dk_180 0 98 (dk_at dksX2_take_1 9 rfl rfl)
theorem dX2_take_33 : decode cX2_take 33 = .ok (.iload_n 1, 1) := dk_27 (dk_at dksX2_take_1 12 rfl rfl)
theorem dX2_take_34 : decode cX2_take 34 = .ok (.isub, 1) := dk_100 (dk_at dksX2_take_1 13 rfl rfl)
theorem dX2_take_35 : decode cX2_take 35 = .ok (.putfield 98, 3) := dk_181 0 98 (dk_at dksX2_take_1 14 rfl rfl)
theorem dX2_take_38 : decode cX2_take 38 = .ok (.aload_n 0, 1) := dk_42 (dk_at dksX2_take_1 17 rfl rfl)
theorem dX2_take_39 : decode cX2_take 39 = .ok (.getfield 36, 3) := dk_180 0 36 (dk_at dksX2_take_1 18 rfl rfl)
theorem dX2_take_42 : decode cX2_take 42 = .ok (.iload_n 2, 1) := dk_28 (dk_at dksX2_take_1 21 rfl rfl)
theorem dX2_take_43 : decode cX2_take 43 = .ok (.invokeinterface 85 2, 5) := by decide +kernel
theorem dX2_take_48 : decode cX2_take 48 = .ok (.checkcast 89, 3) := dk_192 0 89 (dk_at dksX2_take_2 5 rfl rfl)
theorem dX2_take_51 : decode cX2_take 51 = .ok (.getfield 98, 3) := dk_180 0 98 (dk_at dksX2_take_2 8 rfl rfl)
theorem dX2_take_54 : decode cX2_take 54 = .ok (.ifCond .gt 14, 3) := dk_157 0 14 (dk_at dksX2_take_2 11 rfl rfl)
theorem dX2_take_57 : decode cX2_take 57 = .ok (.aload_n 0, 1) := dk_42 (dk_at dksX2_take_2 14 rfl rfl)
theorem dX2_take_58 : decode cX2_take 58 = .ok (.getfield 36, 3) := dk_180 0 36 (dk_at dksX2_take_2 15 rfl rfl)
theorem dX2_take_61 : decode cX2_take 61 = .ok (.iload_n 2, 1) := dk_28 (dk_at dksX2_take_2 18 rfl rfl)
theorem dX2_take_62 : decode cX2_take 62 = .ok (.invokeinterface 111 2, 5) := by decide +kernel
theorem dX2_take_67 : decode cX2_take 67 = .ok (.pop, 1) := dk_87 (dk_at dksX2_take_3 0 rfl rfl)
theorem dX2_take_68 : decode cX2_take 68 = .ok (.iinc 2 (-1), 3) := dk_132 2 255 (dk_at dksX2_take_3 1 rfl rfl)
theorem dX2_take_71 : decode cX2_take 71 = .ok (.goto (-59), 3) := dk_167 255 197 (dk_at dksX2_take_3 4 rfl rfl)
theorem dX2_take_74 : decode cX2_take 74 = .ok (.aload_n 0, 1) := dk_42 (dk_at dksX2_take_3 7 rfl rfl)
theorem dX2_take_75 : decode cX2_take 75 = .ok (.dup, 1) := dk_89 (dk_at dksX2_take_3 8 rfl rfl)
theorem dX2_take_76 : decode cX2_take 76 = .ok (.getfield 114, 3) := dk_180 0 114 (dk_at dksX2_take_3 9 rfl rfl)
theorem dX2_take_79 : decode cX2_take 79 = .ok (.iload_n 1, 1) := dk_27 (dk_at dksX2_take_3 12 rfl rfl)
theorem dX2_take_80 : decode cX2_take 80 = .ok (.iadd, 1) := dk_96 (dk_at dksX2_take_3 13 rfl rfl)
theorem dX2_take_81 : decode cX2_take 81 = .ok (.putfield 114, 3) := dk_181 0 114 (dk_at dksX2_take_3 14 rfl rfl)
theorem dX2_take_84 : decode cX2_take 84 = .ok (.return_, 1) := dk_177 (dk_at dksX2_take_3 17 rfl rfl)
abbrev cX2_merge : ByteArray := prog_7_method_7_code
def yX2_merge : MethodName := ⟨RX2, "merge", "(LCountcote$Stream;)V"⟩
def dkwX2_merge_12 : List UInt8 := [132, 3, 1, 167, 255, 228, 42, 44, 184, 0, 121, 44, 190, 4, 100, 7, 100, 46, 182, 0, 107, 177]
abbrev dktX2_merge_12 : List UInt8 := dkwX2_merge_12 ++ []
def dkwX2_merge_11 : List UInt8 := [44, 190, 162, 0, 28, 44, 29, 42, 180, 0, 36, 29, 185, 0, 85, 2, 0, 192, 0, 89, 180, 0, 98, 79]
abbrev dktX2_merge_11 : List UInt8 := dkwX2_merge_11 ++ dktX2_merge_12
def dkwX2_merge_10 : List UInt8 := [185, 0, 79, 1, 0, 7, 164, 0, 63, 42, 180, 0, 36, 185, 0, 79, 1, 0, 188, 10, 77, 3, 62, 29]
abbrev dktX2_merge_10 : List UInt8 := dkwX2_merge_10 ++ dktX2_merge_11
def dkwX2_merge_9 : List UInt8 := [132, 2, 1, 167, 255, 169, 42, 89, 180, 0, 114, 43, 180, 0, 114, 96, 181, 0, 114, 42, 180, 0, 36]
abbrev dktX2_merge_9 : List UInt8 := dkwX2_merge_9 ++ dktX2_merge_10
def dkwX2_merge_8 : List UInt8 := [185, 0, 103, 2, 0, 87, 167, 0, 17, 25, 4, 89, 180, 0, 98, 45, 180, 0, 98, 96, 181, 0, 98]
abbrev dktX2_merge_8 : List UInt8 := dkwX2_merge_8 ++ dktX2_merge_9
def dkwX2_merge_7 : List UInt8 := [25, 4, 199, 0, 31, 42, 180, 0, 36, 187, 0, 89, 89, 45, 180, 0, 91, 45, 180, 0, 98, 183, 0, 101]
abbrev dktX2_merge_7 : List UInt8 := dkwX2_merge_7 ++ dktX2_merge_8
def dkwX2_merge_6 : List UInt8 := [43, 180, 0, 36, 28, 185, 0, 85, 2, 0, 192, 0, 89, 78, 42, 45, 180, 0, 91, 182, 0, 94, 58, 4]
abbrev dktX2_merge_6 : List UInt8 := dkwX2_merge_6 ++ dktX2_merge_7
def dkwX2_merge_5 : List UInt8 := [184, 0, 117, 132, 2, 1, 167, 255, 233, 3, 61, 28, 43, 180, 0, 36, 185, 0, 79, 1, 0, 162, 0, 80]
abbrev dktX2_merge_5 : List UInt8 := dkwX2_merge_5 ++ dktX2_merge_6
def dkwX2_merge_4 : List UInt8 := [167, 255, 232, 3, 61, 28, 8, 162, 0, 24, 42, 180, 0, 30, 28, 50, 43, 180, 0, 30, 28, 50]
abbrev dktX2_merge_4 : List UInt8 := dkwX2_merge_4 ++ dktX2_merge_5
def dkwX2_merge_3 : List UInt8 := [28, 16, 6, 163, 0, 24, 42, 180, 0, 25, 28, 50, 43, 180, 0, 25, 28, 50, 184, 0, 117, 132, 2, 1]
abbrev dktX2_merge_3 : List UInt8 := dkwX2_merge_3 ++ dktX2_merge_4
def dkwX2_merge_2 : List UInt8 := [180, 0, 21, 28, 50, 29, 50, 184, 0, 117, 132, 3, 1, 167, 255, 229, 132, 2, 1, 167, 255, 216, 6, 61]
abbrev dktX2_merge_2 : List UInt8 := dkwX2_merge_2 ++ dktX2_merge_3
def dkwX2_merge_1 : List UInt8 := [3, 61, 28, 6, 162, 0, 41, 3, 62, 29, 6, 162, 0, 28, 42, 180, 0, 21, 28, 50, 29, 50, 43]
abbrev dktX2_merge_1 : List UInt8 := dkwX2_merge_1 ++ dktX2_merge_2
def dkwX2_merge_0 : List UInt8 := [42, 89, 180, 0, 59, 43, 180, 0, 59, 96, 181, 0, 59, 42, 180, 0, 15, 43, 180, 0, 15, 184, 0, 117]
abbrev dktX2_merge_0 : List UInt8 := dkwX2_merge_0 ++ dktX2_merge_1
theorem dksX2_merge_0 : cX2_merge.data.toList.drop 0 = dktX2_merge_0 := by decide +kernel
theorem dksX2_merge_1 : cX2_merge.data.toList.drop 24 = dktX2_merge_1 := dk_seg dksX2_merge_0 24 rfl rfl
theorem dksX2_merge_2 : cX2_merge.data.toList.drop 47 = dktX2_merge_2 := dk_seg dksX2_merge_1 23 rfl rfl
theorem dksX2_merge_3 : cX2_merge.data.toList.drop 71 = dktX2_merge_3 := dk_seg dksX2_merge_2 24 rfl rfl
theorem dksX2_merge_4 : cX2_merge.data.toList.drop 95 = dktX2_merge_4 := dk_seg dksX2_merge_3 24 rfl rfl
theorem dksX2_merge_5 : cX2_merge.data.toList.drop 117 = dktX2_merge_5 := dk_seg dksX2_merge_4 22 rfl rfl
theorem dksX2_merge_6 : cX2_merge.data.toList.drop 141 = dktX2_merge_6 := dk_seg dksX2_merge_5 24 rfl rfl
theorem dksX2_merge_7 : cX2_merge.data.toList.drop 165 = dktX2_merge_7 := dk_seg dksX2_merge_6 24 rfl rfl
theorem dksX2_merge_8 : cX2_merge.data.toList.drop 189 = dktX2_merge_8 := dk_seg dksX2_merge_7 24 rfl rfl
theorem dksX2_merge_9 : cX2_merge.data.toList.drop 212 = dktX2_merge_9 := dk_seg dksX2_merge_8 23 rfl rfl
theorem dksX2_merge_10 : cX2_merge.data.toList.drop 235 = dktX2_merge_10 := dk_seg dksX2_merge_9 23 rfl rfl
theorem dksX2_merge_11 : cX2_merge.data.toList.drop 259 = dktX2_merge_11 := dk_seg dksX2_merge_10 24 rfl rfl
theorem dksX2_merge_12 : cX2_merge.data.toList.drop 283 = dktX2_merge_12 := dk_seg dksX2_merge_11 24 rfl rfl
theorem dX2_merge_0 : decode cX2_merge 0 = .ok (.aload_n 0, 1) := dk_42 (dk_at dksX2_merge_0 0 rfl rfl)
theorem dX2_merge_1 : decode cX2_merge 1 = .ok (.dup, 1) := dk_89 (dk_at dksX2_merge_0 1 rfl rfl)
theorem dX2_merge_2 : decode cX2_merge 2 = .ok (.getfield 59, 3) := dk_180 0 59 (dk_at dksX2_merge_0 2 rfl rfl)
theorem dX2_merge_5 : decode cX2_merge 5 = .ok (.aload_n 1, 1) := dk_43 (dk_at dksX2_merge_0 5 rfl rfl)
theorem dX2_merge_6 : decode cX2_merge 6 = .ok (.getfield 59, 3) := dk_180 0 59 (dk_at dksX2_merge_0 6 rfl rfl)
theorem dX2_merge_9 : decode cX2_merge 9 = .ok (.iadd, 1) := dk_96 (dk_at dksX2_merge_0 9 rfl rfl)
theorem dX2_merge_10 : decode cX2_merge 10 = .ok (.putfield 59, 3) := dk_181 0 59 (dk_at dksX2_merge_0 10 rfl rfl)
theorem dX2_merge_13 : decode cX2_merge 13 = .ok (.aload_n 0, 1) := dk_42 (dk_at dksX2_merge_0 13 rfl rfl)
theorem dX2_merge_14 : decode cX2_merge 14 = .ok (.getfield 15, 3) := dk_180 0 15 (dk_at dksX2_merge_0 14 rfl rfl)
theorem dX2_merge_17 : decode cX2_merge 17 = .ok (.aload_n 1, 1) := dk_43 (dk_at dksX2_merge_0 17 rfl rfl)
theorem dX2_merge_18 : decode cX2_merge 18 = .ok (.getfield 15, 3) := dk_180 0 15 (dk_at dksX2_merge_0 18 rfl rfl)
theorem dX2_merge_21 : decode cX2_merge 21 = .ok (.invokestatic 117, 3) := dk_184 0 117 (dk_at dksX2_merge_0 21 rfl rfl)
theorem dX2_merge_24 : decode cX2_merge 24 = .ok (.iconst 0, 1) := dk_3 (dk_at dksX2_merge_1 0 rfl rfl)
theorem dX2_merge_25 : decode cX2_merge 25 = .ok (.istore_n 2, 1) := dk_61 (dk_at dksX2_merge_1 1 rfl rfl)
theorem dX2_merge_26 : decode cX2_merge 26 = .ok (.iload_n 2, 1) := dk_28 (dk_at dksX2_merge_1 2 rfl rfl)
theorem dX2_merge_27 : decode cX2_merge 27 = .ok (.iconst 3, 1) := dk_6 (dk_at dksX2_merge_1 3 rfl rfl)
theorem dX2_merge_28 : decode cX2_merge 28 = .ok (.if_icmp .ge 41, 3) := dk_162 0 41 (dk_at dksX2_merge_1 4 rfl rfl)
theorem dX2_merge_31 : decode cX2_merge 31 = .ok (.iconst 0, 1) := dk_3 (dk_at dksX2_merge_1 7 rfl rfl)
theorem dX2_merge_32 : decode cX2_merge 32 = .ok (.istore_n 3, 1) := dk_62 (dk_at dksX2_merge_1 8 rfl rfl)
theorem dX2_merge_33 : decode cX2_merge 33 = .ok (.iload_n 3, 1) := dk_29 (dk_at dksX2_merge_1 9 rfl rfl)
theorem dX2_merge_34 : decode cX2_merge 34 = .ok (.iconst 3, 1) := dk_6 (dk_at dksX2_merge_1 10 rfl rfl)
theorem dX2_merge_35 : decode cX2_merge 35 = .ok (.if_icmp .ge 28, 3) := dk_162 0 28 (dk_at dksX2_merge_1 11 rfl rfl)
theorem dX2_merge_38 : decode cX2_merge 38 = .ok (.aload_n 0, 1) := dk_42 (dk_at dksX2_merge_1 14 rfl rfl)
theorem dX2_merge_39 : decode cX2_merge 39 = .ok (.getfield 21, 3) := dk_180 0 21 (dk_at dksX2_merge_1 15 rfl rfl)
theorem dX2_merge_42 : decode cX2_merge 42 = .ok (.iload_n 2, 1) := dk_28 (dk_at dksX2_merge_1 18 rfl rfl)
theorem dX2_merge_43 : decode cX2_merge 43 = .ok (.aaload, 1) := dk_50 (dk_at dksX2_merge_1 19 rfl rfl)
theorem dX2_merge_44 : decode cX2_merge 44 = .ok (.iload_n 3, 1) := dk_29 (dk_at dksX2_merge_1 20 rfl rfl)
theorem dX2_merge_45 : decode cX2_merge 45 = .ok (.aaload, 1) := dk_50 (dk_at dksX2_merge_1 21 rfl rfl)
theorem dX2_merge_46 : decode cX2_merge 46 = .ok (.aload_n 1, 1) := dk_43 (dk_at dksX2_merge_1 22 rfl rfl)
theorem dX2_merge_47 : decode cX2_merge 47 = .ok (.getfield 21, 3) := dk_180 0 21 (dk_at dksX2_merge_2 0 rfl rfl)
theorem dX2_merge_50 : decode cX2_merge 50 = .ok (.iload_n 2, 1) := dk_28 (dk_at dksX2_merge_2 3 rfl rfl)
theorem dX2_merge_51 : decode cX2_merge 51 = .ok (.aaload, 1) := dk_50 (dk_at dksX2_merge_2 4 rfl rfl)
theorem dX2_merge_52 : decode cX2_merge 52 = .ok (.iload_n 3, 1) := dk_29 (dk_at dksX2_merge_2 5 rfl rfl)
theorem dX2_merge_53 : decode cX2_merge 53 = .ok (.aaload, 1) := dk_50 (dk_at dksX2_merge_2 6 rfl rfl)
theorem dX2_merge_54 : decode cX2_merge 54 = .ok (.invokestatic 117, 3) := dk_184 0 117 (dk_at dksX2_merge_2 7 rfl rfl)
theorem dX2_merge_57 : decode cX2_merge 57 = .ok (.iinc 3 1, 3) := dk_132 3 1 (dk_at dksX2_merge_2 10 rfl rfl)
theorem dX2_merge_60 : decode cX2_merge 60 = .ok (.goto (-27), 3) := dk_167 255 229 (dk_at dksX2_merge_2 13 rfl rfl)
theorem dX2_merge_63 : decode cX2_merge 63 = .ok (.iinc 2 1, 3) := dk_132 2 1 (dk_at dksX2_merge_2 16 rfl rfl)
theorem dX2_merge_66 : decode cX2_merge 66 = .ok (.goto (-40), 3) := dk_167 255 216 (dk_at dksX2_merge_2 19 rfl rfl)
theorem dX2_merge_69 : decode cX2_merge 69 = .ok (.iconst 3, 1) := dk_6 (dk_at dksX2_merge_2 22 rfl rfl)
theorem dX2_merge_70 : decode cX2_merge 70 = .ok (.istore_n 2, 1) := dk_61 (dk_at dksX2_merge_2 23 rfl rfl)
theorem dX2_merge_71 : decode cX2_merge 71 = .ok (.iload_n 2, 1) := dk_28 (dk_at dksX2_merge_3 0 rfl rfl)
theorem dX2_merge_72 : decode cX2_merge 72 = .ok (.bipush 6, 2) := dk_16 6 (dk_at dksX2_merge_3 1 rfl rfl)
theorem dX2_merge_74 : decode cX2_merge 74 = .ok (.if_icmp .gt 24, 3) := dk_163 0 24 (dk_at dksX2_merge_3 3 rfl rfl)
theorem dX2_merge_77 : decode cX2_merge 77 = .ok (.aload_n 0, 1) := dk_42 (dk_at dksX2_merge_3 6 rfl rfl)
theorem dX2_merge_78 : decode cX2_merge 78 = .ok (.getfield 25, 3) := dk_180 0 25 (dk_at dksX2_merge_3 7 rfl rfl)
theorem dX2_merge_81 : decode cX2_merge 81 = .ok (.iload_n 2, 1) := dk_28 (dk_at dksX2_merge_3 10 rfl rfl)
theorem dX2_merge_82 : decode cX2_merge 82 = .ok (.aaload, 1) := dk_50 (dk_at dksX2_merge_3 11 rfl rfl)
theorem dX2_merge_83 : decode cX2_merge 83 = .ok (.aload_n 1, 1) := dk_43 (dk_at dksX2_merge_3 12 rfl rfl)
theorem dX2_merge_84 : decode cX2_merge 84 = .ok (.getfield 25, 3) := dk_180 0 25 (dk_at dksX2_merge_3 13 rfl rfl)
theorem dX2_merge_87 : decode cX2_merge 87 = .ok (.iload_n 2, 1) := dk_28 (dk_at dksX2_merge_3 16 rfl rfl)
theorem dX2_merge_88 : decode cX2_merge 88 = .ok (.aaload, 1) := dk_50 (dk_at dksX2_merge_3 17 rfl rfl)
theorem dX2_merge_89 : decode cX2_merge 89 = .ok (.invokestatic 117, 3) := dk_184 0 117 (dk_at dksX2_merge_3 18 rfl rfl)
theorem dX2_merge_92 : decode cX2_merge 92 = .ok (.iinc 2 1, 3) := dk_132 2 1 (dk_at dksX2_merge_3 21 rfl rfl)
theorem dX2_merge_95 : decode cX2_merge 95 = .ok (.goto (-24), 3) := dk_167 255 232 (dk_at dksX2_merge_4 0 rfl rfl)
theorem dX2_merge_98 : decode cX2_merge 98 = .ok (.iconst 0, 1) := dk_3 (dk_at dksX2_merge_4 3 rfl rfl)
theorem dX2_merge_99 : decode cX2_merge 99 = .ok (.istore_n 2, 1) := dk_61 (dk_at dksX2_merge_4 4 rfl rfl)
theorem dX2_merge_100 : decode cX2_merge 100 = .ok (.iload_n 2, 1) := dk_28 (dk_at dksX2_merge_4 5 rfl rfl)
theorem dX2_merge_101 : decode cX2_merge 101 = .ok (.iconst 5, 1) := dk_8 (dk_at dksX2_merge_4 6 rfl rfl)
theorem dX2_merge_102 : decode cX2_merge 102 = .ok (.if_icmp .ge 24, 3) := dk_162 0 24 (dk_at dksX2_merge_4 7 rfl rfl)
theorem dX2_merge_105 : decode cX2_merge 105 = .ok (.aload_n 0, 1) := dk_42 (dk_at dksX2_merge_4 10 rfl rfl)
theorem dX2_merge_106 : decode cX2_merge 106 = .ok (.getfield 30, 3) := dk_180 0 30 (dk_at dksX2_merge_4 11 rfl rfl)
theorem dX2_merge_109 : decode cX2_merge 109 = .ok (.iload_n 2, 1) := dk_28 (dk_at dksX2_merge_4 14 rfl rfl)
theorem dX2_merge_110 : decode cX2_merge 110 = .ok (.aaload, 1) := dk_50 (dk_at dksX2_merge_4 15 rfl rfl)
theorem dX2_merge_111 : decode cX2_merge 111 = .ok (.aload_n 1, 1) := dk_43 (dk_at dksX2_merge_4 16 rfl rfl)
theorem dX2_merge_112 : decode cX2_merge 112 = .ok (.getfield 30, 3) := dk_180 0 30 (dk_at dksX2_merge_4 17 rfl rfl)
theorem dX2_merge_115 : decode cX2_merge 115 = .ok (.iload_n 2, 1) := dk_28 (dk_at dksX2_merge_4 20 rfl rfl)
theorem dX2_merge_116 : decode cX2_merge 116 = .ok (.aaload, 1) := dk_50 (dk_at dksX2_merge_4 21 rfl rfl)
theorem dX2_merge_117 : decode cX2_merge 117 = .ok (.invokestatic 117, 3) := dk_184 0 117 (dk_at dksX2_merge_5 0 rfl rfl)
theorem dX2_merge_120 : decode cX2_merge 120 = .ok (.iinc 2 1, 3) := dk_132 2 1 (dk_at dksX2_merge_5 3 rfl rfl)
theorem dX2_merge_123 : decode cX2_merge 123 = .ok (.goto (-23), 3) := dk_167 255 233 (dk_at dksX2_merge_5 6 rfl rfl)
theorem dX2_merge_126 : decode cX2_merge 126 = .ok (.iconst 0, 1) := dk_3 (dk_at dksX2_merge_5 9 rfl rfl)
theorem dX2_merge_127 : decode cX2_merge 127 = .ok (.istore_n 2, 1) := dk_61 (dk_at dksX2_merge_5 10 rfl rfl)
theorem dX2_merge_128 : decode cX2_merge 128 = .ok (.iload_n 2, 1) := dk_28 (dk_at dksX2_merge_5 11 rfl rfl)
theorem dX2_merge_129 : decode cX2_merge 129 = .ok (.aload_n 1, 1) := dk_43 (dk_at dksX2_merge_5 12 rfl rfl)
theorem dX2_merge_130 : decode cX2_merge 130 = .ok (.getfield 36, 3) := dk_180 0 36 (dk_at dksX2_merge_5 13 rfl rfl)
theorem dX2_merge_133 : decode cX2_merge 133 = .ok (.invokeinterface 79 1, 5) := by decide +kernel
theorem dX2_merge_138 : decode cX2_merge 138 = .ok (.if_icmp .ge 80, 3) := dk_162 0 80 (dk_at dksX2_merge_5 21 rfl rfl)
theorem dX2_merge_141 : decode cX2_merge 141 = .ok (.aload_n 1, 1) := dk_43 (dk_at dksX2_merge_6 0 rfl rfl)
theorem dX2_merge_142 : decode cX2_merge 142 = .ok (.getfield 36, 3) := dk_180 0 36 (dk_at dksX2_merge_6 1 rfl rfl)
theorem dX2_merge_145 : decode cX2_merge 145 = .ok (.iload_n 2, 1) := dk_28 (dk_at dksX2_merge_6 4 rfl rfl)
theorem dX2_merge_146 : decode cX2_merge 146 = .ok (.invokeinterface 85 2, 5) := by decide +kernel
theorem dX2_merge_151 : decode cX2_merge 151 = .ok (.checkcast 89, 3) := dk_192 0 89 (dk_at dksX2_merge_6 10 rfl rfl)
theorem dX2_merge_154 : decode cX2_merge 154 = .ok (.astore_n 3, 1) := dk_78 (dk_at dksX2_merge_6 13 rfl rfl)
theorem dX2_merge_155 : decode cX2_merge 155 = .ok (.aload_n 0, 1) := dk_42 (dk_at dksX2_merge_6 14 rfl rfl)
theorem dX2_merge_156 : decode cX2_merge 156 = .ok (.aload_n 3, 1) := dk_45 (dk_at dksX2_merge_6 15 rfl rfl)
theorem dX2_merge_157 : decode cX2_merge 157 = .ok (.getfield 91, 3) := dk_180 0 91 (dk_at dksX2_merge_6 16 rfl rfl)
theorem dX2_merge_160 : decode cX2_merge 160 = .ok (.invokevirtual 94, 3) := dk_182 0 94 (dk_at dksX2_merge_6 19 rfl rfl)
theorem dX2_merge_163 : decode cX2_merge 163 = .ok (.astore 4, 2) := dk_58 4 (dk_at dksX2_merge_6 22 rfl rfl)
theorem dX2_merge_165 : decode cX2_merge 165 = .ok (.aload 4, 2) := dk_25 4 (dk_at dksX2_merge_7 0 rfl rfl)
theorem dX2_merge_167 : decode cX2_merge 167 = .ok (.ifnonnull 31, 3) := dk_199 0 31 (dk_at dksX2_merge_7 2 rfl rfl)
theorem dX2_merge_170 : decode cX2_merge 170 = .ok (.aload_n 0, 1) := dk_42 (dk_at dksX2_merge_7 5 rfl rfl)
theorem dX2_merge_171 : decode cX2_merge 171 = .ok (.getfield 36, 3) := dk_180 0 36 (dk_at dksX2_merge_7 6 rfl rfl)
theorem dX2_merge_174 : decode cX2_merge 174 = .ok (.new 89, 3) := dk_187 0 89 (dk_at dksX2_merge_7 9 rfl rfl)
theorem dX2_merge_177 : decode cX2_merge 177 = .ok (.dup, 1) := dk_89 (dk_at dksX2_merge_7 12 rfl rfl)
theorem dX2_merge_178 : decode cX2_merge 178 = .ok (.aload_n 3, 1) := dk_45 (dk_at dksX2_merge_7 13 rfl rfl)
theorem dX2_merge_179 : decode cX2_merge 179 = .ok (.getfield 91, 3) := dk_180 0 91 (dk_at dksX2_merge_7 14 rfl rfl)
theorem dX2_merge_182 : decode cX2_merge 182 = .ok (.aload_n 3, 1) := dk_45 (dk_at dksX2_merge_7 17 rfl rfl)
theorem dX2_merge_183 : decode cX2_merge 183 = .ok (.getfield 98, 3) := dk_180 0 98 (dk_at dksX2_merge_7 18 rfl rfl)
theorem dX2_merge_186 : decode cX2_merge 186 = .ok (.invokespecial 101, 3) := dk_183 0 101 (dk_at dksX2_merge_7 21 rfl rfl)
theorem dX2_merge_189 : decode cX2_merge 189 = .ok (.invokeinterface 103 2, 5) := by decide +kernel
theorem dX2_merge_194 : decode cX2_merge 194 = .ok (.pop, 1) := dk_87 (dk_at dksX2_merge_8 5 rfl rfl)
theorem dX2_merge_195 : decode cX2_merge 195 = .ok (.goto 17, 3) := dk_167 0 17 (dk_at dksX2_merge_8 6 rfl rfl)
theorem dX2_merge_198 : decode cX2_merge 198 = .ok (.aload 4, 2) := dk_25 4 (dk_at dksX2_merge_8 9 rfl rfl)
theorem dX2_merge_200 : decode cX2_merge 200 = .ok (.dup, 1) := dk_89 (dk_at dksX2_merge_8 11 rfl rfl)
theorem dX2_merge_201 : decode cX2_merge 201 = .ok (.getfield 98, 3) := dk_180 0 98 (dk_at dksX2_merge_8 12 rfl rfl)
theorem dX2_merge_204 : decode cX2_merge 204 = .ok (.aload_n 3, 1) := dk_45 (dk_at dksX2_merge_8 15 rfl rfl)
theorem dX2_merge_205 : decode cX2_merge 205 = .ok (.getfield 98, 3) := dk_180 0 98 (dk_at dksX2_merge_8 16 rfl rfl)
theorem dX2_merge_208 : decode cX2_merge 208 = .ok (.iadd, 1) := dk_96 (dk_at dksX2_merge_8 19 rfl rfl)
theorem dX2_merge_209 : decode cX2_merge 209 = .ok (.putfield 98, 3) := dk_181 0 98 (dk_at dksX2_merge_8 20 rfl rfl)
theorem dX2_merge_212 : decode cX2_merge 212 = .ok (.iinc 2 1, 3) := dk_132 2 1 (dk_at dksX2_merge_9 0 rfl rfl)
theorem dX2_merge_215 : decode cX2_merge 215 = .ok (.goto (-87), 3) := dk_167 255 169 (dk_at dksX2_merge_9 3 rfl rfl)
theorem dX2_merge_218 : decode cX2_merge 218 = .ok (.aload_n 0, 1) := dk_42 (dk_at dksX2_merge_9 6 rfl rfl)
theorem dX2_merge_219 : decode cX2_merge 219 = .ok (.dup, 1) := dk_89 (dk_at dksX2_merge_9 7 rfl rfl)
theorem dX2_merge_220 : decode cX2_merge 220 = .ok (.getfield 114, 3) := dk_180 0 114 (dk_at dksX2_merge_9 8 rfl rfl)
theorem dX2_merge_223 : decode cX2_merge 223 = .ok (.aload_n 1, 1) := dk_43 (dk_at dksX2_merge_9 11 rfl rfl)
theorem dX2_merge_224 : decode cX2_merge 224 = .ok (.getfield 114, 3) := dk_180 0 114 (dk_at dksX2_merge_9 12 rfl rfl)
theorem dX2_merge_227 : decode cX2_merge 227 = .ok (.iadd, 1) := dk_96 (dk_at dksX2_merge_9 15 rfl rfl)
theorem dX2_merge_228 : decode cX2_merge 228 = .ok (.putfield 114, 3) := dk_181 0 114 (dk_at dksX2_merge_9 16 rfl rfl)
theorem dX2_merge_231 : decode cX2_merge 231 = .ok (.aload_n 0, 1) := dk_42 (dk_at dksX2_merge_9 19 rfl rfl)
theorem dX2_merge_232 : decode cX2_merge 232 = .ok (.getfield 36, 3) := dk_180 0 36 (dk_at dksX2_merge_9 20 rfl rfl)
theorem dX2_merge_235 : decode cX2_merge 235 = .ok (.invokeinterface 79 1, 5) := by decide +kernel
theorem dX2_merge_240 : decode cX2_merge 240 = .ok (.iconst 4, 1) := dk_7 (dk_at dksX2_merge_10 5 rfl rfl)
theorem dX2_merge_241 : decode cX2_merge 241 = .ok (.if_icmp .le 63, 3) := dk_164 0 63 (dk_at dksX2_merge_10 6 rfl rfl)
theorem dX2_merge_244 : decode cX2_merge 244 = .ok (.aload_n 0, 1) := dk_42 (dk_at dksX2_merge_10 9 rfl rfl)
theorem dX2_merge_245 : decode cX2_merge 245 = .ok (.getfield 36, 3) := dk_180 0 36 (dk_at dksX2_merge_10 10 rfl rfl)
theorem dX2_merge_248 : decode cX2_merge 248 = .ok (.invokeinterface 79 1, 5) := by decide +kernel
theorem dX2_merge_253 : decode cX2_merge 253 = .ok (.newarray .int, 2) := dk_188_10 (dk_at dksX2_merge_10 18 rfl rfl)
theorem dX2_merge_255 : decode cX2_merge 255 = .ok (.astore_n 2, 1) := dk_77 (dk_at dksX2_merge_10 20 rfl rfl)
theorem dX2_merge_256 : decode cX2_merge 256 = .ok (.iconst 0, 1) := dk_3 (dk_at dksX2_merge_10 21 rfl rfl)
theorem dX2_merge_257 : decode cX2_merge 257 = .ok (.istore_n 3, 1) := dk_62 (dk_at dksX2_merge_10 22 rfl rfl)
theorem dX2_merge_258 : decode cX2_merge 258 = .ok (.iload_n 3, 1) := dk_29 (dk_at dksX2_merge_10 23 rfl rfl)
theorem dX2_merge_259 : decode cX2_merge 259 = .ok (.aload_n 2, 1) := dk_44 (dk_at dksX2_merge_11 0 rfl rfl)
theorem dX2_merge_260 : decode cX2_merge 260 = .ok (.arraylength, 1) := dk_190 (dk_at dksX2_merge_11 1 rfl rfl)
theorem dX2_merge_261 : decode cX2_merge 261 = .ok (.if_icmp .ge 28, 3) := dk_162 0 28 (dk_at dksX2_merge_11 2 rfl rfl)
theorem dX2_merge_264 : decode cX2_merge 264 = .ok (.aload_n 2, 1) := dk_44 (dk_at dksX2_merge_11 5 rfl rfl)
theorem dX2_merge_265 : decode cX2_merge 265 = .ok (.iload_n 3, 1) := dk_29 (dk_at dksX2_merge_11 6 rfl rfl)
theorem dX2_merge_266 : decode cX2_merge 266 = .ok (.aload_n 0, 1) := dk_42 (dk_at dksX2_merge_11 7 rfl rfl)
theorem dX2_merge_267 : decode cX2_merge 267 = .ok (.getfield 36, 3) := dk_180 0 36 (dk_at dksX2_merge_11 8 rfl rfl)
theorem dX2_merge_270 : decode cX2_merge 270 = .ok (.iload_n 3, 1) := dk_29 (dk_at dksX2_merge_11 11 rfl rfl)
theorem dX2_merge_271 : decode cX2_merge 271 = .ok (.invokeinterface 85 2, 5) := by decide +kernel
theorem dX2_merge_276 : decode cX2_merge 276 = .ok (.checkcast 89, 3) := dk_192 0 89 (dk_at dksX2_merge_11 17 rfl rfl)
theorem dX2_merge_279 : decode cX2_merge 279 = .ok (.getfield 98, 3) := dk_180 0 98 (dk_at dksX2_merge_11 20 rfl rfl)
theorem dX2_merge_282 : decode cX2_merge 282 = .ok (.iastore, 1) := dk_79 (dk_at dksX2_merge_11 23 rfl rfl)
theorem dX2_merge_283 : decode cX2_merge 283 = .ok (.iinc 3 1, 3) := dk_132 3 1 (dk_at dksX2_merge_12 0 rfl rfl)
theorem dX2_merge_286 : decode cX2_merge 286 = .ok (.goto (-28), 3) := dk_167 255 228 (dk_at dksX2_merge_12 3 rfl rfl)
theorem dX2_merge_289 : decode cX2_merge 289 = .ok (.aload_n 0, 1) := dk_42 (dk_at dksX2_merge_12 6 rfl rfl)
theorem dX2_merge_290 : decode cX2_merge 290 = .ok (.aload_n 2, 1) := dk_44 (dk_at dksX2_merge_12 7 rfl rfl)
theorem dX2_merge_291 : decode cX2_merge 291 = .ok (.invokestatic 121, 3) := dk_184 0 121 (dk_at dksX2_merge_12 8 rfl rfl)
theorem dX2_merge_294 : decode cX2_merge 294 = .ok (.aload_n 2, 1) := dk_44 (dk_at dksX2_merge_12 11 rfl rfl)
theorem dX2_merge_295 : decode cX2_merge 295 = .ok (.arraylength, 1) := dk_190 (dk_at dksX2_merge_12 12 rfl rfl)
theorem dX2_merge_296 : decode cX2_merge 296 = .ok (.iconst 1, 1) := dk_4 (dk_at dksX2_merge_12 13 rfl rfl)
theorem dX2_merge_297 : decode cX2_merge 297 = .ok (.isub, 1) := dk_100 (dk_at dksX2_merge_12 14 rfl rfl)
theorem dX2_merge_298 : decode cX2_merge 298 = .ok (.iconst 4, 1) := dk_7 (dk_at dksX2_merge_12 15 rfl rfl)
theorem dX2_merge_299 : decode cX2_merge 299 = .ok (.isub, 1) := dk_100 (dk_at dksX2_merge_12 16 rfl rfl)
theorem dX2_merge_300 : decode cX2_merge 300 = .ok (.iaload, 1) := dk_46 (dk_at dksX2_merge_12 17 rfl rfl)
theorem dX2_merge_301 : decode cX2_merge 301 = .ok (.invokevirtual 107, 3) := dk_182 0 107 (dk_at dksX2_merge_12 18 rfl rfl)
theorem dX2_merge_304 : decode cX2_merge 304 = .ok (.return_, 1) := dk_177 (dk_at dksX2_merge_12 21 rfl rfl)
theorem q29 : (Jvm.Cond.initialized "Countcote$Stream") ∈ lw_all := lw_g (lw_at lw_m1 2 rfl) rfl
theorem q92 : (Jvm.Cond.instantiable "Countcote$Stream" (8 : Nat)) ∈ lw_all := lw_g (lw_at lw_m1 65 rfl) rfl
theorem q94 : (Jvm.Cond.instanceMethod ({ cls := "Countcote$Stream", name := "<init>", desc := "(LCountcote;)V" } : Jvm.MethodName)) ∈ lw_all := lw_g (lw_at lw_m1 67 rfl) rfl
theorem q95 : (Jvm.Cond.code ({ cls := "Countcote$Stream", name := "<init>", desc := "(LCountcote;)V" } : Jvm.MethodName) prog_7_method_1_code (3 : Nat) (Option.none : Option Jvm.ClassFile.FieldType)) ∈ lw_all := lw_g (lw_at lw_m1 68 rfl) rfl
theorem q96 : (Jvm.Cond.methodLink "Countcote$Stream" (9 : Nat) ({ cls := "java/lang/Object", name := "<init>", desc := "()V" } : Jvm.MethodName)) ∈ lw_all := lw_g (lw_at lw_m1 69 rfl) rfl
theorem q97 : (Jvm.Cond.classLink "Countcote$Stream" (19 : Nat) "[[[I") ∈ lw_all := lw_g (lw_at lw_m1 70 rfl) rfl
theorem q100 : (Jvm.Cond.classLink "Countcote$Stream" (24 : Nat) "[I") ∈ lw_all := lw_g (lw_at lw_m1 73 rfl) rfl
theorem q101 : (Jvm.Cond.classLink "Countcote$Stream" (29 : Nat) "[[I") ∈ lw_all := lw_g (lw_at lw_m1 74 rfl) rfl
theorem q102 : (Jvm.Cond.classLink "Countcote$Stream" (33 : Nat) "java/util/ArrayList") ∈ lw_all := lw_g (lw_at lw_m1 75 rfl) rfl
theorem q104 : (Jvm.Cond.methodLink "Countcote$Stream" (35 : Nat) ({ cls := "java/util/ArrayList", name := "<init>", desc := "()V" } : Jvm.MethodName)) ∈ lw_all := lw_g (lw_at lw_m1 77 rfl) rfl
theorem q129 : (Jvm.Cond.fieldLink "Countcote$Stream" (59 : Nat) "Countcote$Stream" "total" "I") ∈ lw_all := lw_g (lw_at lw_m1 102 rfl) rfl
theorem q131 : (Jvm.Cond.fieldLink "Countcote$Stream" (15 : Nat) "Countcote$Stream" "plain" "[I") ∈ lw_all := lw_g (lw_at lw_m1 104 rfl) rfl
theorem q133 : (Jvm.Cond.fieldLink "Countcote$Stream" (21 : Nat) "Countcote$Stream" "cells" "[[[I") ∈ lw_all := lw_g (lw_at lw_m1 106 rfl) rfl
theorem q135 : (Jvm.Cond.fieldLink "Countcote$Stream" (25 : Nat) "Countcote$Stream" "halves" "[[I") ∈ lw_all := lw_g (lw_at lw_m1 108 rfl) rfl
theorem q136 : (Jvm.Cond.fieldLink "Countcote$Stream" (30 : Nat) "Countcote$Stream" "signed" "[[I") ∈ lw_all := lw_g (lw_at lw_m1 109 rfl) rfl
theorem q138 : (Jvm.Cond.fieldLink "Countcote$Stream" (36 : Nat) "Countcote$Stream" "counters" "Ljava/util/List;") ∈ lw_all := lw_g (lw_at lw_m1 111 rfl) rfl
theorem q140 : (Jvm.Cond.fieldLink "Countcote$Stream" (114 : Nat) "Countcote$Stream" "taken" "I") ∈ lw_all := lw_g (lw_at lw_m1 113 rfl) rfl
theorem q142 : (Jvm.Cond.fieldLink "Countcote$Stream" (3 : Nat) "Countcote$Stream" "this$0" "LCountcote;") ∈ lw_all := lw_g (lw_at lw_m1 115 rfl) rfl
theorem q143 : (Jvm.Cond.lays "Countcote$Stream" "Countcote$Stream" "total" "I") ∈ lw_all := lw_g (lw_at lw_m1 116 rfl) rfl
theorem q144 : (Jvm.Cond.soleField "Countcote$Stream" "total") ∈ lw_all := lw_g (lw_at lw_m1 117 rfl) rfl
theorem q145 : (Jvm.Cond.laysFinal "Countcote$Stream" "Countcote$Stream" "plain" "[I") ∈ lw_all := lw_g (lw_at lw_m1 118 rfl) rfl
theorem q146 : (Jvm.Cond.soleField "Countcote$Stream" "plain") ∈ lw_all := lw_g (lw_at lw_m1 119 rfl) rfl
theorem q147 : (Jvm.Cond.laysFinal "Countcote$Stream" "Countcote$Stream" "cells" "[[[I") ∈ lw_all := lw_g (lw_at lw_m1 120 rfl) rfl
theorem q148 : (Jvm.Cond.soleField "Countcote$Stream" "cells") ∈ lw_all := lw_g (lw_at lw_m1 121 rfl) rfl
theorem q149 : (Jvm.Cond.laysFinal "Countcote$Stream" "Countcote$Stream" "halves" "[[I") ∈ lw_all := lw_g (lw_at lw_m1 122 rfl) rfl
theorem q150 : (Jvm.Cond.soleField "Countcote$Stream" "halves") ∈ lw_all := lw_g (lw_at lw_m1 123 rfl) rfl
theorem q151 : (Jvm.Cond.laysFinal "Countcote$Stream" "Countcote$Stream" "signed" "[[I") ∈ lw_all := lw_g (lw_at lw_m1 124 rfl) rfl
theorem q152 : (Jvm.Cond.soleField "Countcote$Stream" "signed") ∈ lw_all := lw_g (lw_at lw_m1 125 rfl) rfl
theorem q153 : (Jvm.Cond.laysFinal "Countcote$Stream" "Countcote$Stream" "counters" "Ljava/util/List;") ∈ lw_all := lw_g (lw_at lw_m1 126 rfl) rfl
theorem q154 : (Jvm.Cond.soleField "Countcote$Stream" "counters") ∈ lw_all := lw_g (lw_at lw_m1 127 rfl) rfl
theorem q155 : (Jvm.Cond.lays "Countcote$Stream" "Countcote$Stream" "taken" "I") ∈ lw_all := lw_g (lw_at lw_m1 128 rfl) rfl
theorem q156 : (Jvm.Cond.soleField "Countcote$Stream" "taken") ∈ lw_all := lw_g (lw_at lw_m1 129 rfl) rfl
theorem q157 : (Jvm.Cond.laysFinal "Countcote$Stream" "Countcote$Stream" "this$0" "LCountcote;") ∈ lw_all := lw_g (lw_at lw_m1 130 rfl) rfl
theorem q158 : (Jvm.Cond.soleField "Countcote$Stream" "this$0") ∈ lw_all := lw_g (lw_at lw_m1 131 rfl) rfl
theorem q159 : (Jvm.Cond.superclass "Countcote$Stream" "java/lang/Object") ∈ lw_all := lw_g (lw_at lw_m1 132 rfl) rfl
theorem q160 : (Jvm.Cond.fieldLinkNest "Countcote$Stream" (43 : Nat) "Countcote" "columns" "[LCountcote$Hash;" "Countcote") ∈ lw_tbl := lw_at lw_m1 133 rfl
theorem q162 : (Jvm.Cond.fieldLinkNest "Countcote$Stream" (69 : Nat) "Countcote" "signedColumns" "[LCountcote$Hash;" "Countcote") ∈ lw_tbl := lw_at lw_m1 135 rfl
theorem q325 : (Jvm.Cond.instanceMethod ({ cls := "Countcote$Stream", name := "add", desc := "(II)V" } : Jvm.MethodName)) ∈ lw_all := lw_g (lw_at lw_m2 58 rfl) rfl
theorem q326 : (Jvm.Cond.selects "Countcote$Stream" ({ cls := "Countcote$Stream", name := "add", desc := "(II)V" } : Jvm.MethodName) ({ cls := "Countcote$Stream", name := "add", desc := "(II)V" } : Jvm.MethodName)) ∈ lw_all := lw_g (lw_at lw_m2 59 rfl) rfl
theorem q327 : (Jvm.Cond.code ({ cls := "Countcote$Stream", name := "add", desc := "(II)V" } : Jvm.MethodName) prog_7_method_3_code (8 : Nat) (Option.none : Option Jvm.ClassFile.FieldType)) ∈ lw_all := lw_g (lw_at lw_m2 60 rfl) rfl
theorem q328 : (Jvm.Cond.methodLink "Countcote$Stream" (63 : Nat) ({ cls := "Countcote$Stream", name := "estimate", desc := "(II)I" } : Jvm.MethodName)) ∈ lw_all := lw_g (lw_at lw_m2 61 rfl) rfl
theorem q329 : (Jvm.Cond.instanceMethod ({ cls := "Countcote$Stream", name := "estimate", desc := "(II)I" } : Jvm.MethodName)) ∈ lw_all := lw_g (lw_at lw_m2 62 rfl) rfl
theorem q330 : (Jvm.Cond.selects "Countcote$Stream" ({ cls := "Countcote$Stream", name := "estimate", desc := "(II)I" } : Jvm.MethodName) ({ cls := "Countcote$Stream", name := "estimate", desc := "(II)I" } : Jvm.MethodName)) ∈ lw_all := lw_g (lw_at lw_m2 63 rfl) rfl
theorem q331 : (Jvm.Cond.code ({ cls := "Countcote$Stream", name := "estimate", desc := "(II)I" } : Jvm.MethodName) prog_7_method_2_code (5 : Nat) (Option.some Jvm.ClassFile.FieldType.int)) ∈ lw_all := lw_g (lw_at lw_m2 64 rfl) rfl
theorem q332 : (Jvm.Cond.constant "Countcote$Stream" (42 : Nat) (2147483647 : Int32)) ∈ lw_all := lw_g (lw_at lw_m2 65 rfl) rfl
theorem q333 : (Jvm.Cond.interfaceEntry "Countcote$Stream" (47 : Nat)) ∈ lw_tbl := lw_at lw_m2 66 rfl
theorem q334 : (Jvm.Cond.methodLink "Countcote$Stream" (47 : Nat) ({ cls := "Countcote$Hash", name := "of", desc := "(I)I" } : Jvm.MethodName)) ∈ lw_all := lw_g (lw_at lw_m2 67 rfl) rfl
theorem q337 : (Jvm.Cond.methodLink "Countcote$Stream" (53 : Nat) ({ cls := "java/lang/Math", name := "min", desc := "(II)I" } : Jvm.MethodName)) ∈ lw_all := lw_g (lw_at lw_m2 70 rfl) rfl
theorem q340 : (Jvm.Cond.methodLink "Countcote$Stream" (66 : Nat) ({ cls := "java/lang/Math", name := "max", desc := "(II)I" } : Jvm.MethodName)) ∈ lw_all := lw_g (lw_at lw_m2 73 rfl) rfl
theorem q343 : (Jvm.Cond.methodLinkNest "Countcote$Stream" (72 : Nat) ({ cls := "Countcote", name := "signOf", desc := "(II)I" } : Jvm.MethodName) "Countcote") ∈ lw_tbl := lw_at lw_m2 76 rfl
theorem q349 : (Jvm.Cond.methodLink "Countcote$Stream" (75 : Nat) ({ cls := "Countcote$Stream", name := "addToCounters", desc := "(II)V" } : Jvm.MethodName)) ∈ lw_all := lw_g (lw_at lw_m2 82 rfl) rfl
theorem q350 : (Jvm.Cond.privateMethod ({ cls := "Countcote$Stream", name := "addToCounters", desc := "(II)V" } : Jvm.MethodName)) ∈ lw_tbl := lw_at lw_m2 83 rfl
theorem q351 : (Jvm.Cond.instanceMethod ({ cls := "Countcote$Stream", name := "addToCounters", desc := "(II)V" } : Jvm.MethodName)) ∈ lw_all := lw_g (lw_at lw_m2 84 rfl) rfl
theorem q352 : (Jvm.Cond.code ({ cls := "Countcote$Stream", name := "addToCounters", desc := "(II)V" } : Jvm.MethodName) prog_7_method_5_code (7 : Nat) (Option.none : Option Jvm.ClassFile.FieldType)) ∈ lw_all := lw_g (lw_at lw_m2 85 rfl) rfl
theorem q353 : (Jvm.Cond.methodLink "Countcote$Stream" (94 : Nat) ({ cls := "Countcote$Stream", name := "counterOf", desc := "(I)LCountcote$Counter;" } : Jvm.MethodName)) ∈ lw_all := lw_g (lw_at lw_m2 86 rfl) rfl
theorem q354 : (Jvm.Cond.instanceMethod ({ cls := "Countcote$Stream", name := "counterOf", desc := "(I)LCountcote$Counter;" } : Jvm.MethodName)) ∈ lw_all := lw_g (lw_at lw_m2 87 rfl) rfl
theorem q355 : (Jvm.Cond.selects "Countcote$Stream" ({ cls := "Countcote$Stream", name := "counterOf", desc := "(I)LCountcote$Counter;" } : Jvm.MethodName) ({ cls := "Countcote$Stream", name := "counterOf", desc := "(I)LCountcote$Counter;" } : Jvm.MethodName)) ∈ lw_all := lw_g (lw_at lw_m2 88 rfl) rfl
theorem q356 : (Jvm.Cond.code ({ cls := "Countcote$Stream", name := "counterOf", desc := "(I)LCountcote$Counter;" } : Jvm.MethodName) prog_7_method_4_code (3 : Nat) (Option.some (Jvm.ClassFile.FieldType.object "Countcote$Counter"))) ∈ lw_all := lw_g (lw_at lw_m2 89 rfl) rfl
theorem q357 : (Jvm.Cond.interfaceEntry "Countcote$Stream" (79 : Nat)) ∈ lw_tbl := lw_at lw_m2 90 rfl
theorem q358 : (Jvm.Cond.methodLink "Countcote$Stream" (79 : Nat) ({ cls := "java/util/List", name := "size", desc := "()I" } : Jvm.MethodName)) ∈ lw_all := lw_g (lw_at lw_m2 91 rfl) rfl
theorem q367 : (Jvm.Cond.interfaceEntry "Countcote$Stream" (85 : Nat)) ∈ lw_tbl := lw_at lw_m2 100 rfl
theorem q368 : (Jvm.Cond.methodLink "Countcote$Stream" (85 : Nat) ({ cls := "java/util/List", name := "get", desc := "(I)Ljava/lang/Object;" } : Jvm.MethodName)) ∈ lw_all := lw_g (lw_at lw_m2 101 rfl) rfl
theorem q386 : (Jvm.Cond.classLink "Countcote$Stream" (89 : Nat) "Countcote$Counter") ∈ lw_all := lw_g (lw_at lw_m2 119 rfl) rfl
theorem q388 : (Jvm.Cond.methodLink "Countcote$Stream" (101 : Nat) ({ cls := "Countcote$Counter", name := "<init>", desc := "(II)V" } : Jvm.MethodName)) ∈ lw_all := lw_g (lw_at lw_m2 121 rfl) rfl
theorem q393 : (Jvm.Cond.fieldLink "Countcote$Stream" (91 : Nat) "Countcote$Counter" "item" "I") ∈ lw_all := lw_g (lw_at lw_m2 126 rfl) rfl
theorem q396 : (Jvm.Cond.fieldLink "Countcote$Stream" (98 : Nat) "Countcote$Counter" "weight" "I") ∈ lw_all := lw_g (lw_at lw_m2 129 rfl) rfl
theorem q403 : (Jvm.Cond.interfaceEntry "Countcote$Stream" (103 : Nat)) ∈ lw_tbl := lw_at lw_m2 136 rfl
theorem q404 : (Jvm.Cond.methodLink "Countcote$Stream" (103 : Nat) ({ cls := "java/util/List", name := "add", desc := "(Ljava/lang/Object;)Z" } : Jvm.MethodName)) ∈ lw_all := lw_g (lw_at lw_m2 137 rfl) rfl
theorem q443 : (Jvm.Cond.selects "Countcote$Stream" ({ cls := "java/lang/Object", name := "getClass", desc := "()Ljava/lang/Class;" } : Jvm.MethodName) ({ cls := "java/lang/Object", name := "getClass", desc := "()Ljava/lang/Class;" } : Jvm.MethodName)) ∈ lw_all := lw_g (lw_at lw_m2 176 rfl) rfl
theorem q464 : (Jvm.Cond.methodLink "Countcote$Stream" (107 : Nat) ({ cls := "Countcote$Stream", name := "take", desc := "(I)V" } : Jvm.MethodName)) ∈ lw_all := lw_g (lw_at lw_m2 197 rfl) rfl
theorem q465 : (Jvm.Cond.privateMethod ({ cls := "Countcote$Stream", name := "take", desc := "(I)V" } : Jvm.MethodName)) ∈ lw_tbl := lw_at lw_m2 198 rfl
theorem q466 : (Jvm.Cond.instanceMethod ({ cls := "Countcote$Stream", name := "take", desc := "(I)V" } : Jvm.MethodName)) ∈ lw_all := lw_g (lw_at lw_m2 199 rfl) rfl
theorem q467 : (Jvm.Cond.code ({ cls := "Countcote$Stream", name := "take", desc := "(I)V" } : Jvm.MethodName) prog_7_method_6_code (3 : Nat) (Option.none : Option Jvm.ClassFile.FieldType)) ∈ lw_all := lw_g (lw_at lw_m2 200 rfl) rfl
theorem q468 : (Jvm.Cond.interfaceEntry "Countcote$Stream" (111 : Nat)) ∈ lw_tbl := lw_at lw_m2 201 rfl
theorem q469 : (Jvm.Cond.methodLink "Countcote$Stream" (111 : Nat) ({ cls := "java/util/List", name := "remove", desc := "(I)Ljava/lang/Object;" } : Jvm.MethodName)) ∈ lw_all := lw_g (lw_at lw_m2 202 rfl) rfl
theorem q490 : (Jvm.Cond.instanceMethod ({ cls := "Countcote$Stream", name := "merge", desc := "(LCountcote$Stream;)V" } : Jvm.MethodName)) ∈ lw_all := lw_g (lw_at lw_m2 223 rfl) rfl
theorem q491 : (Jvm.Cond.selects "Countcote$Stream" ({ cls := "Countcote$Stream", name := "merge", desc := "(LCountcote$Stream;)V" } : Jvm.MethodName) ({ cls := "Countcote$Stream", name := "merge", desc := "(LCountcote$Stream;)V" } : Jvm.MethodName)) ∈ lw_all := lw_g (lw_at lw_m2 224 rfl) rfl
theorem q492 : (Jvm.Cond.code ({ cls := "Countcote$Stream", name := "merge", desc := "(LCountcote$Stream;)V" } : Jvm.MethodName) prog_7_method_7_code (5 : Nat) (Option.none : Option Jvm.ClassFile.FieldType)) ∈ lw_all := lw_g (lw_at lw_m2 225 rfl) rfl
theorem q493 : (Jvm.Cond.methodLinkNest "Countcote$Stream" (117 : Nat) ({ cls := "Countcote", name := "addTo", desc := "([I[I)V" } : Jvm.MethodName) "Countcote") ∈ lw_tbl := lw_at lw_m2 226 rfl
theorem q496 : (Jvm.Cond.methodLinkNest "Countcote$Stream" (121 : Nat) ({ cls := "Countcote", name := "ordered", desc := "([I)[I" } : Jvm.MethodName) "Countcote") ∈ lw_tbl := lw_at lw_m2 229 rfl
theorem q1025 : (Jvm.Cond.castable "Countcote$Stream" "java/lang/Object") ∈ lw_tbl := lw_at lw_m5 38 rfl
theorem in_X2 : ∀ w ∈ wsX20, w ∈ lw_all := lw_in wsX20 [143, 145, 147, 149, 151, 153, 155, 157] (by decide +kernel) (by decide +kernel)
/-! Countcote$Counter -/
set_option maxRecDepth 100000
def RX4 : String := "Countcote$Counter"
def TX4 : u_T := fun k => match k with
  | 0 => ("Countcote$Counter", "item", "I", true)
  | _ => ("Countcote$Counter", "weight", "I", false)
def tyX4 : Nat → FieldType := fun k => match k with
  | 0 => .int
  | _ => .int
abbrev wsX40 : List Cond := u_ws RX4 TX4 2
theorem nmX4 : ∀ a, a < 2 → ∀ b, b < 2 → a ≠ b → (TX4 a).2.1 ≠ (TX4 b).2.1 := by decide +kernel
theorem tyX4_ok : ∀ k, k < 2 → parseFieldDescriptor (TX4 k).2.2.1 = some (tyX4 k) := by decide +kernel
abbrev cX4_init : ByteArray := prog_2_method_1_code
def yX4_init : MethodName := ⟨RX4, "<init>", "(II)V"⟩
def dkwX4_init_0 : List UInt8 := [42, 183, 0, 1, 42, 27, 181, 0, 7, 42, 28, 181, 0, 13, 177]
abbrev dktX4_init_0 : List UInt8 := dkwX4_init_0 ++ []
theorem dksX4_init_0 : cX4_init.data.toList.drop 0 = dktX4_init_0 := by decide +kernel
theorem dX4_init_0 : decode cX4_init 0 = .ok (.aload_n 0, 1) := dk_42 (dk_at dksX4_init_0 0 rfl rfl)
theorem dX4_init_1 : decode cX4_init 1 = .ok (.invokespecial 1, 3) := dk_183 0 1 (dk_at dksX4_init_0 1 rfl rfl)
theorem dX4_init_4 : decode cX4_init 4 = .ok (.aload_n 0, 1) := dk_42 (dk_at dksX4_init_0 4 rfl rfl)
theorem dX4_init_5 : decode cX4_init 5 = .ok (.iload_n 1, 1) := dk_27 (dk_at dksX4_init_0 5 rfl rfl)
theorem dX4_init_6 : decode cX4_init 6 = .ok (.putfield 7, 3) := dk_181 0 7 (dk_at dksX4_init_0 6 rfl rfl)
theorem dX4_init_9 : decode cX4_init 9 = .ok (.aload_n 0, 1) := dk_42 (dk_at dksX4_init_0 9 rfl rfl)
theorem dX4_init_10 : decode cX4_init 10 = .ok (.iload_n 2, 1) := dk_28 (dk_at dksX4_init_0 10 rfl rfl)
theorem dX4_init_11 : decode cX4_init 11 = .ok (.putfield 13, 3) := dk_181 0 13 (dk_at dksX4_init_0 11 rfl rfl)
theorem dX4_init_14 : decode cX4_init 14 = .ok (.return_, 1) := dk_177 (dk_at dksX4_init_0 14 rfl rfl)
theorem q45 : (Jvm.Cond.initialized "Countcote$Counter") ∈ lw_all := lw_g (lw_at lw_m1 18 rfl) rfl
theorem q387 : (Jvm.Cond.instantiable "Countcote$Counter" (2 : Nat)) ∈ lw_all := lw_g (lw_at lw_m2 120 rfl) rfl
theorem q389 : (Jvm.Cond.instanceMethod ({ cls := "Countcote$Counter", name := "<init>", desc := "(II)V" } : Jvm.MethodName)) ∈ lw_all := lw_g (lw_at lw_m2 122 rfl) rfl
theorem q390 : (Jvm.Cond.code ({ cls := "Countcote$Counter", name := "<init>", desc := "(II)V" } : Jvm.MethodName) prog_2_method_1_code (3 : Nat) (Option.none : Option Jvm.ClassFile.FieldType)) ∈ lw_all := lw_g (lw_at lw_m2 123 rfl) rfl
theorem q391 : (Jvm.Cond.methodLink "Countcote$Counter" (1 : Nat) ({ cls := "java/lang/Object", name := "<init>", desc := "()V" } : Jvm.MethodName)) ∈ lw_all := lw_g (lw_at lw_m2 124 rfl) rfl
theorem q392 : (Jvm.Cond.fieldLink "Countcote$Counter" (7 : Nat) "Countcote$Counter" "item" "I") ∈ lw_all := lw_g (lw_at lw_m2 125 rfl) rfl
theorem q395 : (Jvm.Cond.fieldLink "Countcote$Counter" (13 : Nat) "Countcote$Counter" "weight" "I") ∈ lw_all := lw_g (lw_at lw_m2 128 rfl) rfl
theorem q398 : (Jvm.Cond.laysFinal "Countcote$Counter" "Countcote$Counter" "item" "I") ∈ lw_all := lw_g (lw_at lw_m2 131 rfl) rfl
theorem q399 : (Jvm.Cond.soleField "Countcote$Counter" "item") ∈ lw_all := lw_g (lw_at lw_m2 132 rfl) rfl
theorem q400 : (Jvm.Cond.lays "Countcote$Counter" "Countcote$Counter" "weight" "I") ∈ lw_all := lw_g (lw_at lw_m2 133 rfl) rfl
theorem q401 : (Jvm.Cond.soleField "Countcote$Counter" "weight") ∈ lw_all := lw_g (lw_at lw_m2 134 rfl) rfl
theorem q402 : (Jvm.Cond.superclass "Countcote$Counter" "java/lang/Object") ∈ lw_all := lw_g (lw_at lw_m2 135 rfl) rfl
theorem q439 : (Jvm.Cond.selects "Countcote$Counter" ({ cls := "java/lang/Object", name := "getClass", desc := "()Ljava/lang/Class;" } : Jvm.MethodName) ({ cls := "java/lang/Object", name := "getClass", desc := "()Ljava/lang/Class;" } : Jvm.MethodName)) ∈ lw_all := lw_g (lw_at lw_m2 172 rfl) rfl
theorem q1033 : (Jvm.Cond.castable "Countcote$Counter" "java/lang/Object") ∈ lw_tbl := lw_at lw_m5 46 rfl
theorem in_X4 : ∀ w ∈ wsX40, w ∈ lw_all := lw_in wsX40 [398, 400] (by decide +kernel) (by decide +kernel)
/-! Countcote$Parts -/
set_option maxRecDepth 100000
def RX5 : String := "Countcote$Parts"
def TX5 : u_T := fun k => match k with
  | 0 => ("Countcote$Parts", "from", "I", true)
  | _ => ("Countcote$Parts", "to", "I", true)
def tyX5 : Nat → FieldType := fun k => match k with
  | 0 => .int
  | _ => .int
abbrev wsX50 : List Cond := u_ws RX5 TX5 2
theorem nmX5 : ∀ a, a < 2 → ∀ b, b < 2 → a ≠ b → (TX5 a).2.1 ≠ (TX5 b).2.1 := by decide +kernel
theorem tyX5_ok : ∀ k, k < 2 → parseFieldDescriptor (TX5 k).2.2.1 = some (tyX5 k) := by decide +kernel
abbrev cX5_init : ByteArray := prog_5_method_1_code
def yX5_init : MethodName := ⟨RX5, "<init>", "(II)V"⟩
def dkwX5_init_0 : List UInt8 := [42, 183, 0, 1, 42, 27, 181, 0, 7, 42, 28, 181, 0, 13, 177]
abbrev dktX5_init_0 : List UInt8 := dkwX5_init_0 ++ []
theorem dksX5_init_0 : cX5_init.data.toList.drop 0 = dktX5_init_0 := by decide +kernel
theorem dX5_init_0 : decode cX5_init 0 = .ok (.aload_n 0, 1) := dk_42 (dk_at dksX5_init_0 0 rfl rfl)
theorem dX5_init_1 : decode cX5_init 1 = .ok (.invokespecial 1, 3) := dk_183 0 1 (dk_at dksX5_init_0 1 rfl rfl)
theorem dX5_init_4 : decode cX5_init 4 = .ok (.aload_n 0, 1) := dk_42 (dk_at dksX5_init_0 4 rfl rfl)
theorem dX5_init_5 : decode cX5_init 5 = .ok (.iload_n 1, 1) := dk_27 (dk_at dksX5_init_0 5 rfl rfl)
theorem dX5_init_6 : decode cX5_init 6 = .ok (.putfield 7, 3) := dk_181 0 7 (dk_at dksX5_init_0 6 rfl rfl)
theorem dX5_init_9 : decode cX5_init 9 = .ok (.aload_n 0, 1) := dk_42 (dk_at dksX5_init_0 9 rfl rfl)
theorem dX5_init_10 : decode cX5_init 10 = .ok (.iload_n 2, 1) := dk_28 (dk_at dksX5_init_0 10 rfl rfl)
theorem dX5_init_11 : decode cX5_init 11 = .ok (.putfield 13, 3) := dk_181 0 13 (dk_at dksX5_init_0 11 rfl rfl)
theorem dX5_init_14 : decode cX5_init 14 = .ok (.return_, 1) := dk_177 (dk_at dksX5_init_0 14 rfl rfl)
abbrev cX5_iterator : ByteArray := prog_5_method_2_code
def yX5_iterator : MethodName := ⟨RX5, "iterator", "()Ljava/util/Iterator;"⟩
def dkwX5_iterator_0 : List UInt8 := [187, 0, 16, 89, 42, 183, 0, 18, 176]
abbrev dktX5_iterator_0 : List UInt8 := dkwX5_iterator_0 ++ []
theorem dksX5_iterator_0 : cX5_iterator.data.toList.drop 0 = dktX5_iterator_0 := by decide +kernel
theorem dX5_iterator_0 : decode cX5_iterator 0 = .ok (.new 16, 3) := dk_187 0 16 (dk_at dksX5_iterator_0 0 rfl rfl)
theorem dX5_iterator_3 : decode cX5_iterator 3 = .ok (.dup, 1) := dk_89 (dk_at dksX5_iterator_0 3 rfl rfl)
theorem dX5_iterator_4 : decode cX5_iterator 4 = .ok (.aload_n 0, 1) := dk_42 (dk_at dksX5_iterator_0 4 rfl rfl)
theorem dX5_iterator_5 : decode cX5_iterator 5 = .ok (.invokespecial 18, 3) := dk_183 0 18 (dk_at dksX5_iterator_0 5 rfl rfl)
theorem dX5_iterator_8 : decode cX5_iterator 8 = .ok (.areturn, 1) := dk_176 (dk_at dksX5_iterator_0 8 rfl rfl)
theorem q49 : (Jvm.Cond.initialized "Countcote$Parts") ∈ lw_all := lw_g (lw_at lw_m1 22 rfl) rfl
theorem q441 : (Jvm.Cond.selects "Countcote$Parts" ({ cls := "java/lang/Object", name := "getClass", desc := "()Ljava/lang/Class;" } : Jvm.MethodName) ({ cls := "java/lang/Object", name := "getClass", desc := "()Ljava/lang/Class;" } : Jvm.MethodName)) ∈ lw_all := lw_g (lw_at lw_m2 174 rfl) rfl
theorem q574 : (Jvm.Cond.instantiable "Countcote$Parts" (2 : Nat)) ∈ lw_all := lw_g (lw_at lw_m3 67 rfl) rfl
theorem q576 : (Jvm.Cond.instanceMethod ({ cls := "Countcote$Parts", name := "<init>", desc := "(II)V" } : Jvm.MethodName)) ∈ lw_all := lw_g (lw_at lw_m3 69 rfl) rfl
theorem q577 : (Jvm.Cond.code ({ cls := "Countcote$Parts", name := "<init>", desc := "(II)V" } : Jvm.MethodName) prog_5_method_1_code (3 : Nat) (Option.none : Option Jvm.ClassFile.FieldType)) ∈ lw_all := lw_g (lw_at lw_m3 70 rfl) rfl
theorem q578 : (Jvm.Cond.methodLink "Countcote$Parts" (1 : Nat) ({ cls := "java/lang/Object", name := "<init>", desc := "()V" } : Jvm.MethodName)) ∈ lw_all := lw_g (lw_at lw_m3 71 rfl) rfl
theorem q579 : (Jvm.Cond.fieldLink "Countcote$Parts" (7 : Nat) "Countcote$Parts" "from" "I") ∈ lw_all := lw_g (lw_at lw_m3 72 rfl) rfl
theorem q581 : (Jvm.Cond.fieldLink "Countcote$Parts" (13 : Nat) "Countcote$Parts" "to" "I") ∈ lw_all := lw_g (lw_at lw_m3 74 rfl) rfl
theorem q583 : (Jvm.Cond.laysFinal "Countcote$Parts" "Countcote$Parts" "from" "I") ∈ lw_all := lw_g (lw_at lw_m3 76 rfl) rfl
theorem q584 : (Jvm.Cond.soleField "Countcote$Parts" "from") ∈ lw_all := lw_g (lw_at lw_m3 77 rfl) rfl
theorem q585 : (Jvm.Cond.laysFinal "Countcote$Parts" "Countcote$Parts" "to" "I") ∈ lw_all := lw_g (lw_at lw_m3 78 rfl) rfl
theorem q586 : (Jvm.Cond.soleField "Countcote$Parts" "to") ∈ lw_all := lw_g (lw_at lw_m3 79 rfl) rfl
theorem q587 : (Jvm.Cond.superclass "Countcote$Parts" "java/lang/Object") ∈ lw_all := lw_g (lw_at lw_m3 80 rfl) rfl
theorem q589 : (Jvm.Cond.instanceMethod ({ cls := "Countcote$Parts", name := "iterator", desc := "()Ljava/util/Iterator;" } : Jvm.MethodName)) ∈ lw_all := lw_g (lw_at lw_m3 82 rfl) rfl
theorem q590 : (Jvm.Cond.selects "Countcote$Parts" ({ cls := "Countcote$Parts", name := "iterator", desc := "()Ljava/util/Iterator;" } : Jvm.MethodName) ({ cls := "Countcote$Parts", name := "iterator", desc := "()Ljava/util/Iterator;" } : Jvm.MethodName)) ∈ lw_all := lw_g (lw_at lw_m3 83 rfl) rfl
theorem q591 : (Jvm.Cond.code ({ cls := "Countcote$Parts", name := "iterator", desc := "()Ljava/util/Iterator;" } : Jvm.MethodName) prog_5_method_2_code (1 : Nat) (Option.some (Jvm.ClassFile.FieldType.object "java/util/Iterator"))) ∈ lw_all := lw_g (lw_at lw_m3 84 rfl) rfl
theorem q592 : (Jvm.Cond.classLink "Countcote$Parts" (16 : Nat) "Countcote$Parts$1") ∈ lw_all := lw_g (lw_at lw_m3 85 rfl) rfl
theorem q594 : (Jvm.Cond.methodLink "Countcote$Parts" (18 : Nat) ({ cls := "Countcote$Parts$1", name := "<init>", desc := "(LCountcote$Parts;)V" } : Jvm.MethodName)) ∈ lw_all := lw_g (lw_at lw_m3 87 rfl) rfl
theorem q1034 : (Jvm.Cond.castable "Countcote$Parts" "java/lang/Object") ∈ lw_tbl := lw_at lw_m5 47 rfl
theorem in_X5 : ∀ w ∈ wsX50, w ∈ lw_all := lw_in wsX50 [583, 585] (by decide +kernel) (by decide +kernel)
/-! Countcote$Parts$1 -/
set_option maxRecDepth 100000
def RX6 : String := "Countcote$Parts$1"
def TX6 : u_T := fun k => match k with
  | 0 => ("Countcote$Parts$1", "item", "I", false)
  | _ => ("Countcote$Parts$1", "this$0", "LCountcote$Parts;", true)
def tyX6 : Nat → FieldType := fun k => match k with
  | 0 => .int
  | _ => .object "Countcote$Parts"
abbrev wsX60 : List Cond := u_ws RX6 TX6 2
theorem nmX6 : ∀ a, a < 2 → ∀ b, b < 2 → a ≠ b → (TX6 a).2.1 ≠ (TX6 b).2.1 := by decide +kernel
theorem tyX6_ok : ∀ k, k < 2 → parseFieldDescriptor (TX6 k).2.2.1 = some (tyX6 k) := by decide +kernel
abbrev cX6_init : ByteArray := prog_6_method_1_code
def yX6_init : MethodName := ⟨RX6, "<init>", "(LCountcote$Parts;)V"⟩
def dkwX6_init_0 : List UInt8 := [42, 43, 181, 0, 3, 42, 183, 0, 9, 42, 42, 180, 0, 3, 180, 0, 15, 181, 0, 21, 177]
abbrev dktX6_init_0 : List UInt8 := dkwX6_init_0 ++ []
theorem dksX6_init_0 : cX6_init.data.toList.drop 0 = dktX6_init_0 := by decide +kernel
theorem dX6_init_0 : decode cX6_init 0 = .ok (.aload_n 0, 1) := dk_42 (dk_at dksX6_init_0 0 rfl rfl)
theorem dX6_init_1 : decode cX6_init 1 = .ok (.aload_n 1, 1) := dk_43 (dk_at dksX6_init_0 1 rfl rfl)
theorem dX6_init_2 : decode cX6_init 2 = .ok (.putfield 3, 3) := dk_181 0 3 (dk_at dksX6_init_0 2 rfl rfl)
theorem dX6_init_5 : decode cX6_init 5 = .ok (.aload_n 0, 1) := dk_42 (dk_at dksX6_init_0 5 rfl rfl)
theorem dX6_init_6 : decode cX6_init 6 = .ok (.invokespecial 9, 3) := dk_183 0 9 (dk_at dksX6_init_0 6 rfl rfl)
theorem dX6_init_9 : decode cX6_init 9 = .ok (.aload_n 0, 1) := dk_42 (dk_at dksX6_init_0 9 rfl rfl)
theorem dX6_init_10 : decode cX6_init 10 = .ok (.aload_n 0, 1) := dk_42 (dk_at dksX6_init_0 10 rfl rfl)
theorem dX6_init_11 : decode cX6_init 11 = .ok (.getfield 3, 3) := dk_180 0 3 (dk_at dksX6_init_0 11 rfl rfl)
theorem dX6_init_14 : decode cX6_init 14 = .ok (.getfield 15, 3) := dk_180 0 15 (dk_at dksX6_init_0 14 rfl rfl)
theorem dX6_init_17 : decode cX6_init 17 = .ok (.putfield 21, 3) := dk_181 0 21 (dk_at dksX6_init_0 17 rfl rfl)
theorem dX6_init_20 : decode cX6_init 20 = .ok (.return_, 1) := dk_177 (dk_at dksX6_init_0 20 rfl rfl)
abbrev cX6_hasNext : ByteArray := prog_6_method_2_code
def yX6_hasNext : MethodName := ⟨RX6, "hasNext", "()Z"⟩
def dkwX6_hasNext_0 : List UInt8 := [42, 180, 0, 21, 42, 180, 0, 3, 180, 0, 24, 163, 0, 7, 4, 167, 0, 4, 3, 172]
abbrev dktX6_hasNext_0 : List UInt8 := dkwX6_hasNext_0 ++ []
theorem dksX6_hasNext_0 : cX6_hasNext.data.toList.drop 0 = dktX6_hasNext_0 := by decide +kernel
theorem dX6_hasNext_0 : decode cX6_hasNext 0 = .ok (.aload_n 0, 1) := dk_42 (dk_at dksX6_hasNext_0 0 rfl rfl)
theorem dX6_hasNext_1 : decode cX6_hasNext 1 = .ok (.getfield 21, 3) := dk_180 0 21 (dk_at dksX6_hasNext_0 1 rfl rfl)
theorem dX6_hasNext_4 : decode cX6_hasNext 4 = .ok (.aload_n 0, 1) := dk_42 (dk_at dksX6_hasNext_0 4 rfl rfl)
theorem dX6_hasNext_5 : decode cX6_hasNext 5 = .ok (.getfield 3, 3) := dk_180 0 3 (dk_at dksX6_hasNext_0 5 rfl rfl)
theorem dX6_hasNext_8 : decode cX6_hasNext 8 = .ok (.getfield 24, 3) := dk_180 0 24 (dk_at dksX6_hasNext_0 8 rfl rfl)
theorem dX6_hasNext_11 : decode cX6_hasNext 11 = .ok (.if_icmp .gt 7, 3) := dk_163 0 7 (dk_at dksX6_hasNext_0 11 rfl rfl)
theorem dX6_hasNext_14 : decode cX6_hasNext 14 = .ok (.iconst 1, 1) := dk_4 (dk_at dksX6_hasNext_0 14 rfl rfl)
theorem dX6_hasNext_15 : decode cX6_hasNext 15 = .ok (.goto 4, 3) := dk_167 0 4 (dk_at dksX6_hasNext_0 15 rfl rfl)
theorem dX6_hasNext_18 : decode cX6_hasNext 18 = .ok (.iconst 0, 1) := dk_3 (dk_at dksX6_hasNext_0 18 rfl rfl)
theorem dX6_hasNext_19 : decode cX6_hasNext 19 = .ok (.ireturn, 1) := dk_172 (dk_at dksX6_hasNext_0 19 rfl rfl)
abbrev cX6_next : ByteArray := prog_6_method_4_code
def yX6_next : MethodName := ⟨RX6, "next", "()Ljava/lang/Object;"⟩
theorem dX6_next_0 : decode cX6_next 0 = .ok (.aload_n 0, 1) := by decide +kernel
theorem dX6_next_1 : decode cX6_next 1 = .ok (.invokevirtual 43, 3) := by decide +kernel
theorem dX6_next_4 : decode cX6_next 4 = .ok (.areturn, 1) := by decide +kernel
abbrev cX6_next_2 : ByteArray := prog_6_method_3_code
def yX6_next_2 : MethodName := ⟨RX6, "next", "()LCountcote$Half;"⟩
def dkwX6_next_2_3 : List UInt8 := [183, 0, 36, 77, 42, 44, 182, 0, 39, 181, 0, 21, 44, 176]
abbrev dktX6_next_2_3 : List UInt8 := dkwX6_next_2_3 ++ []
def dkwX6_next_2_2 : List UInt8 := [180, 0, 24, 163, 0, 9, 132, 1, 1, 167, 255, 216, 187, 0, 34, 89, 27, 42, 180, 0, 21, 27, 122]
abbrev dktX6_next_2_2 : List UInt8 := dkwX6_next_2_2 ++ dktX6_next_2_3
def dkwX6_next_2_1 : List UInt8 := [180, 0, 21, 27, 122, 4, 126, 154, 0, 29, 42, 180, 0, 21, 5, 27, 120, 96, 4, 100, 42, 180, 0, 3]
abbrev dktX6_next_2_1 : List UInt8 := dkwX6_next_2_1 ++ dktX6_next_2_2
def dkwX6_next_2_0 : List UInt8 := [42, 182, 0, 27, 154, 0, 11, 187, 0, 31, 89, 183, 0, 33, 191, 3, 60, 27, 16, 6, 162, 0, 40, 42]
abbrev dktX6_next_2_0 : List UInt8 := dkwX6_next_2_0 ++ dktX6_next_2_1
theorem dksX6_next_2_0 : cX6_next_2.data.toList.drop 0 = dktX6_next_2_0 := by decide +kernel
theorem dksX6_next_2_1 : cX6_next_2.data.toList.drop 24 = dktX6_next_2_1 := dk_seg dksX6_next_2_0 24 rfl rfl
theorem dksX6_next_2_2 : cX6_next_2.data.toList.drop 48 = dktX6_next_2_2 := dk_seg dksX6_next_2_1 24 rfl rfl
theorem dksX6_next_2_3 : cX6_next_2.data.toList.drop 71 = dktX6_next_2_3 := dk_seg dksX6_next_2_2 23 rfl rfl
theorem dX6_next_2_0 : decode cX6_next_2 0 = .ok (.aload_n 0, 1) := dk_42 (dk_at dksX6_next_2_0 0 rfl rfl)
theorem dX6_next_2_1 : decode cX6_next_2 1 = .ok (.invokevirtual 27, 3) := dk_182 0 27 (dk_at dksX6_next_2_0 1 rfl rfl)
theorem dX6_next_2_4 : decode cX6_next_2 4 = .ok (.ifCond .ne 11, 3) := dk_154 0 11 (dk_at dksX6_next_2_0 4 rfl rfl)
theorem dX6_next_2_7 : decode cX6_next_2 7 = .ok (.new 31, 3) := dk_187 0 31 (dk_at dksX6_next_2_0 7 rfl rfl)
theorem dX6_next_2_10 : decode cX6_next_2 10 = .ok (.dup, 1) := dk_89 (dk_at dksX6_next_2_0 10 rfl rfl)
theorem dX6_next_2_11 : decode cX6_next_2 11 = .ok (.invokespecial 33, 3) := dk_183 0 33 (dk_at dksX6_next_2_0 11 rfl rfl)
theorem dX6_next_2_14 : decode cX6_next_2 14 = .ok (.athrow, 1) := dk_191 (dk_at dksX6_next_2_0 14 rfl rfl)
theorem dX6_next_2_15 : decode cX6_next_2 15 = .ok (.iconst 0, 1) := dk_3 (dk_at dksX6_next_2_0 15 rfl rfl)
theorem dX6_next_2_16 : decode cX6_next_2 16 = .ok (.istore_n 1, 1) := dk_60 (dk_at dksX6_next_2_0 16 rfl rfl)
theorem dX6_next_2_17 : decode cX6_next_2 17 = .ok (.iload_n 1, 1) := dk_27 (dk_at dksX6_next_2_0 17 rfl rfl)
theorem dX6_next_2_18 : decode cX6_next_2 18 = .ok (.bipush 6, 2) := dk_16 6 (dk_at dksX6_next_2_0 18 rfl rfl)
theorem dX6_next_2_20 : decode cX6_next_2 20 = .ok (.if_icmp .ge 40, 3) := dk_162 0 40 (dk_at dksX6_next_2_0 20 rfl rfl)
theorem dX6_next_2_23 : decode cX6_next_2 23 = .ok (.aload_n 0, 1) := dk_42 (dk_at dksX6_next_2_0 23 rfl rfl)
theorem dX6_next_2_24 : decode cX6_next_2 24 = .ok (.getfield 21, 3) := dk_180 0 21 (dk_at dksX6_next_2_1 0 rfl rfl)
theorem dX6_next_2_27 : decode cX6_next_2 27 = .ok (.iload_n 1, 1) := dk_27 (dk_at dksX6_next_2_1 3 rfl rfl)
theorem dX6_next_2_28 : decode cX6_next_2 28 = .ok (.ishr, 1) := dk_122 (dk_at dksX6_next_2_1 4 rfl rfl)
theorem dX6_next_2_29 : decode cX6_next_2 29 = .ok (.iconst 1, 1) := dk_4 (dk_at dksX6_next_2_1 5 rfl rfl)
theorem dX6_next_2_30 : decode cX6_next_2 30 = .ok (.iand, 1) := dk_126 (dk_at dksX6_next_2_1 6 rfl rfl)
theorem dX6_next_2_31 : decode cX6_next_2 31 = .ok (.ifCond .ne 29, 3) := dk_154 0 29 (dk_at dksX6_next_2_1 7 rfl rfl)
theorem dX6_next_2_34 : decode cX6_next_2 34 = .ok (.aload_n 0, 1) := dk_42 (dk_at dksX6_next_2_1 10 rfl rfl)
theorem dX6_next_2_35 : decode cX6_next_2 35 = .ok (.getfield 21, 3) := dk_180 0 21 (dk_at dksX6_next_2_1 11 rfl rfl)
theorem dX6_next_2_38 : decode cX6_next_2 38 = .ok (.iconst 2, 1) := dk_5 (dk_at dksX6_next_2_1 14 rfl rfl)
theorem dX6_next_2_39 : decode cX6_next_2 39 = .ok (.iload_n 1, 1) := dk_27 (dk_at dksX6_next_2_1 15 rfl rfl)
theorem dX6_next_2_40 : decode cX6_next_2 40 = .ok (.ishl, 1) := dk_120 (dk_at dksX6_next_2_1 16 rfl rfl)
theorem dX6_next_2_41 : decode cX6_next_2 41 = .ok (.iadd, 1) := dk_96 (dk_at dksX6_next_2_1 17 rfl rfl)
theorem dX6_next_2_42 : decode cX6_next_2 42 = .ok (.iconst 1, 1) := dk_4 (dk_at dksX6_next_2_1 18 rfl rfl)
theorem dX6_next_2_43 : decode cX6_next_2 43 = .ok (.isub, 1) := dk_100 (dk_at dksX6_next_2_1 19 rfl rfl)
theorem dX6_next_2_44 : decode cX6_next_2 44 = .ok (.aload_n 0, 1) := dk_42 (dk_at dksX6_next_2_1 20 rfl rfl)
theorem dX6_next_2_45 : decode cX6_next_2 45 = .ok (.getfield 3, 3) := dk_180 0 3 (dk_at dksX6_next_2_1 21 rfl rfl)
theorem dX6_next_2_48 : decode cX6_next_2 48 = .ok (.getfield 24, 3) := dk_180 0 24 (dk_at dksX6_next_2_2 0 rfl rfl)
theorem dX6_next_2_51 : decode cX6_next_2 51 = .ok (.if_icmp .gt 9, 3) := dk_163 0 9 (dk_at dksX6_next_2_2 3 rfl rfl)
theorem dX6_next_2_54 : decode cX6_next_2 54 = .ok (.iinc 1 1, 3) := dk_132 1 1 (dk_at dksX6_next_2_2 6 rfl rfl)
theorem dX6_next_2_57 : decode cX6_next_2 57 = .ok (.goto (-40), 3) := dk_167 255 216 (dk_at dksX6_next_2_2 9 rfl rfl)
theorem dX6_next_2_60 : decode cX6_next_2 60 = .ok (.new 34, 3) := dk_187 0 34 (dk_at dksX6_next_2_2 12 rfl rfl)
theorem dX6_next_2_63 : decode cX6_next_2 63 = .ok (.dup, 1) := dk_89 (dk_at dksX6_next_2_2 15 rfl rfl)
theorem dX6_next_2_64 : decode cX6_next_2 64 = .ok (.iload_n 1, 1) := dk_27 (dk_at dksX6_next_2_2 16 rfl rfl)
theorem dX6_next_2_65 : decode cX6_next_2 65 = .ok (.aload_n 0, 1) := dk_42 (dk_at dksX6_next_2_2 17 rfl rfl)
theorem dX6_next_2_66 : decode cX6_next_2 66 = .ok (.getfield 21, 3) := dk_180 0 21 (dk_at dksX6_next_2_2 18 rfl rfl)
theorem dX6_next_2_69 : decode cX6_next_2 69 = .ok (.iload_n 1, 1) := dk_27 (dk_at dksX6_next_2_2 21 rfl rfl)
theorem dX6_next_2_70 : decode cX6_next_2 70 = .ok (.ishr, 1) := dk_122 (dk_at dksX6_next_2_2 22 rfl rfl)
theorem dX6_next_2_71 : decode cX6_next_2 71 = .ok (.invokespecial 36, 3) := dk_183 0 36 (dk_at dksX6_next_2_3 0 rfl rfl)
theorem dX6_next_2_74 : decode cX6_next_2 74 = .ok (.astore_n 2, 1) := dk_77 (dk_at dksX6_next_2_3 3 rfl rfl)
theorem dX6_next_2_75 : decode cX6_next_2 75 = .ok (.aload_n 0, 1) := dk_42 (dk_at dksX6_next_2_3 4 rfl rfl)
theorem dX6_next_2_76 : decode cX6_next_2 76 = .ok (.aload_n 2, 1) := dk_44 (dk_at dksX6_next_2_3 5 rfl rfl)
theorem dX6_next_2_77 : decode cX6_next_2 77 = .ok (.invokevirtual 39, 3) := dk_182 0 39 (dk_at dksX6_next_2_3 6 rfl rfl)
theorem dX6_next_2_80 : decode cX6_next_2 80 = .ok (.putfield 21, 3) := dk_181 0 21 (dk_at dksX6_next_2_3 9 rfl rfl)
theorem dX6_next_2_83 : decode cX6_next_2 83 = .ok (.aload_n 2, 1) := dk_44 (dk_at dksX6_next_2_3 12 rfl rfl)
theorem dX6_next_2_84 : decode cX6_next_2 84 = .ok (.areturn, 1) := dk_176 (dk_at dksX6_next_2_3 13 rfl rfl)
theorem q50 : (Jvm.Cond.initialized "Countcote$Parts$1") ∈ lw_all := lw_g (lw_at lw_m1 23 rfl) rfl
theorem q442 : (Jvm.Cond.selects "Countcote$Parts$1" ({ cls := "java/lang/Object", name := "getClass", desc := "()Ljava/lang/Class;" } : Jvm.MethodName) ({ cls := "java/lang/Object", name := "getClass", desc := "()Ljava/lang/Class;" } : Jvm.MethodName)) ∈ lw_all := lw_g (lw_at lw_m2 175 rfl) rfl
theorem q580 : (Jvm.Cond.fieldLinkNest "Countcote$Parts$1" (15 : Nat) "Countcote$Parts" "from" "I" "Countcote") ∈ lw_tbl := lw_at lw_m3 73 rfl
theorem q582 : (Jvm.Cond.fieldLinkNest "Countcote$Parts$1" (24 : Nat) "Countcote$Parts" "to" "I" "Countcote") ∈ lw_tbl := lw_at lw_m3 75 rfl
theorem q593 : (Jvm.Cond.instantiable "Countcote$Parts$1" (2 : Nat)) ∈ lw_all := lw_g (lw_at lw_m3 86 rfl) rfl
theorem q595 : (Jvm.Cond.instanceMethod ({ cls := "Countcote$Parts$1", name := "<init>", desc := "(LCountcote$Parts;)V" } : Jvm.MethodName)) ∈ lw_all := lw_g (lw_at lw_m3 88 rfl) rfl
theorem q596 : (Jvm.Cond.code ({ cls := "Countcote$Parts$1", name := "<init>", desc := "(LCountcote$Parts;)V" } : Jvm.MethodName) prog_6_method_1_code (2 : Nat) (Option.none : Option Jvm.ClassFile.FieldType)) ∈ lw_all := lw_g (lw_at lw_m3 89 rfl) rfl
theorem q597 : (Jvm.Cond.methodLink "Countcote$Parts$1" (9 : Nat) ({ cls := "java/lang/Object", name := "<init>", desc := "()V" } : Jvm.MethodName)) ∈ lw_all := lw_g (lw_at lw_m3 90 rfl) rfl
theorem q598 : (Jvm.Cond.fieldLink "Countcote$Parts$1" (21 : Nat) "Countcote$Parts$1" "item" "I") ∈ lw_all := lw_g (lw_at lw_m3 91 rfl) rfl
theorem q599 : (Jvm.Cond.fieldLink "Countcote$Parts$1" (3 : Nat) "Countcote$Parts$1" "this$0" "LCountcote$Parts;") ∈ lw_all := lw_g (lw_at lw_m3 92 rfl) rfl
theorem q600 : (Jvm.Cond.lays "Countcote$Parts$1" "Countcote$Parts$1" "item" "I") ∈ lw_all := lw_g (lw_at lw_m3 93 rfl) rfl
theorem q601 : (Jvm.Cond.soleField "Countcote$Parts$1" "item") ∈ lw_all := lw_g (lw_at lw_m3 94 rfl) rfl
theorem q602 : (Jvm.Cond.laysFinal "Countcote$Parts$1" "Countcote$Parts$1" "this$0" "LCountcote$Parts;") ∈ lw_all := lw_g (lw_at lw_m3 95 rfl) rfl
theorem q603 : (Jvm.Cond.soleField "Countcote$Parts$1" "this$0") ∈ lw_all := lw_g (lw_at lw_m3 96 rfl) rfl
theorem q604 : (Jvm.Cond.superclass "Countcote$Parts$1" "java/lang/Object") ∈ lw_all := lw_g (lw_at lw_m3 97 rfl) rfl
theorem q609 : (Jvm.Cond.castable "Countcote$Parts$1" "java/util/Iterator") ∈ lw_tbl := lw_at lw_m3 102 rfl
theorem q610 : (Jvm.Cond.selects "Countcote$Parts$1" ({ cls := "java/util/Iterator", name := "hasNext", desc := "()Z" } : Jvm.MethodName) ({ cls := "Countcote$Parts$1", name := "hasNext", desc := "()Z" } : Jvm.MethodName)) ∈ lw_all := lw_g (lw_at lw_m3 103 rfl) rfl
theorem q611 : (Jvm.Cond.unhidden "Countcote$Parts$1" "hasNext" "()Z") ∈ lw_tbl := lw_at lw_m3 104 rfl
theorem q612 : (Jvm.Cond.instanceMethod ({ cls := "Countcote$Parts$1", name := "hasNext", desc := "()Z" } : Jvm.MethodName)) ∈ lw_all := lw_g (lw_at lw_m3 105 rfl) rfl
theorem q613 : (Jvm.Cond.publicMethod ({ cls := "Countcote$Parts$1", name := "hasNext", desc := "()Z" } : Jvm.MethodName)) ∈ lw_tbl := lw_at lw_m3 106 rfl
theorem q614 : (Jvm.Cond.code ({ cls := "Countcote$Parts$1", name := "hasNext", desc := "()Z" } : Jvm.MethodName) prog_6_method_2_code (1 : Nat) (Option.some Jvm.ClassFile.FieldType.boolean)) ∈ lw_all := lw_g (lw_at lw_m3 107 rfl) rfl
theorem q619 : (Jvm.Cond.selects "Countcote$Parts$1" ({ cls := "java/util/Iterator", name := "next", desc := "()Ljava/lang/Object;" } : Jvm.MethodName) ({ cls := "Countcote$Parts$1", name := "next", desc := "()Ljava/lang/Object;" } : Jvm.MethodName)) ∈ lw_all := lw_g (lw_at lw_m3 112 rfl) rfl
theorem q620 : (Jvm.Cond.unhidden "Countcote$Parts$1" "next" "()Ljava/lang/Object;") ∈ lw_tbl := lw_at lw_m3 113 rfl
theorem q621 : (Jvm.Cond.instanceMethod ({ cls := "Countcote$Parts$1", name := "next", desc := "()Ljava/lang/Object;" } : Jvm.MethodName)) ∈ lw_all := lw_g (lw_at lw_m3 114 rfl) rfl
theorem q622 : (Jvm.Cond.publicMethod ({ cls := "Countcote$Parts$1", name := "next", desc := "()Ljava/lang/Object;" } : Jvm.MethodName)) ∈ lw_tbl := lw_at lw_m3 115 rfl
theorem q623 : (Jvm.Cond.code ({ cls := "Countcote$Parts$1", name := "next", desc := "()Ljava/lang/Object;" } : Jvm.MethodName) prog_6_method_4_code (1 : Nat) (Option.some (Jvm.ClassFile.FieldType.object "java/lang/Object"))) ∈ lw_all := lw_g (lw_at lw_m3 116 rfl) rfl
theorem q624 : (Jvm.Cond.methodLink "Countcote$Parts$1" (43 : Nat) ({ cls := "Countcote$Parts$1", name := "next", desc := "()LCountcote$Half;" } : Jvm.MethodName)) ∈ lw_all := lw_g (lw_at lw_m3 117 rfl) rfl
theorem q625 : (Jvm.Cond.instanceMethod ({ cls := "Countcote$Parts$1", name := "next", desc := "()LCountcote$Half;" } : Jvm.MethodName)) ∈ lw_all := lw_g (lw_at lw_m3 118 rfl) rfl
theorem q626 : (Jvm.Cond.selects "Countcote$Parts$1" ({ cls := "Countcote$Parts$1", name := "next", desc := "()LCountcote$Half;" } : Jvm.MethodName) ({ cls := "Countcote$Parts$1", name := "next", desc := "()LCountcote$Half;" } : Jvm.MethodName)) ∈ lw_all := lw_g (lw_at lw_m3 119 rfl) rfl
theorem q627 : (Jvm.Cond.code ({ cls := "Countcote$Parts$1", name := "next", desc := "()LCountcote$Half;" } : Jvm.MethodName) prog_6_method_3_code (3 : Nat) (Option.some (Jvm.ClassFile.FieldType.object "Countcote$Half"))) ∈ lw_all := lw_g (lw_at lw_m3 120 rfl) rfl
theorem q628 : (Jvm.Cond.methodLink "Countcote$Parts$1" (27 : Nat) ({ cls := "Countcote$Parts$1", name := "hasNext", desc := "()Z" } : Jvm.MethodName)) ∈ lw_all := lw_g (lw_at lw_m3 121 rfl) rfl
theorem q629 : (Jvm.Cond.classLink "Countcote$Parts$1" (31 : Nat) "java/util/NoSuchElementException") ∈ lw_all := lw_g (lw_at lw_m3 122 rfl) rfl
theorem q638 : (Jvm.Cond.methodLink "Countcote$Parts$1" (33 : Nat) ({ cls := "java/util/NoSuchElementException", name := "<init>", desc := "()V" } : Jvm.MethodName)) ∈ lw_all := lw_g (lw_at lw_m3 131 rfl) rfl
theorem q644 : (Jvm.Cond.classLink "Countcote$Parts$1" (34 : Nat) "Countcote$Half") ∈ lw_all := lw_g (lw_at lw_m3 137 rfl) rfl
theorem q646 : (Jvm.Cond.methodLinkNest "Countcote$Parts$1" (36 : Nat) ({ cls := "Countcote$Half", name := "<init>", desc := "(II)V" } : Jvm.MethodName) "Countcote") ∈ lw_tbl := lw_at lw_m3 139 rfl
theorem q660 : (Jvm.Cond.methodLink "Countcote$Parts$1" (39 : Nat) ({ cls := "Countcote$Half", name := "behind", desc := "()I" } : Jvm.MethodName)) ∈ lw_all := lw_g (lw_at lw_m3 153 rfl) rfl
theorem q1021 : (Jvm.Cond.selects "Countcote$Parts$1" ({ cls := "Countcote$Parts$1", name := "hasNext", desc := "()Z" } : Jvm.MethodName) ({ cls := "Countcote$Parts$1", name := "hasNext", desc := "()Z" } : Jvm.MethodName)) ∈ lw_all := lw_g (lw_at lw_m5 34 rfl) rfl
theorem q1035 : (Jvm.Cond.castable "Countcote$Parts$1" "java/lang/Object") ∈ lw_tbl := lw_at lw_m5 48 rfl
theorem in_X6 : ∀ w ∈ wsX60, w ∈ lw_all := lw_in wsX60 [600, 602] (by decide +kernel) (by decide +kernel)
/-! Countcote$Half -/
set_option maxRecDepth 100000
def RX7 : String := "Countcote$Half"
def TX7 : u_T := fun k => match k with
  | 0 => ("Countcote$Half", "level", "I", true)
  | _ => ("Countcote$Half", "number", "I", true)
def tyX7 : Nat → FieldType := fun k => match k with
  | 0 => .int
  | _ => .int
abbrev wsX70 : List Cond := u_ws RX7 TX7 2
theorem nmX7 : ∀ a, a < 2 → ∀ b, b < 2 → a ≠ b → (TX7 a).2.1 ≠ (TX7 b).2.1 := by decide +kernel
theorem tyX7_ok : ∀ k, k < 2 → parseFieldDescriptor (TX7 k).2.2.1 = some (tyX7 k) := by decide +kernel
abbrev cX7_init : ByteArray := prog_3_method_1_code
def yX7_init : MethodName := ⟨RX7, "<init>", "(II)V"⟩
def dkwX7_init_0 : List UInt8 := [42, 183, 0, 1, 42, 27, 181, 0, 7, 42, 28, 181, 0, 13, 177]
abbrev dktX7_init_0 : List UInt8 := dkwX7_init_0 ++ []
theorem dksX7_init_0 : cX7_init.data.toList.drop 0 = dktX7_init_0 := by decide +kernel
theorem dX7_init_0 : decode cX7_init 0 = .ok (.aload_n 0, 1) := dk_42 (dk_at dksX7_init_0 0 rfl rfl)
theorem dX7_init_1 : decode cX7_init 1 = .ok (.invokespecial 1, 3) := dk_183 0 1 (dk_at dksX7_init_0 1 rfl rfl)
theorem dX7_init_4 : decode cX7_init 4 = .ok (.aload_n 0, 1) := dk_42 (dk_at dksX7_init_0 4 rfl rfl)
theorem dX7_init_5 : decode cX7_init 5 = .ok (.iload_n 1, 1) := dk_27 (dk_at dksX7_init_0 5 rfl rfl)
theorem dX7_init_6 : decode cX7_init 6 = .ok (.putfield 7, 3) := dk_181 0 7 (dk_at dksX7_init_0 6 rfl rfl)
theorem dX7_init_9 : decode cX7_init 9 = .ok (.aload_n 0, 1) := dk_42 (dk_at dksX7_init_0 9 rfl rfl)
theorem dX7_init_10 : decode cX7_init 10 = .ok (.iload_n 2, 1) := dk_28 (dk_at dksX7_init_0 10 rfl rfl)
theorem dX7_init_11 : decode cX7_init 11 = .ok (.putfield 13, 3) := dk_181 0 13 (dk_at dksX7_init_0 11 rfl rfl)
theorem dX7_init_14 : decode cX7_init 14 = .ok (.return_, 1) := dk_177 (dk_at dksX7_init_0 14 rfl rfl)
abbrev cX7_behind : ByteArray := prog_3_method_3_code
def yX7_behind : MethodName := ⟨RX7, "behind", "()I"⟩
def dkwX7_behind_0 : List UInt8 := [42, 180, 0, 13, 4, 96, 42, 180, 0, 7, 120, 172]
abbrev dktX7_behind_0 : List UInt8 := dkwX7_behind_0 ++ []
theorem dksX7_behind_0 : cX7_behind.data.toList.drop 0 = dktX7_behind_0 := by decide +kernel
theorem dX7_behind_0 : decode cX7_behind 0 = .ok (.aload_n 0, 1) := dk_42 (dk_at dksX7_behind_0 0 rfl rfl)
theorem dX7_behind_1 : decode cX7_behind 1 = .ok (.getfield 13, 3) := dk_180 0 13 (dk_at dksX7_behind_0 1 rfl rfl)
theorem dX7_behind_4 : decode cX7_behind 4 = .ok (.iconst 1, 1) := dk_4 (dk_at dksX7_behind_0 4 rfl rfl)
theorem dX7_behind_5 : decode cX7_behind 5 = .ok (.iadd, 1) := dk_96 (dk_at dksX7_behind_0 5 rfl rfl)
theorem dX7_behind_6 : decode cX7_behind 6 = .ok (.aload_n 0, 1) := dk_42 (dk_at dksX7_behind_0 6 rfl rfl)
theorem dX7_behind_7 : decode cX7_behind 7 = .ok (.getfield 7, 3) := dk_180 0 7 (dk_at dksX7_behind_0 7 rfl rfl)
theorem dX7_behind_10 : decode cX7_behind 10 = .ok (.ishl, 1) := dk_120 (dk_at dksX7_behind_0 10 rfl rfl)
theorem dX7_behind_11 : decode cX7_behind 11 = .ok (.ireturn, 1) := dk_172 (dk_at dksX7_behind_0 11 rfl rfl)
abbrev cX7_first : ByteArray := prog_3_method_2_code
def yX7_first : MethodName := ⟨RX7, "first", "()I"⟩
def dkwX7_first_0 : List UInt8 := [42, 180, 0, 13, 42, 180, 0, 7, 120, 172]
abbrev dktX7_first_0 : List UInt8 := dkwX7_first_0 ++ []
theorem dksX7_first_0 : cX7_first.data.toList.drop 0 = dktX7_first_0 := by decide +kernel
theorem dX7_first_0 : decode cX7_first 0 = .ok (.aload_n 0, 1) := dk_42 (dk_at dksX7_first_0 0 rfl rfl)
theorem dX7_first_1 : decode cX7_first 1 = .ok (.getfield 13, 3) := dk_180 0 13 (dk_at dksX7_first_0 1 rfl rfl)
theorem dX7_first_4 : decode cX7_first 4 = .ok (.aload_n 0, 1) := dk_42 (dk_at dksX7_first_0 4 rfl rfl)
theorem dX7_first_5 : decode cX7_first 5 = .ok (.getfield 7, 3) := dk_180 0 7 (dk_at dksX7_first_0 5 rfl rfl)
theorem dX7_first_8 : decode cX7_first 8 = .ok (.ishl, 1) := dk_120 (dk_at dksX7_first_0 8 rfl rfl)
theorem dX7_first_9 : decode cX7_first 9 = .ok (.ireturn, 1) := dk_172 (dk_at dksX7_first_0 9 rfl rfl)
abbrev cX7_level : ByteArray := prog_3_method_7_code
def yX7_level : MethodName := ⟨RX7, "level", "()I"⟩
theorem dX7_level_0 : decode cX7_level 0 = .ok (.aload_n 0, 1) := by decide +kernel
theorem dX7_level_1 : decode cX7_level 1 = .ok (.getfield 7, 3) := by decide +kernel
theorem dX7_level_4 : decode cX7_level 4 = .ok (.ireturn, 1) := by decide +kernel
abbrev cX7_number : ByteArray := prog_3_method_8_code
def yX7_number : MethodName := ⟨RX7, "number", "()I"⟩
theorem dX7_number_0 : decode cX7_number 0 = .ok (.aload_n 0, 1) := by decide +kernel
theorem dX7_number_1 : decode cX7_number 1 = .ok (.getfield 13, 3) := by decide +kernel
theorem dX7_number_4 : decode cX7_number 4 = .ok (.ireturn, 1) := by decide +kernel
theorem q53 : (Jvm.Cond.initialized "Countcote$Half") ∈ lw_all := lw_g (lw_at lw_m1 26 rfl) rfl
theorem q440 : (Jvm.Cond.selects "Countcote$Half" ({ cls := "java/lang/Object", name := "getClass", desc := "()Ljava/lang/Class;" } : Jvm.MethodName) ({ cls := "java/lang/Object", name := "getClass", desc := "()Ljava/lang/Class;" } : Jvm.MethodName)) ∈ lw_all := lw_g (lw_at lw_m2 173 rfl) rfl
theorem q645 : (Jvm.Cond.instantiable "Countcote$Half" (2 : Nat)) ∈ lw_all := lw_g (lw_at lw_m3 138 rfl) rfl
theorem q647 : (Jvm.Cond.instanceMethod ({ cls := "Countcote$Half", name := "<init>", desc := "(II)V" } : Jvm.MethodName)) ∈ lw_all := lw_g (lw_at lw_m3 140 rfl) rfl
theorem q648 : (Jvm.Cond.code ({ cls := "Countcote$Half", name := "<init>", desc := "(II)V" } : Jvm.MethodName) prog_3_method_1_code (3 : Nat) (Option.none : Option Jvm.ClassFile.FieldType)) ∈ lw_all := lw_g (lw_at lw_m3 141 rfl) rfl
theorem q649 : (Jvm.Cond.methodLink "Countcote$Half" (1 : Nat) ({ cls := "java/lang/Record", name := "<init>", desc := "()V" } : Jvm.MethodName)) ∈ lw_all := lw_g (lw_at lw_m3 142 rfl) rfl
theorem q653 : (Jvm.Cond.fieldLink "Countcote$Half" (7 : Nat) "Countcote$Half" "level" "I") ∈ lw_all := lw_g (lw_at lw_m3 146 rfl) rfl
theorem q654 : (Jvm.Cond.fieldLink "Countcote$Half" (13 : Nat) "Countcote$Half" "number" "I") ∈ lw_all := lw_g (lw_at lw_m3 147 rfl) rfl
theorem q655 : (Jvm.Cond.laysFinal "Countcote$Half" "Countcote$Half" "level" "I") ∈ lw_all := lw_g (lw_at lw_m3 148 rfl) rfl
theorem q656 : (Jvm.Cond.soleField "Countcote$Half" "level") ∈ lw_all := lw_g (lw_at lw_m3 149 rfl) rfl
theorem q657 : (Jvm.Cond.laysFinal "Countcote$Half" "Countcote$Half" "number" "I") ∈ lw_all := lw_g (lw_at lw_m3 150 rfl) rfl
theorem q658 : (Jvm.Cond.soleField "Countcote$Half" "number") ∈ lw_all := lw_g (lw_at lw_m3 151 rfl) rfl
theorem q659 : (Jvm.Cond.superclass "Countcote$Half" "java/lang/Record") ∈ lw_all := lw_g (lw_at lw_m3 152 rfl) rfl
theorem q661 : (Jvm.Cond.instanceMethod ({ cls := "Countcote$Half", name := "behind", desc := "()I" } : Jvm.MethodName)) ∈ lw_all := lw_g (lw_at lw_m3 154 rfl) rfl
theorem q662 : (Jvm.Cond.selects "Countcote$Half" ({ cls := "Countcote$Half", name := "behind", desc := "()I" } : Jvm.MethodName) ({ cls := "Countcote$Half", name := "behind", desc := "()I" } : Jvm.MethodName)) ∈ lw_all := lw_g (lw_at lw_m3 155 rfl) rfl
theorem q663 : (Jvm.Cond.code ({ cls := "Countcote$Half", name := "behind", desc := "()I" } : Jvm.MethodName) prog_3_method_3_code (1 : Nat) (Option.some Jvm.ClassFile.FieldType.int)) ∈ lw_all := lw_g (lw_at lw_m3 156 rfl) rfl
theorem q666 : (Jvm.Cond.instanceMethod ({ cls := "Countcote$Half", name := "first", desc := "()I" } : Jvm.MethodName)) ∈ lw_all := lw_g (lw_at lw_m3 159 rfl) rfl
theorem q667 : (Jvm.Cond.selects "Countcote$Half" ({ cls := "Countcote$Half", name := "first", desc := "()I" } : Jvm.MethodName) ({ cls := "Countcote$Half", name := "first", desc := "()I" } : Jvm.MethodName)) ∈ lw_all := lw_g (lw_at lw_m3 160 rfl) rfl
theorem q668 : (Jvm.Cond.code ({ cls := "Countcote$Half", name := "first", desc := "()I" } : Jvm.MethodName) prog_3_method_2_code (1 : Nat) (Option.some Jvm.ClassFile.FieldType.int)) ∈ lw_all := lw_g (lw_at lw_m3 161 rfl) rfl
theorem q678 : (Jvm.Cond.instanceMethod ({ cls := "Countcote$Half", name := "level", desc := "()I" } : Jvm.MethodName)) ∈ lw_all := lw_g (lw_at lw_m3 171 rfl) rfl
theorem q679 : (Jvm.Cond.selects "Countcote$Half" ({ cls := "Countcote$Half", name := "level", desc := "()I" } : Jvm.MethodName) ({ cls := "Countcote$Half", name := "level", desc := "()I" } : Jvm.MethodName)) ∈ lw_all := lw_g (lw_at lw_m3 172 rfl) rfl
theorem q680 : (Jvm.Cond.code ({ cls := "Countcote$Half", name := "level", desc := "()I" } : Jvm.MethodName) prog_3_method_7_code (1 : Nat) (Option.some Jvm.ClassFile.FieldType.int)) ∈ lw_all := lw_g (lw_at lw_m3 173 rfl) rfl
theorem q682 : (Jvm.Cond.instanceMethod ({ cls := "Countcote$Half", name := "number", desc := "()I" } : Jvm.MethodName)) ∈ lw_all := lw_g (lw_at lw_m3 175 rfl) rfl
theorem q683 : (Jvm.Cond.selects "Countcote$Half" ({ cls := "Countcote$Half", name := "number", desc := "()I" } : Jvm.MethodName) ({ cls := "Countcote$Half", name := "number", desc := "()I" } : Jvm.MethodName)) ∈ lw_all := lw_g (lw_at lw_m3 176 rfl) rfl
theorem q684 : (Jvm.Cond.code ({ cls := "Countcote$Half", name := "number", desc := "()I" } : Jvm.MethodName) prog_3_method_8_code (1 : Nat) (Option.some Jvm.ClassFile.FieldType.int)) ∈ lw_all := lw_g (lw_at lw_m3 177 rfl) rfl
theorem q1037 : (Jvm.Cond.castable "Countcote$Half" "java/lang/Object") ∈ lw_tbl := lw_at lw_m5 50 rfl
theorem in_X7 : ∀ w ∈ wsX70, w ∈ lw_all := lw_in wsX70 [655, 657] (by decide +kernel) (by decide +kernel)

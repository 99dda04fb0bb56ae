/-! CountcoteModel -/
set_option maxRecDepth 100000
def RX3 : String := "CountcoteModel"
def TX3 : u_T := fun k => match k with
  | 0 => ("CountcoteModel", "thrown", "I", false)
  | 1 => ("CountcoteModel", "counts", "[I", true)
  | 2 => ("CountcoteModel", "totals", "[I", true)
  | 3 => ("CountcoteModel", "cells", "[I", true)
  | 4 => ("CountcoteModel", "counters", "[I", true)
  | 5 => ("CountcoteModel", "items", "[I", true)
  | 6 => ("CountcoteModel", "weights", "[I", true)
  | 7 => ("CountcoteModel", "taken", "[I", true)
  | _ => ("CountcoteModel", "five", "[J", true)
def tyX3 : Nat → FieldType := fun k => match k with
  | 0 => .int
  | 1 => .array .int
  | 2 => .array .int
  | 3 => .array .int
  | 4 => .array .int
  | 5 => .array .int
  | 6 => .array .int
  | 7 => .array .int
  | _ => .array .long
abbrev wsX30 : List Cond := u_ws RX3 TX3 9
theorem nmX3 : ∀ a, a < 9 → ∀ b, b < 9 → a ≠ b → (TX3 a).2.1 ≠ (TX3 b).2.1 := by decide +kernel
theorem tyX3_ok : ∀ k, k < 9 → parseFieldDescriptor (TX3 k).2.2.1 = some (tyX3 k) := by decide +kernel
abbrev cX3_init : ByteArray := prog_9_method_1_code
def yX3_init : MethodName := ⟨RX3, "<init>", "()V"⟩
def dkwX3_init_2 : List UInt8 := [188, 10, 181, 0, 25, 42, 7, 188, 10, 181, 0, 28, 42, 8, 188, 11, 181, 0, 31, 177]
abbrev dktX3_init_2 : List UInt8 := dkwX3_init_2 ++ []
def dkwX3_init_1 : List UInt8 := [188, 10, 181, 0, 16, 42, 7, 188, 10, 181, 0, 19, 42, 16, 32, 188, 10, 181, 0, 22, 42, 16, 32]
abbrev dktX3_init_1 : List UInt8 := dkwX3_init_1 ++ dktX3_init_2
def dkwX3_init_0 : List UInt8 := [42, 183, 0, 1, 42, 17, 1, 0, 188, 10, 181, 0, 7, 42, 7, 188, 10, 181, 0, 13, 42, 17, 1, 32]
abbrev dktX3_init_0 : List UInt8 := dkwX3_init_0 ++ dktX3_init_1
theorem dksX3_init_0 : cX3_init.data.toList.drop 0 = dktX3_init_0 := by decide +kernel
theorem dksX3_init_1 : cX3_init.data.toList.drop 24 = dktX3_init_1 := dk_seg dksX3_init_0 24 rfl rfl
theorem dksX3_init_2 : cX3_init.data.toList.drop 47 = dktX3_init_2 := dk_seg dksX3_init_1 23 rfl rfl
theorem dX3_init_0 : decode cX3_init 0 = .ok (.aload_n 0, 1) := dk_42 (dk_at dksX3_init_0 0 rfl rfl)
theorem dX3_init_1 : decode cX3_init 1 = .ok (.invokespecial 1, 3) := dk_183 0 1 (dk_at dksX3_init_0 1 rfl rfl)
theorem dX3_init_4 : decode cX3_init 4 = .ok (.aload_n 0, 1) := dk_42 (dk_at dksX3_init_0 4 rfl rfl)
theorem dX3_init_5 : decode cX3_init 5 = .ok (.sipush 256, 3) := dk_17 1 0 (dk_at dksX3_init_0 5 rfl rfl)
theorem dX3_init_8 : decode cX3_init 8 = .ok (.newarray .int, 2) := dk_188_10 (dk_at dksX3_init_0 8 rfl rfl)
theorem dX3_init_10 : decode cX3_init 10 = .ok (.putfield 7, 3) := dk_181 0 7 (dk_at dksX3_init_0 10 rfl rfl)
theorem dX3_init_13 : decode cX3_init 13 = .ok (.aload_n 0, 1) := dk_42 (dk_at dksX3_init_0 13 rfl rfl)
theorem dX3_init_14 : decode cX3_init 14 = .ok (.iconst 4, 1) := dk_7 (dk_at dksX3_init_0 14 rfl rfl)
theorem dX3_init_15 : decode cX3_init 15 = .ok (.newarray .int, 2) := dk_188_10 (dk_at dksX3_init_0 15 rfl rfl)
theorem dX3_init_17 : decode cX3_init 17 = .ok (.putfield 13, 3) := dk_181 0 13 (dk_at dksX3_init_0 17 rfl rfl)
theorem dX3_init_20 : decode cX3_init 20 = .ok (.aload_n 0, 1) := dk_42 (dk_at dksX3_init_0 20 rfl rfl)
theorem dX3_init_21 : decode cX3_init 21 = .ok (.sipush 288, 3) := dk_17 1 32 (dk_at dksX3_init_0 21 rfl rfl)
theorem dX3_init_24 : decode cX3_init 24 = .ok (.newarray .int, 2) := dk_188_10 (dk_at dksX3_init_1 0 rfl rfl)
theorem dX3_init_26 : decode cX3_init 26 = .ok (.putfield 16, 3) := dk_181 0 16 (dk_at dksX3_init_1 2 rfl rfl)
theorem dX3_init_29 : decode cX3_init 29 = .ok (.aload_n 0, 1) := dk_42 (dk_at dksX3_init_1 5 rfl rfl)
theorem dX3_init_30 : decode cX3_init 30 = .ok (.iconst 4, 1) := dk_7 (dk_at dksX3_init_1 6 rfl rfl)
theorem dX3_init_31 : decode cX3_init 31 = .ok (.newarray .int, 2) := dk_188_10 (dk_at dksX3_init_1 7 rfl rfl)
theorem dX3_init_33 : decode cX3_init 33 = .ok (.putfield 19, 3) := dk_181 0 19 (dk_at dksX3_init_1 9 rfl rfl)
theorem dX3_init_36 : decode cX3_init 36 = .ok (.aload_n 0, 1) := dk_42 (dk_at dksX3_init_1 12 rfl rfl)
theorem dX3_init_37 : decode cX3_init 37 = .ok (.bipush 32, 2) := dk_16 32 (dk_at dksX3_init_1 13 rfl rfl)
theorem dX3_init_39 : decode cX3_init 39 = .ok (.newarray .int, 2) := dk_188_10 (dk_at dksX3_init_1 15 rfl rfl)
theorem dX3_init_41 : decode cX3_init 41 = .ok (.putfield 22, 3) := dk_181 0 22 (dk_at dksX3_init_1 17 rfl rfl)
theorem dX3_init_44 : decode cX3_init 44 = .ok (.aload_n 0, 1) := dk_42 (dk_at dksX3_init_1 20 rfl rfl)
theorem dX3_init_45 : decode cX3_init 45 = .ok (.bipush 32, 2) := dk_16 32 (dk_at dksX3_init_1 21 rfl rfl)
theorem dX3_init_47 : decode cX3_init 47 = .ok (.newarray .int, 2) := dk_188_10 (dk_at dksX3_init_2 0 rfl rfl)
theorem dX3_init_49 : decode cX3_init 49 = .ok (.putfield 25, 3) := dk_181 0 25 (dk_at dksX3_init_2 2 rfl rfl)
theorem dX3_init_52 : decode cX3_init 52 = .ok (.aload_n 0, 1) := dk_42 (dk_at dksX3_init_2 5 rfl rfl)
theorem dX3_init_53 : decode cX3_init 53 = .ok (.iconst 4, 1) := dk_7 (dk_at dksX3_init_2 6 rfl rfl)
theorem dX3_init_54 : decode cX3_init 54 = .ok (.newarray .int, 2) := dk_188_10 (dk_at dksX3_init_2 7 rfl rfl)
theorem dX3_init_56 : decode cX3_init 56 = .ok (.putfield 28, 3) := dk_181 0 28 (dk_at dksX3_init_2 9 rfl rfl)
theorem dX3_init_59 : decode cX3_init 59 = .ok (.aload_n 0, 1) := dk_42 (dk_at dksX3_init_2 12 rfl rfl)
theorem dX3_init_60 : decode cX3_init 60 = .ok (.iconst 5, 1) := dk_8 (dk_at dksX3_init_2 13 rfl rfl)
theorem dX3_init_61 : decode cX3_init 61 = .ok (.newarray .long, 2) := dk_188_11 (dk_at dksX3_init_2 14 rfl rfl)
theorem dX3_init_63 : decode cX3_init 63 = .ok (.putfield 31, 3) := dk_181 0 31 (dk_at dksX3_init_2 16 rfl rfl)
theorem dX3_init_66 : decode cX3_init 66 = .ok (.return_, 1) := dk_177 (dk_at dksX3_init_2 19 rfl rfl)
abbrev cX3_thrown : ByteArray := prog_9_method_2_code
def yX3_thrown : MethodName := ⟨RX3, "thrown", "()I"⟩
theorem dX3_thrown_0 : decode cX3_thrown 0 = .ok (.aload_n 0, 1) := by decide +kernel
theorem dX3_thrown_1 : decode cX3_thrown 1 = .ok (.getfield 35, 3) := by decide +kernel
theorem dX3_thrown_4 : decode cX3_thrown 4 = .ok (.ireturn, 1) := by decide +kernel
abbrev cX3_add : ByteArray := prog_9_method_21_code
def yX3_add : MethodName := ⟨RX3, "add", "(III)I"⟩
def dkwX3_add_5 : List UInt8 := [27, 46, 172]
abbrev dktX3_add_5 : List UInt8 := dkwX3_add_5 ++ []
def dkwX3_add_4 : List UInt8 := [27, 92, 46, 29, 96, 79, 42, 27, 28, 29, 182, 0, 87, 42, 27, 28, 29, 182, 0, 90, 42, 180, 0, 13]
abbrev dktX3_add_4 : List UInt8 := dkwX3_add_4 ++ dktX3_add_5
def dkwX3_add_3 : List UInt8 := [154, 0, 5, 3, 172, 42, 180, 0, 7, 16, 64, 27, 104, 28, 96, 92, 46, 29, 96, 79, 42, 180, 0, 13]
abbrev dktX3_add_3 : List UInt8 := dkwX3_add_3 ++ dktX3_add_4
def dkwX3_add_2 : List UInt8 := [167, 0, 21, 42, 180, 0, 13, 27, 46, 29, 96, 18, 83, 164, 0, 7, 6, 167, 0, 4, 3, 182, 0, 84]
abbrev dktX3_add_2 : List UInt8 := dkwX3_add_2 ++ dktX3_add_3
def dkwX3_add_1 : List UInt8 := [21, 4, 154, 0, 7, 4, 167, 0, 37, 29, 4, 161, 0, 10, 29, 17, 3, 232, 164, 0, 7, 5]
abbrev dktX3_add_1 : List UInt8 := dkwX3_add_1 ++ dktX3_add_2
def dkwX3_add_0 : List UInt8 := [27, 184, 0, 79, 153, 0, 16, 28, 16, 64, 184, 0, 39, 153, 0, 7, 4, 167, 0, 4, 3, 54, 4, 42]
abbrev dktX3_add_0 : List UInt8 := dkwX3_add_0 ++ dktX3_add_1
theorem dksX3_add_0 : cX3_add.data.toList.drop 0 = dktX3_add_0 := by decide +kernel
theorem dksX3_add_1 : cX3_add.data.toList.drop 24 = dktX3_add_1 := dk_seg dksX3_add_0 24 rfl rfl
theorem dksX3_add_2 : cX3_add.data.toList.drop 46 = dktX3_add_2 := dk_seg dksX3_add_1 22 rfl rfl
theorem dksX3_add_3 : cX3_add.data.toList.drop 70 = dktX3_add_3 := dk_seg dksX3_add_2 24 rfl rfl
theorem dksX3_add_4 : cX3_add.data.toList.drop 94 = dktX3_add_4 := dk_seg dksX3_add_3 24 rfl rfl
theorem dksX3_add_5 : cX3_add.data.toList.drop 118 = dktX3_add_5 := dk_seg dksX3_add_4 24 rfl rfl
theorem dX3_add_0 : decode cX3_add 0 = .ok (.iload_n 1, 1) := dk_27 (dk_at dksX3_add_0 0 rfl rfl)
theorem dX3_add_1 : decode cX3_add 1 = .ok (.invokestatic 79, 3) := dk_184 0 79 (dk_at dksX3_add_0 1 rfl rfl)
theorem dX3_add_4 : decode cX3_add 4 = .ok (.ifCond .eq 16, 3) := dk_153 0 16 (dk_at dksX3_add_0 4 rfl rfl)
theorem dX3_add_7 : decode cX3_add 7 = .ok (.iload_n 2, 1) := dk_28 (dk_at dksX3_add_0 7 rfl rfl)
theorem dX3_add_8 : decode cX3_add 8 = .ok (.bipush 64, 2) := dk_16 64 (dk_at dksX3_add_0 8 rfl rfl)
theorem dX3_add_10 : decode cX3_add 10 = .ok (.invokestatic 39, 3) := dk_184 0 39 (dk_at dksX3_add_0 10 rfl rfl)
theorem dX3_add_13 : decode cX3_add 13 = .ok (.ifCond .eq 7, 3) := dk_153 0 7 (dk_at dksX3_add_0 13 rfl rfl)
theorem dX3_add_16 : decode cX3_add 16 = .ok (.iconst 1, 1) := dk_4 (dk_at dksX3_add_0 16 rfl rfl)
theorem dX3_add_17 : decode cX3_add 17 = .ok (.goto 4, 3) := dk_167 0 4 (dk_at dksX3_add_0 17 rfl rfl)
theorem dX3_add_20 : decode cX3_add 20 = .ok (.iconst 0, 1) := dk_3 (dk_at dksX3_add_0 20 rfl rfl)
theorem dX3_add_21 : decode cX3_add 21 = .ok (.istore 4, 2) := dk_54 4 (dk_at dksX3_add_0 21 rfl rfl)
theorem dX3_add_23 : decode cX3_add 23 = .ok (.aload_n 0, 1) := dk_42 (dk_at dksX3_add_0 23 rfl rfl)
theorem dX3_add_24 : decode cX3_add 24 = .ok (.iload 4, 2) := dk_21 4 (dk_at dksX3_add_1 0 rfl rfl)
theorem dX3_add_26 : decode cX3_add 26 = .ok (.ifCond .ne 7, 3) := dk_154 0 7 (dk_at dksX3_add_1 2 rfl rfl)
theorem dX3_add_29 : decode cX3_add 29 = .ok (.iconst 1, 1) := dk_4 (dk_at dksX3_add_1 5 rfl rfl)
theorem dX3_add_30 : decode cX3_add 30 = .ok (.goto 37, 3) := dk_167 0 37 (dk_at dksX3_add_1 6 rfl rfl)
theorem dX3_add_33 : decode cX3_add 33 = .ok (.iload_n 3, 1) := dk_29 (dk_at dksX3_add_1 9 rfl rfl)
theorem dX3_add_34 : decode cX3_add 34 = .ok (.iconst 1, 1) := dk_4 (dk_at dksX3_add_1 10 rfl rfl)
theorem dX3_add_35 : decode cX3_add 35 = .ok (.if_icmp .lt 10, 3) := dk_161 0 10 (dk_at dksX3_add_1 11 rfl rfl)
theorem dX3_add_38 : decode cX3_add 38 = .ok (.iload_n 3, 1) := dk_29 (dk_at dksX3_add_1 14 rfl rfl)
theorem dX3_add_39 : decode cX3_add 39 = .ok (.sipush 1000, 3) := dk_17 3 232 (dk_at dksX3_add_1 15 rfl rfl)
theorem dX3_add_42 : decode cX3_add 42 = .ok (.if_icmp .le 7, 3) := dk_164 0 7 (dk_at dksX3_add_1 18 rfl rfl)
theorem dX3_add_45 : decode cX3_add 45 = .ok (.iconst 2, 1) := dk_5 (dk_at dksX3_add_1 21 rfl rfl)
theorem dX3_add_46 : decode cX3_add 46 = .ok (.goto 21, 3) := dk_167 0 21 (dk_at dksX3_add_2 0 rfl rfl)
theorem dX3_add_49 : decode cX3_add 49 = .ok (.aload_n 0, 1) := dk_42 (dk_at dksX3_add_2 3 rfl rfl)
theorem dX3_add_50 : decode cX3_add 50 = .ok (.getfield 13, 3) := dk_180 0 13 (dk_at dksX3_add_2 4 rfl rfl)
theorem dX3_add_53 : decode cX3_add 53 = .ok (.iload_n 1, 1) := dk_27 (dk_at dksX3_add_2 7 rfl rfl)
theorem dX3_add_54 : decode cX3_add 54 = .ok (.iaload, 1) := dk_46 (dk_at dksX3_add_2 8 rfl rfl)
theorem dX3_add_55 : decode cX3_add 55 = .ok (.iload_n 3, 1) := dk_29 (dk_at dksX3_add_2 9 rfl rfl)
theorem dX3_add_56 : decode cX3_add 56 = .ok (.iadd, 1) := dk_96 (dk_at dksX3_add_2 10 rfl rfl)
theorem dX3_add_57 : decode cX3_add 57 = .ok (.ldc 83, 2) := dk_18 83 (dk_at dksX3_add_2 11 rfl rfl)
theorem dX3_add_59 : decode cX3_add 59 = .ok (.if_icmp .le 7, 3) := dk_164 0 7 (dk_at dksX3_add_2 13 rfl rfl)
theorem dX3_add_62 : decode cX3_add 62 = .ok (.iconst 3, 1) := dk_6 (dk_at dksX3_add_2 16 rfl rfl)
theorem dX3_add_63 : decode cX3_add 63 = .ok (.goto 4, 3) := dk_167 0 4 (dk_at dksX3_add_2 17 rfl rfl)
theorem dX3_add_66 : decode cX3_add 66 = .ok (.iconst 0, 1) := dk_3 (dk_at dksX3_add_2 20 rfl rfl)
theorem dX3_add_67 : decode cX3_add 67 = .ok (.invokevirtual 84, 3) := dk_182 0 84 (dk_at dksX3_add_2 21 rfl rfl)
theorem dX3_add_70 : decode cX3_add 70 = .ok (.ifCond .ne 5, 3) := dk_154 0 5 (dk_at dksX3_add_3 0 rfl rfl)
theorem dX3_add_73 : decode cX3_add 73 = .ok (.iconst 0, 1) := dk_3 (dk_at dksX3_add_3 3 rfl rfl)
theorem dX3_add_74 : decode cX3_add 74 = .ok (.ireturn, 1) := dk_172 (dk_at dksX3_add_3 4 rfl rfl)
theorem dX3_add_75 : decode cX3_add 75 = .ok (.aload_n 0, 1) := dk_42 (dk_at dksX3_add_3 5 rfl rfl)
theorem dX3_add_76 : decode cX3_add 76 = .ok (.getfield 7, 3) := dk_180 0 7 (dk_at dksX3_add_3 6 rfl rfl)
theorem dX3_add_79 : decode cX3_add 79 = .ok (.bipush 64, 2) := dk_16 64 (dk_at dksX3_add_3 9 rfl rfl)
theorem dX3_add_81 : decode cX3_add 81 = .ok (.iload_n 1, 1) := dk_27 (dk_at dksX3_add_3 11 rfl rfl)
theorem dX3_add_82 : decode cX3_add 82 = .ok (.imul, 1) := dk_104 (dk_at dksX3_add_3 12 rfl rfl)
theorem dX3_add_83 : decode cX3_add 83 = .ok (.iload_n 2, 1) := dk_28 (dk_at dksX3_add_3 13 rfl rfl)
theorem dX3_add_84 : decode cX3_add 84 = .ok (.iadd, 1) := dk_96 (dk_at dksX3_add_3 14 rfl rfl)
theorem dX3_add_85 : decode cX3_add 85 = .ok (.dup2, 1) := dk_92 (dk_at dksX3_add_3 15 rfl rfl)
theorem dX3_add_86 : decode cX3_add 86 = .ok (.iaload, 1) := dk_46 (dk_at dksX3_add_3 16 rfl rfl)
theorem dX3_add_87 : decode cX3_add 87 = .ok (.iload_n 3, 1) := dk_29 (dk_at dksX3_add_3 17 rfl rfl)
theorem dX3_add_88 : decode cX3_add 88 = .ok (.iadd, 1) := dk_96 (dk_at dksX3_add_3 18 rfl rfl)
theorem dX3_add_89 : decode cX3_add 89 = .ok (.iastore, 1) := dk_79 (dk_at dksX3_add_3 19 rfl rfl)
theorem dX3_add_90 : decode cX3_add 90 = .ok (.aload_n 0, 1) := dk_42 (dk_at dksX3_add_3 20 rfl rfl)
theorem dX3_add_91 : decode cX3_add 91 = .ok (.getfield 13, 3) := dk_180 0 13 (dk_at dksX3_add_3 21 rfl rfl)
theorem dX3_add_94 : decode cX3_add 94 = .ok (.iload_n 1, 1) := dk_27 (dk_at dksX3_add_4 0 rfl rfl)
theorem dX3_add_95 : decode cX3_add 95 = .ok (.dup2, 1) := dk_92 (dk_at dksX3_add_4 1 rfl rfl)
theorem dX3_add_96 : decode cX3_add 96 = .ok (.iaload, 1) := dk_46 (dk_at dksX3_add_4 2 rfl rfl)
theorem dX3_add_97 : decode cX3_add 97 = .ok (.iload_n 3, 1) := dk_29 (dk_at dksX3_add_4 3 rfl rfl)
theorem dX3_add_98 : decode cX3_add 98 = .ok (.iadd, 1) := dk_96 (dk_at dksX3_add_4 4 rfl rfl)
theorem dX3_add_99 : decode cX3_add 99 = .ok (.iastore, 1) := dk_79 (dk_at dksX3_add_4 5 rfl rfl)
theorem dX3_add_100 : decode cX3_add 100 = .ok (.aload_n 0, 1) := dk_42 (dk_at dksX3_add_4 6 rfl rfl)
theorem dX3_add_101 : decode cX3_add 101 = .ok (.iload_n 1, 1) := dk_27 (dk_at dksX3_add_4 7 rfl rfl)
theorem dX3_add_102 : decode cX3_add 102 = .ok (.iload_n 2, 1) := dk_28 (dk_at dksX3_add_4 8 rfl rfl)
theorem dX3_add_103 : decode cX3_add 103 = .ok (.iload_n 3, 1) := dk_29 (dk_at dksX3_add_4 9 rfl rfl)
theorem dX3_add_104 : decode cX3_add 104 = .ok (.invokevirtual 87, 3) := dk_182 0 87 (dk_at dksX3_add_4 10 rfl rfl)
theorem dX3_add_107 : decode cX3_add 107 = .ok (.aload_n 0, 1) := dk_42 (dk_at dksX3_add_4 13 rfl rfl)
theorem dX3_add_108 : decode cX3_add 108 = .ok (.iload_n 1, 1) := dk_27 (dk_at dksX3_add_4 14 rfl rfl)
theorem dX3_add_109 : decode cX3_add 109 = .ok (.iload_n 2, 1) := dk_28 (dk_at dksX3_add_4 15 rfl rfl)
theorem dX3_add_110 : decode cX3_add 110 = .ok (.iload_n 3, 1) := dk_29 (dk_at dksX3_add_4 16 rfl rfl)
theorem dX3_add_111 : decode cX3_add 111 = .ok (.invokevirtual 90, 3) := dk_182 0 90 (dk_at dksX3_add_4 17 rfl rfl)
theorem dX3_add_114 : decode cX3_add 114 = .ok (.aload_n 0, 1) := dk_42 (dk_at dksX3_add_4 20 rfl rfl)
theorem dX3_add_115 : decode cX3_add 115 = .ok (.getfield 13, 3) := dk_180 0 13 (dk_at dksX3_add_4 21 rfl rfl)
theorem dX3_add_118 : decode cX3_add 118 = .ok (.iload_n 1, 1) := dk_27 (dk_at dksX3_add_5 0 rfl rfl)
theorem dX3_add_119 : decode cX3_add 119 = .ok (.iaload, 1) := dk_46 (dk_at dksX3_add_5 1 rfl rfl)
theorem dX3_add_120 : decode cX3_add 120 = .ok (.ireturn, 1) := dk_172 (dk_at dksX3_add_5 2 rfl rfl)
abbrev cX3_isStream : ByteArray := prog_9_method_5_code
def yX3_isStream : MethodName := ⟨RX3, "isStream", "(I)Z"⟩
def dkwX3_isStream_0 : List UInt8 := [26, 7, 184, 0, 39, 172]
abbrev dktX3_isStream_0 : List UInt8 := dkwX3_isStream_0 ++ []
theorem dksX3_isStream_0 : cX3_isStream.data.toList.drop 0 = dktX3_isStream_0 := by decide +kernel
theorem dX3_isStream_0 : decode cX3_isStream 0 = .ok (.iload_n 0, 1) := dk_26 (dk_at dksX3_isStream_0 0 rfl rfl)
theorem dX3_isStream_1 : decode cX3_isStream 1 = .ok (.iconst 4, 1) := dk_7 (dk_at dksX3_isStream_0 1 rfl rfl)
theorem dX3_isStream_2 : decode cX3_isStream 2 = .ok (.invokestatic 39, 3) := dk_184 0 39 (dk_at dksX3_isStream_0 2 rfl rfl)
theorem dX3_isStream_5 : decode cX3_isStream 5 = .ok (.ireturn, 1) := dk_172 (dk_at dksX3_isStream_0 5 rfl rfl)
abbrev cX3_isIn : ByteArray := prog_9_method_4_code
def yX3_isIn : MethodName := ⟨RX3, "isIn", "(II)Z"⟩
def dkwX3_isIn_0 : List UInt8 := [26, 155, 0, 12, 26, 27, 162, 0, 7, 4, 167, 0, 4, 3, 172]
abbrev dktX3_isIn_0 : List UInt8 := dkwX3_isIn_0 ++ []
theorem dksX3_isIn_0 : cX3_isIn.data.toList.drop 0 = dktX3_isIn_0 := by decide +kernel
theorem dX3_isIn_0 : decode cX3_isIn 0 = .ok (.iload_n 0, 1) := dk_26 (dk_at dksX3_isIn_0 0 rfl rfl)
theorem dX3_isIn_1 : decode cX3_isIn 1 = .ok (.ifCond .lt 12, 3) := dk_155 0 12 (dk_at dksX3_isIn_0 1 rfl rfl)
theorem dX3_isIn_4 : decode cX3_isIn 4 = .ok (.iload_n 0, 1) := dk_26 (dk_at dksX3_isIn_0 4 rfl rfl)
theorem dX3_isIn_5 : decode cX3_isIn 5 = .ok (.iload_n 1, 1) := dk_27 (dk_at dksX3_isIn_0 5 rfl rfl)
theorem dX3_isIn_6 : decode cX3_isIn 6 = .ok (.if_icmp .ge 7, 3) := dk_162 0 7 (dk_at dksX3_isIn_0 6 rfl rfl)
theorem dX3_isIn_9 : decode cX3_isIn 9 = .ok (.iconst 1, 1) := dk_4 (dk_at dksX3_isIn_0 9 rfl rfl)
theorem dX3_isIn_10 : decode cX3_isIn 10 = .ok (.goto 4, 3) := dk_167 0 4 (dk_at dksX3_isIn_0 10 rfl rfl)
theorem dX3_isIn_13 : decode cX3_isIn 13 = .ok (.iconst 0, 1) := dk_3 (dk_at dksX3_isIn_0 13 rfl rfl)
theorem dX3_isIn_14 : decode cX3_isIn 14 = .ok (.ireturn, 1) := dk_172 (dk_at dksX3_isIn_0 14 rfl rfl)
abbrev cX3_holds : ByteArray := prog_9_method_3_code
def yX3_holds : MethodName := ⟨RX3, "holds", "(I)Z"⟩
def dkwX3_holds_0 : List UInt8 := [42, 27, 181, 0, 35, 27, 154, 0, 7, 4, 167, 0, 4, 3, 172]
abbrev dktX3_holds_0 : List UInt8 := dkwX3_holds_0 ++ []
theorem dksX3_holds_0 : cX3_holds.data.toList.drop 0 = dktX3_holds_0 := by decide +kernel
theorem dX3_holds_0 : decode cX3_holds 0 = .ok (.aload_n 0, 1) := dk_42 (dk_at dksX3_holds_0 0 rfl rfl)
theorem dX3_holds_1 : decode cX3_holds 1 = .ok (.iload_n 1, 1) := dk_27 (dk_at dksX3_holds_0 1 rfl rfl)
theorem dX3_holds_2 : decode cX3_holds 2 = .ok (.putfield 35, 3) := dk_181 0 35 (dk_at dksX3_holds_0 2 rfl rfl)
theorem dX3_holds_5 : decode cX3_holds 5 = .ok (.iload_n 1, 1) := dk_27 (dk_at dksX3_holds_0 5 rfl rfl)
theorem dX3_holds_6 : decode cX3_holds 6 = .ok (.ifCond .ne 7, 3) := dk_154 0 7 (dk_at dksX3_holds_0 6 rfl rfl)
theorem dX3_holds_9 : decode cX3_holds 9 = .ok (.iconst 1, 1) := dk_4 (dk_at dksX3_holds_0 9 rfl rfl)
theorem dX3_holds_10 : decode cX3_holds 10 = .ok (.goto 4, 3) := dk_167 0 4 (dk_at dksX3_holds_0 10 rfl rfl)
theorem dX3_holds_13 : decode cX3_holds 13 = .ok (.iconst 0, 1) := dk_3 (dk_at dksX3_holds_0 13 rfl rfl)
theorem dX3_holds_14 : decode cX3_holds 14 = .ok (.ireturn, 1) := dk_172 (dk_at dksX3_holds_0 14 rfl rfl)
abbrev cX3_addsCarefully : ByteArray := prog_9_method_14_code
def yX3_addsCarefully : MethodName := ⟨RX3, "addsCarefully", "(III)V"⟩
def dkwX3_addsCarefully_4 : List UInt8 := [132, 4, 1, 167, 255, 165, 177]
abbrev dktX3_addsCarefully_4 : List UInt8 := dkwX3_addsCarefully_4 ++ []
def dkwX3_addsCarefully_3 : List UInt8 := [164, 0, 13, 42, 180, 0, 16, 21, 8, 46, 167, 0, 5, 21, 6, 79, 132, 7, 1, 167, 255, 199]
abbrev dktX3_addsCarefully_3 : List UInt8 := dkwX3_addsCarefully_3 ++ dktX3_addsCarefully_4
def dkwX3_addsCarefully_2 : List UInt8 := [184, 0, 54, 184, 0, 58, 54, 8, 42, 180, 0, 16, 21, 8, 42, 180, 0, 16, 21, 8, 46, 21, 6]
abbrev dktX3_addsCarefully_2 : List UInt8 := dkwX3_addsCarefully_2 ++ dktX3_addsCarefully_3
def dkwX3_addsCarefully_1 : List UInt8 := [29, 96, 54, 6, 3, 54, 7, 21, 7, 6, 162, 0, 57, 27, 21, 4, 21, 7, 21, 7, 21, 5]
abbrev dktX3_addsCarefully_1 : List UInt8 := dkwX3_addsCarefully_1 ++ dktX3_addsCarefully_2
def dkwX3_addsCarefully_0 : List UInt8 := [3, 54, 4, 21, 4, 6, 162, 0, 91, 28, 21, 4, 122, 54, 5, 42, 27, 21, 4, 21, 5, 182, 0, 62]
abbrev dktX3_addsCarefully_0 : List UInt8 := dkwX3_addsCarefully_0 ++ dktX3_addsCarefully_1
theorem dksX3_addsCarefully_0 : cX3_addsCarefully.data.toList.drop 0 = dktX3_addsCarefully_0 := by decide +kernel
theorem dksX3_addsCarefully_1 : cX3_addsCarefully.data.toList.drop 24 = dktX3_addsCarefully_1 := dk_seg dksX3_addsCarefully_0 24 rfl rfl
theorem dksX3_addsCarefully_2 : cX3_addsCarefully.data.toList.drop 46 = dktX3_addsCarefully_2 := dk_seg dksX3_addsCarefully_1 22 rfl rfl
theorem dksX3_addsCarefully_3 : cX3_addsCarefully.data.toList.drop 69 = dktX3_addsCarefully_3 := dk_seg dksX3_addsCarefully_2 23 rfl rfl
theorem dksX3_addsCarefully_4 : cX3_addsCarefully.data.toList.drop 91 = dktX3_addsCarefully_4 := dk_seg dksX3_addsCarefully_3 22 rfl rfl
theorem dX3_addsCarefully_0 : decode cX3_addsCarefully 0 = .ok (.iconst 0, 1) := dk_3 (dk_at dksX3_addsCarefully_0 0 rfl rfl)
theorem dX3_addsCarefully_1 : decode cX3_addsCarefully 1 = .ok (.istore 4, 2) := dk_54 4 (dk_at dksX3_addsCarefully_0 1 rfl rfl)
theorem dX3_addsCarefully_3 : decode cX3_addsCarefully 3 = .ok (.iload 4, 2) := dk_21 4 (dk_at dksX3_addsCarefully_0 3 rfl rfl)
theorem dX3_addsCarefully_5 : decode cX3_addsCarefully 5 = .ok (.iconst 3, 1) := dk_6 (dk_at dksX3_addsCarefully_0 5 rfl rfl)
theorem dX3_addsCarefully_6 : decode cX3_addsCarefully 6 = .ok (.if_icmp .ge 91, 3) := dk_162 0 91 (dk_at dksX3_addsCarefully_0 6 rfl rfl)
theorem dX3_addsCarefully_9 : decode cX3_addsCarefully 9 = .ok (.iload_n 2, 1) := dk_28 (dk_at dksX3_addsCarefully_0 9 rfl rfl)
theorem dX3_addsCarefully_10 : decode cX3_addsCarefully 10 = .ok (.iload 4, 2) := dk_21 4 (dk_at dksX3_addsCarefully_0 10 rfl rfl)
theorem dX3_addsCarefully_12 : decode cX3_addsCarefully 12 = .ok (.ishr, 1) := dk_122 (dk_at dksX3_addsCarefully_0 12 rfl rfl)
theorem dX3_addsCarefully_13 : decode cX3_addsCarefully 13 = .ok (.istore 5, 2) := dk_54 5 (dk_at dksX3_addsCarefully_0 13 rfl rfl)
theorem dX3_addsCarefully_15 : decode cX3_addsCarefully 15 = .ok (.aload_n 0, 1) := dk_42 (dk_at dksX3_addsCarefully_0 15 rfl rfl)
theorem dX3_addsCarefully_16 : decode cX3_addsCarefully 16 = .ok (.iload_n 1, 1) := dk_27 (dk_at dksX3_addsCarefully_0 16 rfl rfl)
theorem dX3_addsCarefully_17 : decode cX3_addsCarefully 17 = .ok (.iload 4, 2) := dk_21 4 (dk_at dksX3_addsCarefully_0 17 rfl rfl)
theorem dX3_addsCarefully_19 : decode cX3_addsCarefully 19 = .ok (.iload 5, 2) := dk_21 5 (dk_at dksX3_addsCarefully_0 19 rfl rfl)
theorem dX3_addsCarefully_21 : decode cX3_addsCarefully 21 = .ok (.invokevirtual 62, 3) := dk_182 0 62 (dk_at dksX3_addsCarefully_0 21 rfl rfl)
theorem dX3_addsCarefully_24 : decode cX3_addsCarefully 24 = .ok (.iload_n 3, 1) := dk_29 (dk_at dksX3_addsCarefully_1 0 rfl rfl)
theorem dX3_addsCarefully_25 : decode cX3_addsCarefully 25 = .ok (.iadd, 1) := dk_96 (dk_at dksX3_addsCarefully_1 1 rfl rfl)
theorem dX3_addsCarefully_26 : decode cX3_addsCarefully 26 = .ok (.istore 6, 2) := dk_54 6 (dk_at dksX3_addsCarefully_1 2 rfl rfl)
theorem dX3_addsCarefully_28 : decode cX3_addsCarefully 28 = .ok (.iconst 0, 1) := dk_3 (dk_at dksX3_addsCarefully_1 4 rfl rfl)
theorem dX3_addsCarefully_29 : decode cX3_addsCarefully 29 = .ok (.istore 7, 2) := dk_54 7 (dk_at dksX3_addsCarefully_1 5 rfl rfl)
theorem dX3_addsCarefully_31 : decode cX3_addsCarefully 31 = .ok (.iload 7, 2) := dk_21 7 (dk_at dksX3_addsCarefully_1 7 rfl rfl)
theorem dX3_addsCarefully_33 : decode cX3_addsCarefully 33 = .ok (.iconst 3, 1) := dk_6 (dk_at dksX3_addsCarefully_1 9 rfl rfl)
theorem dX3_addsCarefully_34 : decode cX3_addsCarefully 34 = .ok (.if_icmp .ge 57, 3) := dk_162 0 57 (dk_at dksX3_addsCarefully_1 10 rfl rfl)
theorem dX3_addsCarefully_37 : decode cX3_addsCarefully 37 = .ok (.iload_n 1, 1) := dk_27 (dk_at dksX3_addsCarefully_1 13 rfl rfl)
theorem dX3_addsCarefully_38 : decode cX3_addsCarefully 38 = .ok (.iload 4, 2) := dk_21 4 (dk_at dksX3_addsCarefully_1 14 rfl rfl)
theorem dX3_addsCarefully_40 : decode cX3_addsCarefully 40 = .ok (.iload 7, 2) := dk_21 7 (dk_at dksX3_addsCarefully_1 16 rfl rfl)
theorem dX3_addsCarefully_42 : decode cX3_addsCarefully 42 = .ok (.iload 7, 2) := dk_21 7 (dk_at dksX3_addsCarefully_1 18 rfl rfl)
theorem dX3_addsCarefully_44 : decode cX3_addsCarefully 44 = .ok (.iload 5, 2) := dk_21 5 (dk_at dksX3_addsCarefully_1 20 rfl rfl)
theorem dX3_addsCarefully_46 : decode cX3_addsCarefully 46 = .ok (.invokestatic 54, 3) := dk_184 0 54 (dk_at dksX3_addsCarefully_2 0 rfl rfl)
theorem dX3_addsCarefully_49 : decode cX3_addsCarefully 49 = .ok (.invokestatic 58, 3) := dk_184 0 58 (dk_at dksX3_addsCarefully_2 3 rfl rfl)
theorem dX3_addsCarefully_52 : decode cX3_addsCarefully 52 = .ok (.istore 8, 2) := dk_54 8 (dk_at dksX3_addsCarefully_2 6 rfl rfl)
theorem dX3_addsCarefully_54 : decode cX3_addsCarefully 54 = .ok (.aload_n 0, 1) := dk_42 (dk_at dksX3_addsCarefully_2 8 rfl rfl)
theorem dX3_addsCarefully_55 : decode cX3_addsCarefully 55 = .ok (.getfield 16, 3) := dk_180 0 16 (dk_at dksX3_addsCarefully_2 9 rfl rfl)
theorem dX3_addsCarefully_58 : decode cX3_addsCarefully 58 = .ok (.iload 8, 2) := dk_21 8 (dk_at dksX3_addsCarefully_2 12 rfl rfl)
theorem dX3_addsCarefully_60 : decode cX3_addsCarefully 60 = .ok (.aload_n 0, 1) := dk_42 (dk_at dksX3_addsCarefully_2 14 rfl rfl)
theorem dX3_addsCarefully_61 : decode cX3_addsCarefully 61 = .ok (.getfield 16, 3) := dk_180 0 16 (dk_at dksX3_addsCarefully_2 15 rfl rfl)
theorem dX3_addsCarefully_64 : decode cX3_addsCarefully 64 = .ok (.iload 8, 2) := dk_21 8 (dk_at dksX3_addsCarefully_2 18 rfl rfl)
theorem dX3_addsCarefully_66 : decode cX3_addsCarefully 66 = .ok (.iaload, 1) := dk_46 (dk_at dksX3_addsCarefully_2 20 rfl rfl)
theorem dX3_addsCarefully_67 : decode cX3_addsCarefully 67 = .ok (.iload 6, 2) := dk_21 6 (dk_at dksX3_addsCarefully_2 21 rfl rfl)
theorem dX3_addsCarefully_69 : decode cX3_addsCarefully 69 = .ok (.if_icmp .le 13, 3) := dk_164 0 13 (dk_at dksX3_addsCarefully_3 0 rfl rfl)
theorem dX3_addsCarefully_72 : decode cX3_addsCarefully 72 = .ok (.aload_n 0, 1) := dk_42 (dk_at dksX3_addsCarefully_3 3 rfl rfl)
theorem dX3_addsCarefully_73 : decode cX3_addsCarefully 73 = .ok (.getfield 16, 3) := dk_180 0 16 (dk_at dksX3_addsCarefully_3 4 rfl rfl)
theorem dX3_addsCarefully_76 : decode cX3_addsCarefully 76 = .ok (.iload 8, 2) := dk_21 8 (dk_at dksX3_addsCarefully_3 7 rfl rfl)
theorem dX3_addsCarefully_78 : decode cX3_addsCarefully 78 = .ok (.iaload, 1) := dk_46 (dk_at dksX3_addsCarefully_3 9 rfl rfl)
theorem dX3_addsCarefully_79 : decode cX3_addsCarefully 79 = .ok (.goto 5, 3) := dk_167 0 5 (dk_at dksX3_addsCarefully_3 10 rfl rfl)
theorem dX3_addsCarefully_82 : decode cX3_addsCarefully 82 = .ok (.iload 6, 2) := dk_21 6 (dk_at dksX3_addsCarefully_3 13 rfl rfl)
theorem dX3_addsCarefully_84 : decode cX3_addsCarefully 84 = .ok (.iastore, 1) := dk_79 (dk_at dksX3_addsCarefully_3 15 rfl rfl)
theorem dX3_addsCarefully_85 : decode cX3_addsCarefully 85 = .ok (.iinc 7 1, 3) := dk_132 7 1 (dk_at dksX3_addsCarefully_3 16 rfl rfl)
theorem dX3_addsCarefully_88 : decode cX3_addsCarefully 88 = .ok (.goto (-57), 3) := dk_167 255 199 (dk_at dksX3_addsCarefully_3 19 rfl rfl)
theorem dX3_addsCarefully_91 : decode cX3_addsCarefully 91 = .ok (.iinc 4 1, 3) := dk_132 4 1 (dk_at dksX3_addsCarefully_4 0 rfl rfl)
theorem dX3_addsCarefully_94 : decode cX3_addsCarefully 94 = .ok (.goto (-91), 3) := dk_167 255 165 (dk_at dksX3_addsCarefully_4 3 rfl rfl)
theorem dX3_addsCarefully_97 : decode cX3_addsCarefully 97 = .ok (.return_, 1) := dk_177 (dk_at dksX3_addsCarefully_4 6 rfl rfl)
abbrev cX3_estimateOf : ByteArray := prog_9_method_13_code
def yX3_estimateOf : MethodName := ⟨RX3, "estimateOf", "(III)I"⟩
def dkwX3_estimateOf_4 : List UInt8 := [172]
abbrev dktX3_estimateOf_4 : List UInt8 := dkwX3_estimateOf_4 ++ []
def dkwX3_estimateOf_3 : List UInt8 := [21, 6, 21, 4, 162, 0, 8, 21, 6, 167, 0, 5, 21, 4, 54, 4, 132, 5, 1, 167, 255, 211, 21, 4]
abbrev dktX3_estimateOf_3 : List UInt8 := dkwX3_estimateOf_3 ++ dktX3_estimateOf_4
def dkwX3_estimateOf_2 : List UInt8 := [162, 0, 45, 42, 180, 0, 16, 27, 28, 21, 5, 21, 5, 29, 184, 0, 54, 184, 0, 58, 46, 54, 6]
abbrev dktX3_estimateOf_2 : List UInt8 := dkwX3_estimateOf_2 ++ dktX3_estimateOf_3
def dkwX3_estimateOf_1 : List UInt8 := [180, 0, 16, 27, 28, 3, 3, 29, 184, 0, 54, 184, 0, 58, 46, 54, 4, 4, 54, 5, 21, 5, 6]
abbrev dktX3_estimateOf_1 : List UInt8 := dkwX3_estimateOf_1 ++ dktX3_estimateOf_2
def dkwX3_estimateOf_0 : List UInt8 := [28, 6, 161, 0, 19, 42, 27, 29, 28, 120, 29, 4, 96, 28, 120, 4, 100, 182, 0, 50, 172, 42]
abbrev dktX3_estimateOf_0 : List UInt8 := dkwX3_estimateOf_0 ++ dktX3_estimateOf_1
theorem dksX3_estimateOf_0 : cX3_estimateOf.data.toList.drop 0 = dktX3_estimateOf_0 := by decide +kernel
theorem dksX3_estimateOf_1 : cX3_estimateOf.data.toList.drop 22 = dktX3_estimateOf_1 := dk_seg dksX3_estimateOf_0 22 rfl rfl
theorem dksX3_estimateOf_2 : cX3_estimateOf.data.toList.drop 45 = dktX3_estimateOf_2 := dk_seg dksX3_estimateOf_1 23 rfl rfl
theorem dksX3_estimateOf_3 : cX3_estimateOf.data.toList.drop 68 = dktX3_estimateOf_3 := dk_seg dksX3_estimateOf_2 23 rfl rfl
theorem dksX3_estimateOf_4 : cX3_estimateOf.data.toList.drop 92 = dktX3_estimateOf_4 := dk_seg dksX3_estimateOf_3 24 rfl rfl
theorem dX3_estimateOf_0 : decode cX3_estimateOf 0 = .ok (.iload_n 2, 1) := dk_28 (dk_at dksX3_estimateOf_0 0 rfl rfl)
theorem dX3_estimateOf_1 : decode cX3_estimateOf 1 = .ok (.iconst 3, 1) := dk_6 (dk_at dksX3_estimateOf_0 1 rfl rfl)
theorem dX3_estimateOf_2 : decode cX3_estimateOf 2 = .ok (.if_icmp .lt 19, 3) := dk_161 0 19 (dk_at dksX3_estimateOf_0 2 rfl rfl)
theorem dX3_estimateOf_5 : decode cX3_estimateOf 5 = .ok (.aload_n 0, 1) := dk_42 (dk_at dksX3_estimateOf_0 5 rfl rfl)
theorem dX3_estimateOf_6 : decode cX3_estimateOf 6 = .ok (.iload_n 1, 1) := dk_27 (dk_at dksX3_estimateOf_0 6 rfl rfl)
theorem dX3_estimateOf_7 : decode cX3_estimateOf 7 = .ok (.iload_n 3, 1) := dk_29 (dk_at dksX3_estimateOf_0 7 rfl rfl)
theorem dX3_estimateOf_8 : decode cX3_estimateOf 8 = .ok (.iload_n 2, 1) := dk_28 (dk_at dksX3_estimateOf_0 8 rfl rfl)
theorem dX3_estimateOf_9 : decode cX3_estimateOf 9 = .ok (.ishl, 1) := dk_120 (dk_at dksX3_estimateOf_0 9 rfl rfl)
theorem dX3_estimateOf_10 : decode cX3_estimateOf 10 = .ok (.iload_n 3, 1) := dk_29 (dk_at dksX3_estimateOf_0 10 rfl rfl)
theorem dX3_estimateOf_11 : decode cX3_estimateOf 11 = .ok (.iconst 1, 1) := dk_4 (dk_at dksX3_estimateOf_0 11 rfl rfl)
theorem dX3_estimateOf_12 : decode cX3_estimateOf 12 = .ok (.iadd, 1) := dk_96 (dk_at dksX3_estimateOf_0 12 rfl rfl)
theorem dX3_estimateOf_13 : decode cX3_estimateOf 13 = .ok (.iload_n 2, 1) := dk_28 (dk_at dksX3_estimateOf_0 13 rfl rfl)
theorem dX3_estimateOf_14 : decode cX3_estimateOf 14 = .ok (.ishl, 1) := dk_120 (dk_at dksX3_estimateOf_0 14 rfl rfl)
theorem dX3_estimateOf_15 : decode cX3_estimateOf 15 = .ok (.iconst 1, 1) := dk_4 (dk_at dksX3_estimateOf_0 15 rfl rfl)
theorem dX3_estimateOf_16 : decode cX3_estimateOf 16 = .ok (.isub, 1) := dk_100 (dk_at dksX3_estimateOf_0 16 rfl rfl)
theorem dX3_estimateOf_17 : decode cX3_estimateOf 17 = .ok (.invokevirtual 50, 3) := dk_182 0 50 (dk_at dksX3_estimateOf_0 17 rfl rfl)
theorem dX3_estimateOf_20 : decode cX3_estimateOf 20 = .ok (.ireturn, 1) := dk_172 (dk_at dksX3_estimateOf_0 20 rfl rfl)
theorem dX3_estimateOf_21 : decode cX3_estimateOf 21 = .ok (.aload_n 0, 1) := dk_42 (dk_at dksX3_estimateOf_0 21 rfl rfl)
theorem dX3_estimateOf_22 : decode cX3_estimateOf 22 = .ok (.getfield 16, 3) := dk_180 0 16 (dk_at dksX3_estimateOf_1 0 rfl rfl)
theorem dX3_estimateOf_25 : decode cX3_estimateOf 25 = .ok (.iload_n 1, 1) := dk_27 (dk_at dksX3_estimateOf_1 3 rfl rfl)
theorem dX3_estimateOf_26 : decode cX3_estimateOf 26 = .ok (.iload_n 2, 1) := dk_28 (dk_at dksX3_estimateOf_1 4 rfl rfl)
theorem dX3_estimateOf_27 : decode cX3_estimateOf 27 = .ok (.iconst 0, 1) := dk_3 (dk_at dksX3_estimateOf_1 5 rfl rfl)
theorem dX3_estimateOf_28 : decode cX3_estimateOf 28 = .ok (.iconst 0, 1) := dk_3 (dk_at dksX3_estimateOf_1 6 rfl rfl)
theorem dX3_estimateOf_29 : decode cX3_estimateOf 29 = .ok (.iload_n 3, 1) := dk_29 (dk_at dksX3_estimateOf_1 7 rfl rfl)
theorem dX3_estimateOf_30 : decode cX3_estimateOf 30 = .ok (.invokestatic 54, 3) := dk_184 0 54 (dk_at dksX3_estimateOf_1 8 rfl rfl)
theorem dX3_estimateOf_33 : decode cX3_estimateOf 33 = .ok (.invokestatic 58, 3) := dk_184 0 58 (dk_at dksX3_estimateOf_1 11 rfl rfl)
theorem dX3_estimateOf_36 : decode cX3_estimateOf 36 = .ok (.iaload, 1) := dk_46 (dk_at dksX3_estimateOf_1 14 rfl rfl)
theorem dX3_estimateOf_37 : decode cX3_estimateOf 37 = .ok (.istore 4, 2) := dk_54 4 (dk_at dksX3_estimateOf_1 15 rfl rfl)
theorem dX3_estimateOf_39 : decode cX3_estimateOf 39 = .ok (.iconst 1, 1) := dk_4 (dk_at dksX3_estimateOf_1 17 rfl rfl)
theorem dX3_estimateOf_40 : decode cX3_estimateOf 40 = .ok (.istore 5, 2) := dk_54 5 (dk_at dksX3_estimateOf_1 18 rfl rfl)
theorem dX3_estimateOf_42 : decode cX3_estimateOf 42 = .ok (.iload 5, 2) := dk_21 5 (dk_at dksX3_estimateOf_1 20 rfl rfl)
theorem dX3_estimateOf_44 : decode cX3_estimateOf 44 = .ok (.iconst 3, 1) := dk_6 (dk_at dksX3_estimateOf_1 22 rfl rfl)
theorem dX3_estimateOf_45 : decode cX3_estimateOf 45 = .ok (.if_icmp .ge 45, 3) := dk_162 0 45 (dk_at dksX3_estimateOf_2 0 rfl rfl)
theorem dX3_estimateOf_48 : decode cX3_estimateOf 48 = .ok (.aload_n 0, 1) := dk_42 (dk_at dksX3_estimateOf_2 3 rfl rfl)
theorem dX3_estimateOf_49 : decode cX3_estimateOf 49 = .ok (.getfield 16, 3) := dk_180 0 16 (dk_at dksX3_estimateOf_2 4 rfl rfl)
theorem dX3_estimateOf_52 : decode cX3_estimateOf 52 = .ok (.iload_n 1, 1) := dk_27 (dk_at dksX3_estimateOf_2 7 rfl rfl)
theorem dX3_estimateOf_53 : decode cX3_estimateOf 53 = .ok (.iload_n 2, 1) := dk_28 (dk_at dksX3_estimateOf_2 8 rfl rfl)
theorem dX3_estimateOf_54 : decode cX3_estimateOf 54 = .ok (.iload 5, 2) := dk_21 5 (dk_at dksX3_estimateOf_2 9 rfl rfl)
theorem dX3_estimateOf_56 : decode cX3_estimateOf 56 = .ok (.iload 5, 2) := dk_21 5 (dk_at dksX3_estimateOf_2 11 rfl rfl)
theorem dX3_estimateOf_58 : decode cX3_estimateOf 58 = .ok (.iload_n 3, 1) := dk_29 (dk_at dksX3_estimateOf_2 13 rfl rfl)
theorem dX3_estimateOf_59 : decode cX3_estimateOf 59 = .ok (.invokestatic 54, 3) := dk_184 0 54 (dk_at dksX3_estimateOf_2 14 rfl rfl)
theorem dX3_estimateOf_62 : decode cX3_estimateOf 62 = .ok (.invokestatic 58, 3) := dk_184 0 58 (dk_at dksX3_estimateOf_2 17 rfl rfl)
theorem dX3_estimateOf_65 : decode cX3_estimateOf 65 = .ok (.iaload, 1) := dk_46 (dk_at dksX3_estimateOf_2 20 rfl rfl)
theorem dX3_estimateOf_66 : decode cX3_estimateOf 66 = .ok (.istore 6, 2) := dk_54 6 (dk_at dksX3_estimateOf_2 21 rfl rfl)
theorem dX3_estimateOf_68 : decode cX3_estimateOf 68 = .ok (.iload 6, 2) := dk_21 6 (dk_at dksX3_estimateOf_3 0 rfl rfl)
theorem dX3_estimateOf_70 : decode cX3_estimateOf 70 = .ok (.iload 4, 2) := dk_21 4 (dk_at dksX3_estimateOf_3 2 rfl rfl)
theorem dX3_estimateOf_72 : decode cX3_estimateOf 72 = .ok (.if_icmp .ge 8, 3) := dk_162 0 8 (dk_at dksX3_estimateOf_3 4 rfl rfl)
theorem dX3_estimateOf_75 : decode cX3_estimateOf 75 = .ok (.iload 6, 2) := dk_21 6 (dk_at dksX3_estimateOf_3 7 rfl rfl)
theorem dX3_estimateOf_77 : decode cX3_estimateOf 77 = .ok (.goto 5, 3) := dk_167 0 5 (dk_at dksX3_estimateOf_3 9 rfl rfl)
theorem dX3_estimateOf_80 : decode cX3_estimateOf 80 = .ok (.iload 4, 2) := dk_21 4 (dk_at dksX3_estimateOf_3 12 rfl rfl)
theorem dX3_estimateOf_82 : decode cX3_estimateOf 82 = .ok (.istore 4, 2) := dk_54 4 (dk_at dksX3_estimateOf_3 14 rfl rfl)
theorem dX3_estimateOf_84 : decode cX3_estimateOf 84 = .ok (.iinc 5 1, 3) := dk_132 5 1 (dk_at dksX3_estimateOf_3 16 rfl rfl)
theorem dX3_estimateOf_87 : decode cX3_estimateOf 87 = .ok (.goto (-45), 3) := dk_167 255 211 (dk_at dksX3_estimateOf_3 19 rfl rfl)
theorem dX3_estimateOf_90 : decode cX3_estimateOf 90 = .ok (.iload 4, 2) := dk_21 4 (dk_at dksX3_estimateOf_3 22 rfl rfl)
theorem dX3_estimateOf_92 : decode cX3_estimateOf 92 = .ok (.ireturn, 1) := dk_172 (dk_at dksX3_estimateOf_4 0 rfl rfl)
abbrev cX3_sum : ByteArray := prog_9_method_12_code
def yX3_sum : MethodName := ⟨RX3, "sum", "(III)I"⟩
def dkwX3_sum_1 : List UInt8 := [96, 46, 96, 54, 4, 132, 5, 1, 167, 255, 230, 21, 4, 172]
abbrev dktX3_sum_1 : List UInt8 := dkwX3_sum_1 ++ []
def dkwX3_sum_0 : List UInt8 := [3, 54, 4, 28, 54, 5, 21, 5, 29, 163, 0, 26, 21, 4, 42, 180, 0, 7, 16, 64, 27, 104, 21, 5]
abbrev dktX3_sum_0 : List UInt8 := dkwX3_sum_0 ++ dktX3_sum_1
theorem dksX3_sum_0 : cX3_sum.data.toList.drop 0 = dktX3_sum_0 := by decide +kernel
theorem dksX3_sum_1 : cX3_sum.data.toList.drop 24 = dktX3_sum_1 := dk_seg dksX3_sum_0 24 rfl rfl
theorem dX3_sum_0 : decode cX3_sum 0 = .ok (.iconst 0, 1) := dk_3 (dk_at dksX3_sum_0 0 rfl rfl)
theorem dX3_sum_1 : decode cX3_sum 1 = .ok (.istore 4, 2) := dk_54 4 (dk_at dksX3_sum_0 1 rfl rfl)
theorem dX3_sum_3 : decode cX3_sum 3 = .ok (.iload_n 2, 1) := dk_28 (dk_at dksX3_sum_0 3 rfl rfl)
theorem dX3_sum_4 : decode cX3_sum 4 = .ok (.istore 5, 2) := dk_54 5 (dk_at dksX3_sum_0 4 rfl rfl)
theorem dX3_sum_6 : decode cX3_sum 6 = .ok (.iload 5, 2) := dk_21 5 (dk_at dksX3_sum_0 6 rfl rfl)
theorem dX3_sum_8 : decode cX3_sum 8 = .ok (.iload_n 3, 1) := dk_29 (dk_at dksX3_sum_0 8 rfl rfl)
theorem dX3_sum_9 : decode cX3_sum 9 = .ok (.if_icmp .gt 26, 3) := dk_163 0 26 (dk_at dksX3_sum_0 9 rfl rfl)
theorem dX3_sum_12 : decode cX3_sum 12 = .ok (.iload 4, 2) := dk_21 4 (dk_at dksX3_sum_0 12 rfl rfl)
theorem dX3_sum_14 : decode cX3_sum 14 = .ok (.aload_n 0, 1) := dk_42 (dk_at dksX3_sum_0 14 rfl rfl)
theorem dX3_sum_15 : decode cX3_sum 15 = .ok (.getfield 7, 3) := dk_180 0 7 (dk_at dksX3_sum_0 15 rfl rfl)
theorem dX3_sum_18 : decode cX3_sum 18 = .ok (.bipush 64, 2) := dk_16 64 (dk_at dksX3_sum_0 18 rfl rfl)
theorem dX3_sum_20 : decode cX3_sum 20 = .ok (.iload_n 1, 1) := dk_27 (dk_at dksX3_sum_0 20 rfl rfl)
theorem dX3_sum_21 : decode cX3_sum 21 = .ok (.imul, 1) := dk_104 (dk_at dksX3_sum_0 21 rfl rfl)
theorem dX3_sum_22 : decode cX3_sum 22 = .ok (.iload 5, 2) := dk_21 5 (dk_at dksX3_sum_0 22 rfl rfl)
theorem dX3_sum_24 : decode cX3_sum 24 = .ok (.iadd, 1) := dk_96 (dk_at dksX3_sum_1 0 rfl rfl)
theorem dX3_sum_25 : decode cX3_sum 25 = .ok (.iaload, 1) := dk_46 (dk_at dksX3_sum_1 1 rfl rfl)
theorem dX3_sum_26 : decode cX3_sum 26 = .ok (.iadd, 1) := dk_96 (dk_at dksX3_sum_1 2 rfl rfl)
theorem dX3_sum_27 : decode cX3_sum 27 = .ok (.istore 4, 2) := dk_54 4 (dk_at dksX3_sum_1 3 rfl rfl)
theorem dX3_sum_29 : decode cX3_sum 29 = .ok (.iinc 5 1, 3) := dk_132 5 1 (dk_at dksX3_sum_1 5 rfl rfl)
theorem dX3_sum_32 : decode cX3_sum 32 = .ok (.goto (-26), 3) := dk_167 255 230 (dk_at dksX3_sum_1 8 rfl rfl)
theorem dX3_sum_35 : decode cX3_sum 35 = .ok (.iload 4, 2) := dk_21 4 (dk_at dksX3_sum_1 11 rfl rfl)
theorem dX3_sum_37 : decode cX3_sum 37 = .ok (.ireturn, 1) := dk_172 (dk_at dksX3_sum_1 13 rfl rfl)
abbrev cX3_columnOf : ByteArray := prog_9_method_8_code
def yX3_columnOf : MethodName := ⟨RX3, "columnOf", "(II)I"⟩
def dkwX3_columnOf_0 : List UInt8 := [26, 184, 0, 43, 27, 104, 26, 184, 0, 47, 96, 16, 61, 112, 16, 8, 112, 172]
abbrev dktX3_columnOf_0 : List UInt8 := dkwX3_columnOf_0 ++ []
theorem dksX3_columnOf_0 : cX3_columnOf.data.toList.drop 0 = dktX3_columnOf_0 := by decide +kernel
theorem dX3_columnOf_0 : decode cX3_columnOf 0 = .ok (.iload_n 0, 1) := dk_26 (dk_at dksX3_columnOf_0 0 rfl rfl)
theorem dX3_columnOf_1 : decode cX3_columnOf 1 = .ok (.invokestatic 43, 3) := dk_184 0 43 (dk_at dksX3_columnOf_0 1 rfl rfl)
theorem dX3_columnOf_4 : decode cX3_columnOf 4 = .ok (.iload_n 1, 1) := dk_27 (dk_at dksX3_columnOf_0 4 rfl rfl)
theorem dX3_columnOf_5 : decode cX3_columnOf 5 = .ok (.imul, 1) := dk_104 (dk_at dksX3_columnOf_0 5 rfl rfl)
theorem dX3_columnOf_6 : decode cX3_columnOf 6 = .ok (.iload_n 0, 1) := dk_26 (dk_at dksX3_columnOf_0 6 rfl rfl)
theorem dX3_columnOf_7 : decode cX3_columnOf 7 = .ok (.invokestatic 47, 3) := dk_184 0 47 (dk_at dksX3_columnOf_0 7 rfl rfl)
theorem dX3_columnOf_10 : decode cX3_columnOf 10 = .ok (.iadd, 1) := dk_96 (dk_at dksX3_columnOf_0 10 rfl rfl)
theorem dX3_columnOf_11 : decode cX3_columnOf 11 = .ok (.bipush 61, 2) := dk_16 61 (dk_at dksX3_columnOf_0 11 rfl rfl)
theorem dX3_columnOf_13 : decode cX3_columnOf 13 = .ok (.irem, 1) := dk_112 (dk_at dksX3_columnOf_0 13 rfl rfl)
theorem dX3_columnOf_14 : decode cX3_columnOf 14 = .ok (.bipush 8, 2) := dk_16 8 (dk_at dksX3_columnOf_0 14 rfl rfl)
theorem dX3_columnOf_16 : decode cX3_columnOf 16 = .ok (.irem, 1) := dk_112 (dk_at dksX3_columnOf_0 16 rfl rfl)
theorem dX3_columnOf_17 : decode cX3_columnOf 17 = .ok (.ireturn, 1) := dk_172 (dk_at dksX3_columnOf_0 17 rfl rfl)
abbrev cX3_multiplier : ByteArray := prog_9_method_6_code
def yX3_multiplier : MethodName := ⟨RX3, "multiplier", "(I)I"⟩
def dkwX3_multiplier_0 : List UInt8 := [26, 154, 0, 8, 16, 7, 167, 0, 15, 26, 4, 160, 0, 8, 16, 11, 167, 0, 5, 16, 23, 172]
abbrev dktX3_multiplier_0 : List UInt8 := dkwX3_multiplier_0 ++ []
theorem dksX3_multiplier_0 : cX3_multiplier.data.toList.drop 0 = dktX3_multiplier_0 := by decide +kernel
theorem dX3_multiplier_0 : decode cX3_multiplier 0 = .ok (.iload_n 0, 1) := dk_26 (dk_at dksX3_multiplier_0 0 rfl rfl)
theorem dX3_multiplier_1 : decode cX3_multiplier 1 = .ok (.ifCond .ne 8, 3) := dk_154 0 8 (dk_at dksX3_multiplier_0 1 rfl rfl)
theorem dX3_multiplier_4 : decode cX3_multiplier 4 = .ok (.bipush 7, 2) := dk_16 7 (dk_at dksX3_multiplier_0 4 rfl rfl)
theorem dX3_multiplier_6 : decode cX3_multiplier 6 = .ok (.goto 15, 3) := dk_167 0 15 (dk_at dksX3_multiplier_0 6 rfl rfl)
theorem dX3_multiplier_9 : decode cX3_multiplier 9 = .ok (.iload_n 0, 1) := dk_26 (dk_at dksX3_multiplier_0 9 rfl rfl)
theorem dX3_multiplier_10 : decode cX3_multiplier 10 = .ok (.iconst 1, 1) := dk_4 (dk_at dksX3_multiplier_0 10 rfl rfl)
theorem dX3_multiplier_11 : decode cX3_multiplier 11 = .ok (.if_icmp .ne 8, 3) := dk_160 0 8 (dk_at dksX3_multiplier_0 11 rfl rfl)
theorem dX3_multiplier_14 : decode cX3_multiplier 14 = .ok (.bipush 11, 2) := dk_16 11 (dk_at dksX3_multiplier_0 14 rfl rfl)
theorem dX3_multiplier_16 : decode cX3_multiplier 16 = .ok (.goto 5, 3) := dk_167 0 5 (dk_at dksX3_multiplier_0 16 rfl rfl)
theorem dX3_multiplier_19 : decode cX3_multiplier 19 = .ok (.bipush 23, 2) := dk_16 23 (dk_at dksX3_multiplier_0 19 rfl rfl)
theorem dX3_multiplier_21 : decode cX3_multiplier 21 = .ok (.ireturn, 1) := dk_172 (dk_at dksX3_multiplier_0 21 rfl rfl)
abbrev cX3_shift : ByteArray := prog_9_method_7_code
def yX3_shift : MethodName := ⟨RX3, "shift", "(I)I"⟩
def dkwX3_shift_0 : List UInt8 := [26, 154, 0, 7, 6, 167, 0, 14, 26, 4, 160, 0, 8, 16, 19, 167, 0, 4, 8, 172]
abbrev dktX3_shift_0 : List UInt8 := dkwX3_shift_0 ++ []
theorem dksX3_shift_0 : cX3_shift.data.toList.drop 0 = dktX3_shift_0 := by decide +kernel
theorem dX3_shift_0 : decode cX3_shift 0 = .ok (.iload_n 0, 1) := dk_26 (dk_at dksX3_shift_0 0 rfl rfl)
theorem dX3_shift_1 : decode cX3_shift 1 = .ok (.ifCond .ne 7, 3) := dk_154 0 7 (dk_at dksX3_shift_0 1 rfl rfl)
theorem dX3_shift_4 : decode cX3_shift 4 = .ok (.iconst 3, 1) := dk_6 (dk_at dksX3_shift_0 4 rfl rfl)
theorem dX3_shift_5 : decode cX3_shift 5 = .ok (.goto 14, 3) := dk_167 0 14 (dk_at dksX3_shift_0 5 rfl rfl)
theorem dX3_shift_8 : decode cX3_shift 8 = .ok (.iload_n 0, 1) := dk_26 (dk_at dksX3_shift_0 8 rfl rfl)
theorem dX3_shift_9 : decode cX3_shift 9 = .ok (.iconst 1, 1) := dk_4 (dk_at dksX3_shift_0 9 rfl rfl)
theorem dX3_shift_10 : decode cX3_shift 10 = .ok (.if_icmp .ne 8, 3) := dk_160 0 8 (dk_at dksX3_shift_0 10 rfl rfl)
theorem dX3_shift_13 : decode cX3_shift 13 = .ok (.bipush 19, 2) := dk_16 19 (dk_at dksX3_shift_0 13 rfl rfl)
theorem dX3_shift_15 : decode cX3_shift 15 = .ok (.goto 4, 3) := dk_167 0 4 (dk_at dksX3_shift_0 15 rfl rfl)
theorem dX3_shift_18 : decode cX3_shift 18 = .ok (.iconst 5, 1) := dk_8 (dk_at dksX3_shift_0 18 rfl rfl)
theorem dX3_shift_19 : decode cX3_shift 19 = .ok (.ireturn, 1) := dk_172 (dk_at dksX3_shift_0 19 rfl rfl)
abbrev cX3_placeOf : ByteArray := prog_9_method_11_code
def yX3_placeOf : MethodName := ⟨RX3, "placeOf", "(IIII)I"⟩
def dkwX3_placeOf_0 : List UInt8 := [16, 72, 26, 104, 16, 24, 27, 104, 96, 16, 8, 28, 104, 96, 29, 96, 172]
abbrev dktX3_placeOf_0 : List UInt8 := dkwX3_placeOf_0 ++ []
theorem dksX3_placeOf_0 : cX3_placeOf.data.toList.drop 0 = dktX3_placeOf_0 := by decide +kernel
theorem dX3_placeOf_0 : decode cX3_placeOf 0 = .ok (.bipush 72, 2) := dk_16 72 (dk_at dksX3_placeOf_0 0 rfl rfl)
theorem dX3_placeOf_2 : decode cX3_placeOf 2 = .ok (.iload_n 0, 1) := dk_26 (dk_at dksX3_placeOf_0 2 rfl rfl)
theorem dX3_placeOf_3 : decode cX3_placeOf 3 = .ok (.imul, 1) := dk_104 (dk_at dksX3_placeOf_0 3 rfl rfl)
theorem dX3_placeOf_4 : decode cX3_placeOf 4 = .ok (.bipush 24, 2) := dk_16 24 (dk_at dksX3_placeOf_0 4 rfl rfl)
theorem dX3_placeOf_6 : decode cX3_placeOf 6 = .ok (.iload_n 1, 1) := dk_27 (dk_at dksX3_placeOf_0 6 rfl rfl)
theorem dX3_placeOf_7 : decode cX3_placeOf 7 = .ok (.imul, 1) := dk_104 (dk_at dksX3_placeOf_0 7 rfl rfl)
theorem dX3_placeOf_8 : decode cX3_placeOf 8 = .ok (.iadd, 1) := dk_96 (dk_at dksX3_placeOf_0 8 rfl rfl)
theorem dX3_placeOf_9 : decode cX3_placeOf 9 = .ok (.bipush 8, 2) := dk_16 8 (dk_at dksX3_placeOf_0 9 rfl rfl)
theorem dX3_placeOf_11 : decode cX3_placeOf 11 = .ok (.iload_n 2, 1) := dk_28 (dk_at dksX3_placeOf_0 11 rfl rfl)
theorem dX3_placeOf_12 : decode cX3_placeOf 12 = .ok (.imul, 1) := dk_104 (dk_at dksX3_placeOf_0 12 rfl rfl)
theorem dX3_placeOf_13 : decode cX3_placeOf 13 = .ok (.iadd, 1) := dk_96 (dk_at dksX3_placeOf_0 13 rfl rfl)
theorem dX3_placeOf_14 : decode cX3_placeOf 14 = .ok (.iload_n 3, 1) := dk_29 (dk_at dksX3_placeOf_0 14 rfl rfl)
theorem dX3_placeOf_15 : decode cX3_placeOf 15 = .ok (.iadd, 1) := dk_96 (dk_at dksX3_placeOf_0 15 rfl rfl)
theorem dX3_placeOf_16 : decode cX3_placeOf 16 = .ok (.ireturn, 1) := dk_172 (dk_at dksX3_placeOf_0 16 rfl rfl)
abbrev cX3_addsToCounters : ByteArray := prog_9_method_18_code
def yX3_addsToCounters : MethodName := ⟨RX3, "addsToCounters", "(III)V"⟩
def dkwX3_addsToCounters_5 : List UInt8 := [158, 0, 11, 42, 27, 28, 21, 5, 182, 0, 72, 177]
abbrev dktX3_addsToCounters_5 : List UInt8 := dkwX3_addsToCounters_5 ++ []
def dkwX3_addsToCounters_4 : List UInt8 := [132, 7, 1, 167, 255, 211, 42, 27, 21, 6, 182, 0, 68, 21, 5, 21, 6, 100, 54, 5, 21, 5]
abbrev dktX3_addsToCounters_4 : List UInt8 := dkwX3_addsToCounters_4 ++ dktX3_addsToCounters_5
def dkwX3_addsToCounters_3 : List UInt8 := [162, 0, 18, 42, 180, 0, 25, 16, 8, 27, 104, 21, 7, 96, 46, 167, 0, 5, 21, 6, 54, 6]
abbrev dktX3_addsToCounters_3 : List UInt8 := dkwX3_addsToCounters_3 ++ dktX3_addsToCounters_4
def dkwX3_addsToCounters_2 : List UInt8 := [54, 7, 21, 7, 7, 162, 0, 45, 42, 180, 0, 25, 16, 8, 27, 104, 21, 7, 96, 46, 21, 6]
abbrev dktX3_addsToCounters_2 : List UInt8 := dkwX3_addsToCounters_2 ++ dktX3_addsToCounters_3
def dkwX3_addsToCounters_1 : List UInt8 := [96, 92, 46, 29, 96, 79, 177, 29, 54, 5, 42, 180, 0, 19, 27, 46, 7, 160, 0, 71, 29, 54, 6, 3]
abbrev dktX3_addsToCounters_1 : List UInt8 := dkwX3_addsToCounters_1 ++ dktX3_addsToCounters_2
def dkwX3_addsToCounters_0 : List UInt8 := [42, 27, 28, 182, 0, 65, 54, 4, 21, 4, 2, 159, 0, 20, 42, 180, 0, 25, 16, 8, 27, 104, 21, 4]
abbrev dktX3_addsToCounters_0 : List UInt8 := dkwX3_addsToCounters_0 ++ dktX3_addsToCounters_1
theorem dksX3_addsToCounters_0 : cX3_addsToCounters.data.toList.drop 0 = dktX3_addsToCounters_0 := by decide +kernel
theorem dksX3_addsToCounters_1 : cX3_addsToCounters.data.toList.drop 24 = dktX3_addsToCounters_1 := dk_seg dksX3_addsToCounters_0 24 rfl rfl
theorem dksX3_addsToCounters_2 : cX3_addsToCounters.data.toList.drop 48 = dktX3_addsToCounters_2 := dk_seg dksX3_addsToCounters_1 24 rfl rfl
theorem dksX3_addsToCounters_3 : cX3_addsToCounters.data.toList.drop 70 = dktX3_addsToCounters_3 := dk_seg dksX3_addsToCounters_2 22 rfl rfl
theorem dksX3_addsToCounters_4 : cX3_addsToCounters.data.toList.drop 92 = dktX3_addsToCounters_4 := dk_seg dksX3_addsToCounters_3 22 rfl rfl
theorem dksX3_addsToCounters_5 : cX3_addsToCounters.data.toList.drop 114 = dktX3_addsToCounters_5 := dk_seg dksX3_addsToCounters_4 22 rfl rfl
theorem dX3_addsToCounters_0 : decode cX3_addsToCounters 0 = .ok (.aload_n 0, 1) := dk_42 (dk_at dksX3_addsToCounters_0 0 rfl rfl)
theorem dX3_addsToCounters_1 : decode cX3_addsToCounters 1 = .ok (.iload_n 1, 1) := dk_27 (dk_at dksX3_addsToCounters_0 1 rfl rfl)
theorem dX3_addsToCounters_2 : decode cX3_addsToCounters 2 = .ok (.iload_n 2, 1) := dk_28 (dk_at dksX3_addsToCounters_0 2 rfl rfl)
theorem dX3_addsToCounters_3 : decode cX3_addsToCounters 3 = .ok (.invokevirtual 65, 3) := dk_182 0 65 (dk_at dksX3_addsToCounters_0 3 rfl rfl)
theorem dX3_addsToCounters_6 : decode cX3_addsToCounters 6 = .ok (.istore 4, 2) := dk_54 4 (dk_at dksX3_addsToCounters_0 6 rfl rfl)
theorem dX3_addsToCounters_8 : decode cX3_addsToCounters 8 = .ok (.iload 4, 2) := dk_21 4 (dk_at dksX3_addsToCounters_0 8 rfl rfl)
theorem dX3_addsToCounters_10 : decode cX3_addsToCounters 10 = .ok (.iconst (-1), 1) := dk_2 (dk_at dksX3_addsToCounters_0 10 rfl rfl)
theorem dX3_addsToCounters_11 : decode cX3_addsToCounters 11 = .ok (.if_icmp .eq 20, 3) := dk_159 0 20 (dk_at dksX3_addsToCounters_0 11 rfl rfl)
theorem dX3_addsToCounters_14 : decode cX3_addsToCounters 14 = .ok (.aload_n 0, 1) := dk_42 (dk_at dksX3_addsToCounters_0 14 rfl rfl)
theorem dX3_addsToCounters_15 : decode cX3_addsToCounters 15 = .ok (.getfield 25, 3) := dk_180 0 25 (dk_at dksX3_addsToCounters_0 15 rfl rfl)
theorem dX3_addsToCounters_18 : decode cX3_addsToCounters 18 = .ok (.bipush 8, 2) := dk_16 8 (dk_at dksX3_addsToCounters_0 18 rfl rfl)
theorem dX3_addsToCounters_20 : decode cX3_addsToCounters 20 = .ok (.iload_n 1, 1) := dk_27 (dk_at dksX3_addsToCounters_0 20 rfl rfl)
theorem dX3_addsToCounters_21 : decode cX3_addsToCounters 21 = .ok (.imul, 1) := dk_104 (dk_at dksX3_addsToCounters_0 21 rfl rfl)
theorem dX3_addsToCounters_22 : decode cX3_addsToCounters 22 = .ok (.iload 4, 2) := dk_21 4 (dk_at dksX3_addsToCounters_0 22 rfl rfl)
theorem dX3_addsToCounters_24 : decode cX3_addsToCounters 24 = .ok (.iadd, 1) := dk_96 (dk_at dksX3_addsToCounters_1 0 rfl rfl)
theorem dX3_addsToCounters_25 : decode cX3_addsToCounters 25 = .ok (.dup2, 1) := dk_92 (dk_at dksX3_addsToCounters_1 1 rfl rfl)
theorem dX3_addsToCounters_26 : decode cX3_addsToCounters 26 = .ok (.iaload, 1) := dk_46 (dk_at dksX3_addsToCounters_1 2 rfl rfl)
theorem dX3_addsToCounters_27 : decode cX3_addsToCounters 27 = .ok (.iload_n 3, 1) := dk_29 (dk_at dksX3_addsToCounters_1 3 rfl rfl)
theorem dX3_addsToCounters_28 : decode cX3_addsToCounters 28 = .ok (.iadd, 1) := dk_96 (dk_at dksX3_addsToCounters_1 4 rfl rfl)
theorem dX3_addsToCounters_29 : decode cX3_addsToCounters 29 = .ok (.iastore, 1) := dk_79 (dk_at dksX3_addsToCounters_1 5 rfl rfl)
theorem dX3_addsToCounters_30 : decode cX3_addsToCounters 30 = .ok (.return_, 1) := dk_177 (dk_at dksX3_addsToCounters_1 6 rfl rfl)
theorem dX3_addsToCounters_31 : decode cX3_addsToCounters 31 = .ok (.iload_n 3, 1) := dk_29 (dk_at dksX3_addsToCounters_1 7 rfl rfl)
theorem dX3_addsToCounters_32 : decode cX3_addsToCounters 32 = .ok (.istore 5, 2) := dk_54 5 (dk_at dksX3_addsToCounters_1 8 rfl rfl)
theorem dX3_addsToCounters_34 : decode cX3_addsToCounters 34 = .ok (.aload_n 0, 1) := dk_42 (dk_at dksX3_addsToCounters_1 10 rfl rfl)
theorem dX3_addsToCounters_35 : decode cX3_addsToCounters 35 = .ok (.getfield 19, 3) := dk_180 0 19 (dk_at dksX3_addsToCounters_1 11 rfl rfl)
theorem dX3_addsToCounters_38 : decode cX3_addsToCounters 38 = .ok (.iload_n 1, 1) := dk_27 (dk_at dksX3_addsToCounters_1 14 rfl rfl)
theorem dX3_addsToCounters_39 : decode cX3_addsToCounters 39 = .ok (.iaload, 1) := dk_46 (dk_at dksX3_addsToCounters_1 15 rfl rfl)
theorem dX3_addsToCounters_40 : decode cX3_addsToCounters 40 = .ok (.iconst 4, 1) := dk_7 (dk_at dksX3_addsToCounters_1 16 rfl rfl)
theorem dX3_addsToCounters_41 : decode cX3_addsToCounters 41 = .ok (.if_icmp .ne 71, 3) := dk_160 0 71 (dk_at dksX3_addsToCounters_1 17 rfl rfl)
theorem dX3_addsToCounters_44 : decode cX3_addsToCounters 44 = .ok (.iload_n 3, 1) := dk_29 (dk_at dksX3_addsToCounters_1 20 rfl rfl)
theorem dX3_addsToCounters_45 : decode cX3_addsToCounters 45 = .ok (.istore 6, 2) := dk_54 6 (dk_at dksX3_addsToCounters_1 21 rfl rfl)
theorem dX3_addsToCounters_47 : decode cX3_addsToCounters 47 = .ok (.iconst 0, 1) := dk_3 (dk_at dksX3_addsToCounters_1 23 rfl rfl)
theorem dX3_addsToCounters_48 : decode cX3_addsToCounters 48 = .ok (.istore 7, 2) := dk_54 7 (dk_at dksX3_addsToCounters_2 0 rfl rfl)
theorem dX3_addsToCounters_50 : decode cX3_addsToCounters 50 = .ok (.iload 7, 2) := dk_21 7 (dk_at dksX3_addsToCounters_2 2 rfl rfl)
theorem dX3_addsToCounters_52 : decode cX3_addsToCounters 52 = .ok (.iconst 4, 1) := dk_7 (dk_at dksX3_addsToCounters_2 4 rfl rfl)
theorem dX3_addsToCounters_53 : decode cX3_addsToCounters 53 = .ok (.if_icmp .ge 45, 3) := dk_162 0 45 (dk_at dksX3_addsToCounters_2 5 rfl rfl)
theorem dX3_addsToCounters_56 : decode cX3_addsToCounters 56 = .ok (.aload_n 0, 1) := dk_42 (dk_at dksX3_addsToCounters_2 8 rfl rfl)
theorem dX3_addsToCounters_57 : decode cX3_addsToCounters 57 = .ok (.getfield 25, 3) := dk_180 0 25 (dk_at dksX3_addsToCounters_2 9 rfl rfl)
theorem dX3_addsToCounters_60 : decode cX3_addsToCounters 60 = .ok (.bipush 8, 2) := dk_16 8 (dk_at dksX3_addsToCounters_2 12 rfl rfl)
theorem dX3_addsToCounters_62 : decode cX3_addsToCounters 62 = .ok (.iload_n 1, 1) := dk_27 (dk_at dksX3_addsToCounters_2 14 rfl rfl)
theorem dX3_addsToCounters_63 : decode cX3_addsToCounters 63 = .ok (.imul, 1) := dk_104 (dk_at dksX3_addsToCounters_2 15 rfl rfl)
theorem dX3_addsToCounters_64 : decode cX3_addsToCounters 64 = .ok (.iload 7, 2) := dk_21 7 (dk_at dksX3_addsToCounters_2 16 rfl rfl)
theorem dX3_addsToCounters_66 : decode cX3_addsToCounters 66 = .ok (.iadd, 1) := dk_96 (dk_at dksX3_addsToCounters_2 18 rfl rfl)
theorem dX3_addsToCounters_67 : decode cX3_addsToCounters 67 = .ok (.iaload, 1) := dk_46 (dk_at dksX3_addsToCounters_2 19 rfl rfl)
theorem dX3_addsToCounters_68 : decode cX3_addsToCounters 68 = .ok (.iload 6, 2) := dk_21 6 (dk_at dksX3_addsToCounters_2 20 rfl rfl)
theorem dX3_addsToCounters_70 : decode cX3_addsToCounters 70 = .ok (.if_icmp .ge 18, 3) := dk_162 0 18 (dk_at dksX3_addsToCounters_3 0 rfl rfl)
theorem dX3_addsToCounters_73 : decode cX3_addsToCounters 73 = .ok (.aload_n 0, 1) := dk_42 (dk_at dksX3_addsToCounters_3 3 rfl rfl)
theorem dX3_addsToCounters_74 : decode cX3_addsToCounters 74 = .ok (.getfield 25, 3) := dk_180 0 25 (dk_at dksX3_addsToCounters_3 4 rfl rfl)
theorem dX3_addsToCounters_77 : decode cX3_addsToCounters 77 = .ok (.bipush 8, 2) := dk_16 8 (dk_at dksX3_addsToCounters_3 7 rfl rfl)
theorem dX3_addsToCounters_79 : decode cX3_addsToCounters 79 = .ok (.iload_n 1, 1) := dk_27 (dk_at dksX3_addsToCounters_3 9 rfl rfl)
theorem dX3_addsToCounters_80 : decode cX3_addsToCounters 80 = .ok (.imul, 1) := dk_104 (dk_at dksX3_addsToCounters_3 10 rfl rfl)
theorem dX3_addsToCounters_81 : decode cX3_addsToCounters 81 = .ok (.iload 7, 2) := dk_21 7 (dk_at dksX3_addsToCounters_3 11 rfl rfl)
theorem dX3_addsToCounters_83 : decode cX3_addsToCounters 83 = .ok (.iadd, 1) := dk_96 (dk_at dksX3_addsToCounters_3 13 rfl rfl)
theorem dX3_addsToCounters_84 : decode cX3_addsToCounters 84 = .ok (.iaload, 1) := dk_46 (dk_at dksX3_addsToCounters_3 14 rfl rfl)
theorem dX3_addsToCounters_85 : decode cX3_addsToCounters 85 = .ok (.goto 5, 3) := dk_167 0 5 (dk_at dksX3_addsToCounters_3 15 rfl rfl)
theorem dX3_addsToCounters_88 : decode cX3_addsToCounters 88 = .ok (.iload 6, 2) := dk_21 6 (dk_at dksX3_addsToCounters_3 18 rfl rfl)
theorem dX3_addsToCounters_90 : decode cX3_addsToCounters 90 = .ok (.istore 6, 2) := dk_54 6 (dk_at dksX3_addsToCounters_3 20 rfl rfl)
theorem dX3_addsToCounters_92 : decode cX3_addsToCounters 92 = .ok (.iinc 7 1, 3) := dk_132 7 1 (dk_at dksX3_addsToCounters_4 0 rfl rfl)
theorem dX3_addsToCounters_95 : decode cX3_addsToCounters 95 = .ok (.goto (-45), 3) := dk_167 255 211 (dk_at dksX3_addsToCounters_4 3 rfl rfl)
theorem dX3_addsToCounters_98 : decode cX3_addsToCounters 98 = .ok (.aload_n 0, 1) := dk_42 (dk_at dksX3_addsToCounters_4 6 rfl rfl)
theorem dX3_addsToCounters_99 : decode cX3_addsToCounters 99 = .ok (.iload_n 1, 1) := dk_27 (dk_at dksX3_addsToCounters_4 7 rfl rfl)
theorem dX3_addsToCounters_100 : decode cX3_addsToCounters 100 = .ok (.iload 6, 2) := dk_21 6 (dk_at dksX3_addsToCounters_4 8 rfl rfl)
theorem dX3_addsToCounters_102 : decode cX3_addsToCounters 102 = .ok (.invokevirtual 68, 3) := dk_182 0 68 (dk_at dksX3_addsToCounters_4 10 rfl rfl)
theorem dX3_addsToCounters_105 : decode cX3_addsToCounters 105 = .ok (.iload 5, 2) := dk_21 5 (dk_at dksX3_addsToCounters_4 13 rfl rfl)
theorem dX3_addsToCounters_107 : decode cX3_addsToCounters 107 = .ok (.iload 6, 2) := dk_21 6 (dk_at dksX3_addsToCounters_4 15 rfl rfl)
theorem dX3_addsToCounters_109 : decode cX3_addsToCounters 109 = .ok (.isub, 1) := dk_100 (dk_at dksX3_addsToCounters_4 17 rfl rfl)
theorem dX3_addsToCounters_110 : decode cX3_addsToCounters 110 = .ok (.istore 5, 2) := dk_54 5 (dk_at dksX3_addsToCounters_4 18 rfl rfl)
theorem dX3_addsToCounters_112 : decode cX3_addsToCounters 112 = .ok (.iload 5, 2) := dk_21 5 (dk_at dksX3_addsToCounters_4 20 rfl rfl)
theorem dX3_addsToCounters_114 : decode cX3_addsToCounters 114 = .ok (.ifCond .le 11, 3) := dk_158 0 11 (dk_at dksX3_addsToCounters_5 0 rfl rfl)
theorem dX3_addsToCounters_117 : decode cX3_addsToCounters 117 = .ok (.aload_n 0, 1) := dk_42 (dk_at dksX3_addsToCounters_5 3 rfl rfl)
theorem dX3_addsToCounters_118 : decode cX3_addsToCounters 118 = .ok (.iload_n 1, 1) := dk_27 (dk_at dksX3_addsToCounters_5 4 rfl rfl)
theorem dX3_addsToCounters_119 : decode cX3_addsToCounters 119 = .ok (.iload_n 2, 1) := dk_28 (dk_at dksX3_addsToCounters_5 5 rfl rfl)
theorem dX3_addsToCounters_120 : decode cX3_addsToCounters 120 = .ok (.iload 5, 2) := dk_21 5 (dk_at dksX3_addsToCounters_5 6 rfl rfl)
theorem dX3_addsToCounters_122 : decode cX3_addsToCounters 122 = .ok (.invokevirtual 72, 3) := dk_182 0 72 (dk_at dksX3_addsToCounters_5 8 rfl rfl)
theorem dX3_addsToCounters_125 : decode cX3_addsToCounters 125 = .ok (.return_, 1) := dk_177 (dk_at dksX3_addsToCounters_5 11 rfl rfl)
abbrev cX3_placeOfCounter : ByteArray := prog_9_method_15_code
def yX3_placeOfCounter : MethodName := ⟨RX3, "placeOfCounter", "(II)I"⟩
def dkwX3_placeOfCounter_1 : List UInt8 := [21, 4, 96, 46, 28, 160, 0, 8, 21, 4, 167, 0, 4, 29, 62, 132, 4, 1, 167, 255, 219, 29, 172]
abbrev dktX3_placeOfCounter_1 : List UInt8 := dkwX3_placeOfCounter_1 ++ []
def dkwX3_placeOfCounter_0 : List UInt8 := [2, 62, 3, 54, 4, 21, 4, 42, 180, 0, 19, 27, 46, 162, 0, 32, 42, 180, 0, 22, 16, 8, 27, 104]
abbrev dktX3_placeOfCounter_0 : List UInt8 := dkwX3_placeOfCounter_0 ++ dktX3_placeOfCounter_1
theorem dksX3_placeOfCounter_0 : cX3_placeOfCounter.data.toList.drop 0 = dktX3_placeOfCounter_0 := by decide +kernel
theorem dksX3_placeOfCounter_1 : cX3_placeOfCounter.data.toList.drop 24 = dktX3_placeOfCounter_1 := dk_seg dksX3_placeOfCounter_0 24 rfl rfl
theorem dX3_placeOfCounter_0 : decode cX3_placeOfCounter 0 = .ok (.iconst (-1), 1) := dk_2 (dk_at dksX3_placeOfCounter_0 0 rfl rfl)
theorem dX3_placeOfCounter_1 : decode cX3_placeOfCounter 1 = .ok (.istore_n 3, 1) := dk_62 (dk_at dksX3_placeOfCounter_0 1 rfl rfl)
theorem dX3_placeOfCounter_2 : decode cX3_placeOfCounter 2 = .ok (.iconst 0, 1) := dk_3 (dk_at dksX3_placeOfCounter_0 2 rfl rfl)
theorem dX3_placeOfCounter_3 : decode cX3_placeOfCounter 3 = .ok (.istore 4, 2) := dk_54 4 (dk_at dksX3_placeOfCounter_0 3 rfl rfl)
theorem dX3_placeOfCounter_5 : decode cX3_placeOfCounter 5 = .ok (.iload 4, 2) := dk_21 4 (dk_at dksX3_placeOfCounter_0 5 rfl rfl)
theorem dX3_placeOfCounter_7 : decode cX3_placeOfCounter 7 = .ok (.aload_n 0, 1) := dk_42 (dk_at dksX3_placeOfCounter_0 7 rfl rfl)
theorem dX3_placeOfCounter_8 : decode cX3_placeOfCounter 8 = .ok (.getfield 19, 3) := dk_180 0 19 (dk_at dksX3_placeOfCounter_0 8 rfl rfl)
theorem dX3_placeOfCounter_11 : decode cX3_placeOfCounter 11 = .ok (.iload_n 1, 1) := dk_27 (dk_at dksX3_placeOfCounter_0 11 rfl rfl)
theorem dX3_placeOfCounter_12 : decode cX3_placeOfCounter 12 = .ok (.iaload, 1) := dk_46 (dk_at dksX3_placeOfCounter_0 12 rfl rfl)
theorem dX3_placeOfCounter_13 : decode cX3_placeOfCounter 13 = .ok (.if_icmp .ge 32, 3) := dk_162 0 32 (dk_at dksX3_placeOfCounter_0 13 rfl rfl)
theorem dX3_placeOfCounter_16 : decode cX3_placeOfCounter 16 = .ok (.aload_n 0, 1) := dk_42 (dk_at dksX3_placeOfCounter_0 16 rfl rfl)
theorem dX3_placeOfCounter_17 : decode cX3_placeOfCounter 17 = .ok (.getfield 22, 3) := dk_180 0 22 (dk_at dksX3_placeOfCounter_0 17 rfl rfl)
theorem dX3_placeOfCounter_20 : decode cX3_placeOfCounter 20 = .ok (.bipush 8, 2) := dk_16 8 (dk_at dksX3_placeOfCounter_0 20 rfl rfl)
theorem dX3_placeOfCounter_22 : decode cX3_placeOfCounter 22 = .ok (.iload_n 1, 1) := dk_27 (dk_at dksX3_placeOfCounter_0 22 rfl rfl)
theorem dX3_placeOfCounter_23 : decode cX3_placeOfCounter 23 = .ok (.imul, 1) := dk_104 (dk_at dksX3_placeOfCounter_0 23 rfl rfl)
theorem dX3_placeOfCounter_24 : decode cX3_placeOfCounter 24 = .ok (.iload 4, 2) := dk_21 4 (dk_at dksX3_placeOfCounter_1 0 rfl rfl)
theorem dX3_placeOfCounter_26 : decode cX3_placeOfCounter 26 = .ok (.iadd, 1) := dk_96 (dk_at dksX3_placeOfCounter_1 2 rfl rfl)
theorem dX3_placeOfCounter_27 : decode cX3_placeOfCounter 27 = .ok (.iaload, 1) := dk_46 (dk_at dksX3_placeOfCounter_1 3 rfl rfl)
theorem dX3_placeOfCounter_28 : decode cX3_placeOfCounter 28 = .ok (.iload_n 2, 1) := dk_28 (dk_at dksX3_placeOfCounter_1 4 rfl rfl)
theorem dX3_placeOfCounter_29 : decode cX3_placeOfCounter 29 = .ok (.if_icmp .ne 8, 3) := dk_160 0 8 (dk_at dksX3_placeOfCounter_1 5 rfl rfl)
theorem dX3_placeOfCounter_32 : decode cX3_placeOfCounter 32 = .ok (.iload 4, 2) := dk_21 4 (dk_at dksX3_placeOfCounter_1 8 rfl rfl)
theorem dX3_placeOfCounter_34 : decode cX3_placeOfCounter 34 = .ok (.goto 4, 3) := dk_167 0 4 (dk_at dksX3_placeOfCounter_1 10 rfl rfl)
theorem dX3_placeOfCounter_37 : decode cX3_placeOfCounter 37 = .ok (.iload_n 3, 1) := dk_29 (dk_at dksX3_placeOfCounter_1 13 rfl rfl)
theorem dX3_placeOfCounter_38 : decode cX3_placeOfCounter 38 = .ok (.istore_n 3, 1) := dk_62 (dk_at dksX3_placeOfCounter_1 14 rfl rfl)
theorem dX3_placeOfCounter_39 : decode cX3_placeOfCounter 39 = .ok (.iinc 4 1, 3) := dk_132 4 1 (dk_at dksX3_placeOfCounter_1 15 rfl rfl)
theorem dX3_placeOfCounter_42 : decode cX3_placeOfCounter 42 = .ok (.goto (-37), 3) := dk_167 255 219 (dk_at dksX3_placeOfCounter_1 18 rfl rfl)
theorem dX3_placeOfCounter_45 : decode cX3_placeOfCounter 45 = .ok (.iload_n 3, 1) := dk_29 (dk_at dksX3_placeOfCounter_1 21 rfl rfl)
theorem dX3_placeOfCounter_46 : decode cX3_placeOfCounter 46 = .ok (.ireturn, 1) := dk_172 (dk_at dksX3_placeOfCounter_1 22 rfl rfl)
abbrev cX3_takes : ByteArray := prog_9_method_16_code
def yX3_takes : MethodName := ⟨RX3, "takes", "(II)V"⟩
def dkwX3_takes_4 : List UInt8 := [180, 0, 28, 27, 92, 46, 28, 96, 79, 177]
abbrev dktX3_takes_4 : List UInt8 := dkwX3_takes_4 ++ []
def dkwX3_takes_3 : List UInt8 := [158, 0, 7, 4, 167, 0, 4, 3, 96, 62, 132, 4, 1, 167, 255, 177, 42, 180, 0, 19, 27, 29, 79, 42]
abbrev dktX3_takes_3 : List UInt8 := dkwX3_takes_3 ++ dktX3_takes_4
def dkwX3_takes_2 : List UInt8 := [27, 104, 21, 4, 96, 46, 79, 42, 180, 0, 25, 16, 8, 27, 104, 29, 96, 21, 5, 79, 29, 21, 5]
abbrev dktX3_takes_2 : List UInt8 := dkwX3_takes_2 ++ dktX3_takes_3
def dkwX3_takes_1 : List UInt8 := [21, 4, 96, 46, 28, 100, 54, 5, 42, 180, 0, 22, 16, 8, 27, 104, 29, 96, 42, 180, 0, 22, 16, 8]
abbrev dktX3_takes_1 : List UInt8 := dkwX3_takes_1 ++ dktX3_takes_2
def dkwX3_takes_0 : List UInt8 := [3, 62, 3, 54, 4, 21, 4, 42, 180, 0, 19, 27, 46, 162, 0, 74, 42, 180, 0, 25, 16, 8, 27, 104]
abbrev dktX3_takes_0 : List UInt8 := dkwX3_takes_0 ++ dktX3_takes_1
theorem dksX3_takes_0 : cX3_takes.data.toList.drop 0 = dktX3_takes_0 := by decide +kernel
theorem dksX3_takes_1 : cX3_takes.data.toList.drop 24 = dktX3_takes_1 := dk_seg dksX3_takes_0 24 rfl rfl
theorem dksX3_takes_2 : cX3_takes.data.toList.drop 48 = dktX3_takes_2 := dk_seg dksX3_takes_1 24 rfl rfl
theorem dksX3_takes_3 : cX3_takes.data.toList.drop 71 = dktX3_takes_3 := dk_seg dksX3_takes_2 23 rfl rfl
theorem dksX3_takes_4 : cX3_takes.data.toList.drop 95 = dktX3_takes_4 := dk_seg dksX3_takes_3 24 rfl rfl
theorem dX3_takes_0 : decode cX3_takes 0 = .ok (.iconst 0, 1) := dk_3 (dk_at dksX3_takes_0 0 rfl rfl)
theorem dX3_takes_1 : decode cX3_takes 1 = .ok (.istore_n 3, 1) := dk_62 (dk_at dksX3_takes_0 1 rfl rfl)
theorem dX3_takes_2 : decode cX3_takes 2 = .ok (.iconst 0, 1) := dk_3 (dk_at dksX3_takes_0 2 rfl rfl)
theorem dX3_takes_3 : decode cX3_takes 3 = .ok (.istore 4, 2) := dk_54 4 (dk_at dksX3_takes_0 3 rfl rfl)
theorem dX3_takes_5 : decode cX3_takes 5 = .ok (.iload 4, 2) := dk_21 4 (dk_at dksX3_takes_0 5 rfl rfl)
theorem dX3_takes_7 : decode cX3_takes 7 = .ok (.aload_n 0, 1) := dk_42 (dk_at dksX3_takes_0 7 rfl rfl)
theorem dX3_takes_8 : decode cX3_takes 8 = .ok (.getfield 19, 3) := dk_180 0 19 (dk_at dksX3_takes_0 8 rfl rfl)
theorem dX3_takes_11 : decode cX3_takes 11 = .ok (.iload_n 1, 1) := dk_27 (dk_at dksX3_takes_0 11 rfl rfl)
theorem dX3_takes_12 : decode cX3_takes 12 = .ok (.iaload, 1) := dk_46 (dk_at dksX3_takes_0 12 rfl rfl)
theorem dX3_takes_13 : decode cX3_takes 13 = .ok (.if_icmp .ge 74, 3) := dk_162 0 74 (dk_at dksX3_takes_0 13 rfl rfl)
theorem dX3_takes_16 : decode cX3_takes 16 = .ok (.aload_n 0, 1) := dk_42 (dk_at dksX3_takes_0 16 rfl rfl)
theorem dX3_takes_17 : decode cX3_takes 17 = .ok (.getfield 25, 3) := dk_180 0 25 (dk_at dksX3_takes_0 17 rfl rfl)
theorem dX3_takes_20 : decode cX3_takes 20 = .ok (.bipush 8, 2) := dk_16 8 (dk_at dksX3_takes_0 20 rfl rfl)
theorem dX3_takes_22 : decode cX3_takes 22 = .ok (.iload_n 1, 1) := dk_27 (dk_at dksX3_takes_0 22 rfl rfl)
theorem dX3_takes_23 : decode cX3_takes 23 = .ok (.imul, 1) := dk_104 (dk_at dksX3_takes_0 23 rfl rfl)
theorem dX3_takes_24 : decode cX3_takes 24 = .ok (.iload 4, 2) := dk_21 4 (dk_at dksX3_takes_1 0 rfl rfl)
theorem dX3_takes_26 : decode cX3_takes 26 = .ok (.iadd, 1) := dk_96 (dk_at dksX3_takes_1 2 rfl rfl)
theorem dX3_takes_27 : decode cX3_takes 27 = .ok (.iaload, 1) := dk_46 (dk_at dksX3_takes_1 3 rfl rfl)
theorem dX3_takes_28 : decode cX3_takes 28 = .ok (.iload_n 2, 1) := dk_28 (dk_at dksX3_takes_1 4 rfl rfl)
theorem dX3_takes_29 : decode cX3_takes 29 = .ok (.isub, 1) := dk_100 (dk_at dksX3_takes_1 5 rfl rfl)
theorem dX3_takes_30 : decode cX3_takes 30 = .ok (.istore 5, 2) := dk_54 5 (dk_at dksX3_takes_1 6 rfl rfl)
theorem dX3_takes_32 : decode cX3_takes 32 = .ok (.aload_n 0, 1) := dk_42 (dk_at dksX3_takes_1 8 rfl rfl)
theorem dX3_takes_33 : decode cX3_takes 33 = .ok (.getfield 22, 3) := dk_180 0 22 (dk_at dksX3_takes_1 9 rfl rfl)
theorem dX3_takes_36 : decode cX3_takes 36 = .ok (.bipush 8, 2) := dk_16 8 (dk_at dksX3_takes_1 12 rfl rfl)
theorem dX3_takes_38 : decode cX3_takes 38 = .ok (.iload_n 1, 1) := dk_27 (dk_at dksX3_takes_1 14 rfl rfl)
theorem dX3_takes_39 : decode cX3_takes 39 = .ok (.imul, 1) := dk_104 (dk_at dksX3_takes_1 15 rfl rfl)
theorem dX3_takes_40 : decode cX3_takes 40 = .ok (.iload_n 3, 1) := dk_29 (dk_at dksX3_takes_1 16 rfl rfl)
theorem dX3_takes_41 : decode cX3_takes 41 = .ok (.iadd, 1) := dk_96 (dk_at dksX3_takes_1 17 rfl rfl)
theorem dX3_takes_42 : decode cX3_takes 42 = .ok (.aload_n 0, 1) := dk_42 (dk_at dksX3_takes_1 18 rfl rfl)
theorem dX3_takes_43 : decode cX3_takes 43 = .ok (.getfield 22, 3) := dk_180 0 22 (dk_at dksX3_takes_1 19 rfl rfl)
theorem dX3_takes_46 : decode cX3_takes 46 = .ok (.bipush 8, 2) := dk_16 8 (dk_at dksX3_takes_1 22 rfl rfl)
theorem dX3_takes_48 : decode cX3_takes 48 = .ok (.iload_n 1, 1) := dk_27 (dk_at dksX3_takes_2 0 rfl rfl)
theorem dX3_takes_49 : decode cX3_takes 49 = .ok (.imul, 1) := dk_104 (dk_at dksX3_takes_2 1 rfl rfl)
theorem dX3_takes_50 : decode cX3_takes 50 = .ok (.iload 4, 2) := dk_21 4 (dk_at dksX3_takes_2 2 rfl rfl)
theorem dX3_takes_52 : decode cX3_takes 52 = .ok (.iadd, 1) := dk_96 (dk_at dksX3_takes_2 4 rfl rfl)
theorem dX3_takes_53 : decode cX3_takes 53 = .ok (.iaload, 1) := dk_46 (dk_at dksX3_takes_2 5 rfl rfl)
theorem dX3_takes_54 : decode cX3_takes 54 = .ok (.iastore, 1) := dk_79 (dk_at dksX3_takes_2 6 rfl rfl)
theorem dX3_takes_55 : decode cX3_takes 55 = .ok (.aload_n 0, 1) := dk_42 (dk_at dksX3_takes_2 7 rfl rfl)
theorem dX3_takes_56 : decode cX3_takes 56 = .ok (.getfield 25, 3) := dk_180 0 25 (dk_at dksX3_takes_2 8 rfl rfl)
theorem dX3_takes_59 : decode cX3_takes 59 = .ok (.bipush 8, 2) := dk_16 8 (dk_at dksX3_takes_2 11 rfl rfl)
theorem dX3_takes_61 : decode cX3_takes 61 = .ok (.iload_n 1, 1) := dk_27 (dk_at dksX3_takes_2 13 rfl rfl)
theorem dX3_takes_62 : decode cX3_takes 62 = .ok (.imul, 1) := dk_104 (dk_at dksX3_takes_2 14 rfl rfl)
theorem dX3_takes_63 : decode cX3_takes 63 = .ok (.iload_n 3, 1) := dk_29 (dk_at dksX3_takes_2 15 rfl rfl)
theorem dX3_takes_64 : decode cX3_takes 64 = .ok (.iadd, 1) := dk_96 (dk_at dksX3_takes_2 16 rfl rfl)
theorem dX3_takes_65 : decode cX3_takes 65 = .ok (.iload 5, 2) := dk_21 5 (dk_at dksX3_takes_2 17 rfl rfl)
theorem dX3_takes_67 : decode cX3_takes 67 = .ok (.iastore, 1) := dk_79 (dk_at dksX3_takes_2 19 rfl rfl)
theorem dX3_takes_68 : decode cX3_takes 68 = .ok (.iload_n 3, 1) := dk_29 (dk_at dksX3_takes_2 20 rfl rfl)
theorem dX3_takes_69 : decode cX3_takes 69 = .ok (.iload 5, 2) := dk_21 5 (dk_at dksX3_takes_2 21 rfl rfl)
theorem dX3_takes_71 : decode cX3_takes 71 = .ok (.ifCond .le 7, 3) := dk_158 0 7 (dk_at dksX3_takes_3 0 rfl rfl)
theorem dX3_takes_74 : decode cX3_takes 74 = .ok (.iconst 1, 1) := dk_4 (dk_at dksX3_takes_3 3 rfl rfl)
theorem dX3_takes_75 : decode cX3_takes 75 = .ok (.goto 4, 3) := dk_167 0 4 (dk_at dksX3_takes_3 4 rfl rfl)
theorem dX3_takes_78 : decode cX3_takes 78 = .ok (.iconst 0, 1) := dk_3 (dk_at dksX3_takes_3 7 rfl rfl)
theorem dX3_takes_79 : decode cX3_takes 79 = .ok (.iadd, 1) := dk_96 (dk_at dksX3_takes_3 8 rfl rfl)
theorem dX3_takes_80 : decode cX3_takes 80 = .ok (.istore_n 3, 1) := dk_62 (dk_at dksX3_takes_3 9 rfl rfl)
theorem dX3_takes_81 : decode cX3_takes 81 = .ok (.iinc 4 1, 3) := dk_132 4 1 (dk_at dksX3_takes_3 10 rfl rfl)
theorem dX3_takes_84 : decode cX3_takes 84 = .ok (.goto (-79), 3) := dk_167 255 177 (dk_at dksX3_takes_3 13 rfl rfl)
theorem dX3_takes_87 : decode cX3_takes 87 = .ok (.aload_n 0, 1) := dk_42 (dk_at dksX3_takes_3 16 rfl rfl)
theorem dX3_takes_88 : decode cX3_takes 88 = .ok (.getfield 19, 3) := dk_180 0 19 (dk_at dksX3_takes_3 17 rfl rfl)
theorem dX3_takes_91 : decode cX3_takes 91 = .ok (.iload_n 1, 1) := dk_27 (dk_at dksX3_takes_3 20 rfl rfl)
theorem dX3_takes_92 : decode cX3_takes 92 = .ok (.iload_n 3, 1) := dk_29 (dk_at dksX3_takes_3 21 rfl rfl)
theorem dX3_takes_93 : decode cX3_takes 93 = .ok (.iastore, 1) := dk_79 (dk_at dksX3_takes_3 22 rfl rfl)
theorem dX3_takes_94 : decode cX3_takes 94 = .ok (.aload_n 0, 1) := dk_42 (dk_at dksX3_takes_3 23 rfl rfl)
theorem dX3_takes_95 : decode cX3_takes 95 = .ok (.getfield 28, 3) := dk_180 0 28 (dk_at dksX3_takes_4 0 rfl rfl)
theorem dX3_takes_98 : decode cX3_takes 98 = .ok (.iload_n 1, 1) := dk_27 (dk_at dksX3_takes_4 3 rfl rfl)
theorem dX3_takes_99 : decode cX3_takes 99 = .ok (.dup2, 1) := dk_92 (dk_at dksX3_takes_4 4 rfl rfl)
theorem dX3_takes_100 : decode cX3_takes 100 = .ok (.iaload, 1) := dk_46 (dk_at dksX3_takes_4 5 rfl rfl)
theorem dX3_takes_101 : decode cX3_takes 101 = .ok (.iload_n 2, 1) := dk_28 (dk_at dksX3_takes_4 6 rfl rfl)
theorem dX3_takes_102 : decode cX3_takes 102 = .ok (.iadd, 1) := dk_96 (dk_at dksX3_takes_4 7 rfl rfl)
theorem dX3_takes_103 : decode cX3_takes 103 = .ok (.iastore, 1) := dk_79 (dk_at dksX3_takes_4 8 rfl rfl)
theorem dX3_takes_104 : decode cX3_takes 104 = .ok (.return_, 1) := dk_177 (dk_at dksX3_takes_4 9 rfl rfl)
abbrev cX3_opens : ByteArray := prog_9_method_17_code
def yX3_opens : MethodName := ⟨RX3, "opens", "(III)V"⟩
def dkwX3_opens_1 : List UInt8 := [104, 42, 180, 0, 19, 27, 46, 96, 29, 79, 42, 180, 0, 19, 27, 92, 46, 4, 96, 79, 177]
abbrev dktX3_opens_1 : List UInt8 := dkwX3_opens_1 ++ []
def dkwX3_opens_0 : List UInt8 := [42, 180, 0, 22, 16, 8, 27, 104, 42, 180, 0, 19, 27, 46, 96, 28, 79, 42, 180, 0, 25, 16, 8, 27]
abbrev dktX3_opens_0 : List UInt8 := dkwX3_opens_0 ++ dktX3_opens_1
theorem dksX3_opens_0 : cX3_opens.data.toList.drop 0 = dktX3_opens_0 := by decide +kernel
theorem dksX3_opens_1 : cX3_opens.data.toList.drop 24 = dktX3_opens_1 := dk_seg dksX3_opens_0 24 rfl rfl
theorem dX3_opens_0 : decode cX3_opens 0 = .ok (.aload_n 0, 1) := dk_42 (dk_at dksX3_opens_0 0 rfl rfl)
theorem dX3_opens_1 : decode cX3_opens 1 = .ok (.getfield 22, 3) := dk_180 0 22 (dk_at dksX3_opens_0 1 rfl rfl)
theorem dX3_opens_4 : decode cX3_opens 4 = .ok (.bipush 8, 2) := dk_16 8 (dk_at dksX3_opens_0 4 rfl rfl)
theorem dX3_opens_6 : decode cX3_opens 6 = .ok (.iload_n 1, 1) := dk_27 (dk_at dksX3_opens_0 6 rfl rfl)
theorem dX3_opens_7 : decode cX3_opens 7 = .ok (.imul, 1) := dk_104 (dk_at dksX3_opens_0 7 rfl rfl)
theorem dX3_opens_8 : decode cX3_opens 8 = .ok (.aload_n 0, 1) := dk_42 (dk_at dksX3_opens_0 8 rfl rfl)
theorem dX3_opens_9 : decode cX3_opens 9 = .ok (.getfield 19, 3) := dk_180 0 19 (dk_at dksX3_opens_0 9 rfl rfl)
theorem dX3_opens_12 : decode cX3_opens 12 = .ok (.iload_n 1, 1) := dk_27 (dk_at dksX3_opens_0 12 rfl rfl)
theorem dX3_opens_13 : decode cX3_opens 13 = .ok (.iaload, 1) := dk_46 (dk_at dksX3_opens_0 13 rfl rfl)
theorem dX3_opens_14 : decode cX3_opens 14 = .ok (.iadd, 1) := dk_96 (dk_at dksX3_opens_0 14 rfl rfl)
theorem dX3_opens_15 : decode cX3_opens 15 = .ok (.iload_n 2, 1) := dk_28 (dk_at dksX3_opens_0 15 rfl rfl)
theorem dX3_opens_16 : decode cX3_opens 16 = .ok (.iastore, 1) := dk_79 (dk_at dksX3_opens_0 16 rfl rfl)
theorem dX3_opens_17 : decode cX3_opens 17 = .ok (.aload_n 0, 1) := dk_42 (dk_at dksX3_opens_0 17 rfl rfl)
theorem dX3_opens_18 : decode cX3_opens 18 = .ok (.getfield 25, 3) := dk_180 0 25 (dk_at dksX3_opens_0 18 rfl rfl)
theorem dX3_opens_21 : decode cX3_opens 21 = .ok (.bipush 8, 2) := dk_16 8 (dk_at dksX3_opens_0 21 rfl rfl)
theorem dX3_opens_23 : decode cX3_opens 23 = .ok (.iload_n 1, 1) := dk_27 (dk_at dksX3_opens_0 23 rfl rfl)
theorem dX3_opens_24 : decode cX3_opens 24 = .ok (.imul, 1) := dk_104 (dk_at dksX3_opens_1 0 rfl rfl)
theorem dX3_opens_25 : decode cX3_opens 25 = .ok (.aload_n 0, 1) := dk_42 (dk_at dksX3_opens_1 1 rfl rfl)
theorem dX3_opens_26 : decode cX3_opens 26 = .ok (.getfield 19, 3) := dk_180 0 19 (dk_at dksX3_opens_1 2 rfl rfl)
theorem dX3_opens_29 : decode cX3_opens 29 = .ok (.iload_n 1, 1) := dk_27 (dk_at dksX3_opens_1 5 rfl rfl)
theorem dX3_opens_30 : decode cX3_opens 30 = .ok (.iaload, 1) := dk_46 (dk_at dksX3_opens_1 6 rfl rfl)
theorem dX3_opens_31 : decode cX3_opens 31 = .ok (.iadd, 1) := dk_96 (dk_at dksX3_opens_1 7 rfl rfl)
theorem dX3_opens_32 : decode cX3_opens 32 = .ok (.iload_n 3, 1) := dk_29 (dk_at dksX3_opens_1 8 rfl rfl)
theorem dX3_opens_33 : decode cX3_opens 33 = .ok (.iastore, 1) := dk_79 (dk_at dksX3_opens_1 9 rfl rfl)
theorem dX3_opens_34 : decode cX3_opens 34 = .ok (.aload_n 0, 1) := dk_42 (dk_at dksX3_opens_1 10 rfl rfl)
theorem dX3_opens_35 : decode cX3_opens 35 = .ok (.getfield 19, 3) := dk_180 0 19 (dk_at dksX3_opens_1 11 rfl rfl)
theorem dX3_opens_38 : decode cX3_opens 38 = .ok (.iload_n 1, 1) := dk_27 (dk_at dksX3_opens_1 14 rfl rfl)
theorem dX3_opens_39 : decode cX3_opens 39 = .ok (.dup2, 1) := dk_92 (dk_at dksX3_opens_1 15 rfl rfl)
theorem dX3_opens_40 : decode cX3_opens 40 = .ok (.iaload, 1) := dk_46 (dk_at dksX3_opens_1 16 rfl rfl)
theorem dX3_opens_41 : decode cX3_opens 41 = .ok (.iconst 1, 1) := dk_4 (dk_at dksX3_opens_1 17 rfl rfl)
theorem dX3_opens_42 : decode cX3_opens 42 = .ok (.iadd, 1) := dk_96 (dk_at dksX3_opens_1 18 rfl rfl)
theorem dX3_opens_43 : decode cX3_opens 43 = .ok (.iastore, 1) := dk_79 (dk_at dksX3_opens_1 19 rfl rfl)
theorem dX3_opens_44 : decode cX3_opens 44 = .ok (.return_, 1) := dk_177 (dk_at dksX3_opens_1 20 rfl rfl)
abbrev cX3_merge : ByteArray := prog_9_method_22_code
def yX3_merge : MethodName := ⟨RX3, "merge", "(II)I"⟩
def dkwX3_merge_7 : List UInt8 := [180, 0, 13, 28, 46, 96, 79, 42, 27, 28, 182, 0, 93, 42, 180, 0, 13, 27, 46, 172]
abbrev dktX3_merge_7 : List UInt8 := dkwX3_merge_7 ++ []
def dkwX3_merge_6 : List UInt8 := [28, 104, 21, 4, 96, 46, 96, 79, 132, 4, 1, 167, 255, 219, 42, 180, 0, 13, 27, 92, 46, 42]
abbrev dktX3_merge_6 : List UInt8 := dkwX3_merge_6 ++ dktX3_merge_7
def dkwX3_merge_5 : List UInt8 := [16, 72, 162, 0, 36, 42, 180, 0, 16, 16, 72, 27, 104, 21, 4, 96, 92, 46, 42, 180, 0, 16, 16, 72]
abbrev dktX3_merge_5 : List UInt8 := dkwX3_merge_5 ++ dktX3_merge_6
def dkwX3_merge_4 : List UInt8 := [180, 0, 7, 16, 64, 28, 104, 21, 4, 96, 46, 96, 79, 132, 4, 1, 167, 255, 219, 3, 54, 4, 21, 4]
abbrev dktX3_merge_4 : List UInt8 := dkwX3_merge_4 ++ dktX3_merge_5
def dkwX3_merge_3 : List UInt8 := [3, 54, 4, 21, 4, 16, 64, 162, 0, 36, 42, 180, 0, 7, 16, 64, 27, 104, 21, 4, 96, 92, 46, 42]
abbrev dktX3_merge_3 : List UInt8 := dkwX3_merge_3 ++ dktX3_merge_4
def dkwX3_merge_2 : List UInt8 := [180, 0, 13, 28, 46, 96, 18, 83, 164, 0, 7, 6, 167, 0, 4, 3, 182, 0, 84, 154, 0, 5, 3, 172]
abbrev dktX3_merge_2 : List UInt8 := dkwX3_merge_2 ++ dktX3_merge_3
def dkwX3_merge_1 : List UInt8 := [154, 0, 7, 4, 167, 0, 35, 27, 28, 160, 0, 7, 5, 167, 0, 26, 42, 180, 0, 13, 27, 46, 42]
abbrev dktX3_merge_1 : List UInt8 := dkwX3_merge_1 ++ dktX3_merge_2
def dkwX3_merge_0 : List UInt8 := [27, 184, 0, 79, 153, 0, 14, 28, 184, 0, 79, 153, 0, 7, 4, 167, 0, 4, 3, 62, 42, 29]
abbrev dktX3_merge_0 : List UInt8 := dkwX3_merge_0 ++ dktX3_merge_1
theorem dksX3_merge_0 : cX3_merge.data.toList.drop 0 = dktX3_merge_0 := by decide +kernel
theorem dksX3_merge_1 : cX3_merge.data.toList.drop 22 = dktX3_merge_1 := dk_seg dksX3_merge_0 22 rfl rfl
theorem dksX3_merge_2 : cX3_merge.data.toList.drop 45 = dktX3_merge_2 := dk_seg dksX3_merge_1 23 rfl rfl
theorem dksX3_merge_3 : cX3_merge.data.toList.drop 69 = dktX3_merge_3 := dk_seg dksX3_merge_2 24 rfl rfl
theorem dksX3_merge_4 : cX3_merge.data.toList.drop 93 = dktX3_merge_4 := dk_seg dksX3_merge_3 24 rfl rfl
theorem dksX3_merge_5 : cX3_merge.data.toList.drop 117 = dktX3_merge_5 := dk_seg dksX3_merge_4 24 rfl rfl
theorem dksX3_merge_6 : cX3_merge.data.toList.drop 141 = dktX3_merge_6 := dk_seg dksX3_merge_5 24 rfl rfl
theorem dksX3_merge_7 : cX3_merge.data.toList.drop 163 = dktX3_merge_7 := dk_seg dksX3_merge_6 22 rfl rfl
theorem dX3_merge_0 : decode cX3_merge 0 = .ok (.iload_n 1, 1) := dk_27 (dk_at dksX3_merge_0 0 rfl rfl)
theorem dX3_merge_1 : decode cX3_merge 1 = .ok (.invokestatic 79, 3) := dk_184 0 79 (dk_at dksX3_merge_0 1 rfl rfl)
theorem dX3_merge_4 : decode cX3_merge 4 = .ok (.ifCond .eq 14, 3) := dk_153 0 14 (dk_at dksX3_merge_0 4 rfl rfl)
theorem dX3_merge_7 : decode cX3_merge 7 = .ok (.iload_n 2, 1) := dk_28 (dk_at dksX3_merge_0 7 rfl rfl)
theorem dX3_merge_8 : decode cX3_merge 8 = .ok (.invokestatic 79, 3) := dk_184 0 79 (dk_at dksX3_merge_0 8 rfl rfl)
theorem dX3_merge_11 : decode cX3_merge 11 = .ok (.ifCond .eq 7, 3) := dk_153 0 7 (dk_at dksX3_merge_0 11 rfl rfl)
theorem dX3_merge_14 : decode cX3_merge 14 = .ok (.iconst 1, 1) := dk_4 (dk_at dksX3_merge_0 14 rfl rfl)
theorem dX3_merge_15 : decode cX3_merge 15 = .ok (.goto 4, 3) := dk_167 0 4 (dk_at dksX3_merge_0 15 rfl rfl)
theorem dX3_merge_18 : decode cX3_merge 18 = .ok (.iconst 0, 1) := dk_3 (dk_at dksX3_merge_0 18 rfl rfl)
theorem dX3_merge_19 : decode cX3_merge 19 = .ok (.istore_n 3, 1) := dk_62 (dk_at dksX3_merge_0 19 rfl rfl)
theorem dX3_merge_20 : decode cX3_merge 20 = .ok (.aload_n 0, 1) := dk_42 (dk_at dksX3_merge_0 20 rfl rfl)
theorem dX3_merge_21 : decode cX3_merge 21 = .ok (.iload_n 3, 1) := dk_29 (dk_at dksX3_merge_0 21 rfl rfl)
theorem dX3_merge_22 : decode cX3_merge 22 = .ok (.ifCond .ne 7, 3) := dk_154 0 7 (dk_at dksX3_merge_1 0 rfl rfl)
theorem dX3_merge_25 : decode cX3_merge 25 = .ok (.iconst 1, 1) := dk_4 (dk_at dksX3_merge_1 3 rfl rfl)
theorem dX3_merge_26 : decode cX3_merge 26 = .ok (.goto 35, 3) := dk_167 0 35 (dk_at dksX3_merge_1 4 rfl rfl)
theorem dX3_merge_29 : decode cX3_merge 29 = .ok (.iload_n 1, 1) := dk_27 (dk_at dksX3_merge_1 7 rfl rfl)
theorem dX3_merge_30 : decode cX3_merge 30 = .ok (.iload_n 2, 1) := dk_28 (dk_at dksX3_merge_1 8 rfl rfl)
theorem dX3_merge_31 : decode cX3_merge 31 = .ok (.if_icmp .ne 7, 3) := dk_160 0 7 (dk_at dksX3_merge_1 9 rfl rfl)
theorem dX3_merge_34 : decode cX3_merge 34 = .ok (.iconst 2, 1) := dk_5 (dk_at dksX3_merge_1 12 rfl rfl)
theorem dX3_merge_35 : decode cX3_merge 35 = .ok (.goto 26, 3) := dk_167 0 26 (dk_at dksX3_merge_1 13 rfl rfl)
theorem dX3_merge_38 : decode cX3_merge 38 = .ok (.aload_n 0, 1) := dk_42 (dk_at dksX3_merge_1 16 rfl rfl)
theorem dX3_merge_39 : decode cX3_merge 39 = .ok (.getfield 13, 3) := dk_180 0 13 (dk_at dksX3_merge_1 17 rfl rfl)
theorem dX3_merge_42 : decode cX3_merge 42 = .ok (.iload_n 1, 1) := dk_27 (dk_at dksX3_merge_1 20 rfl rfl)
theorem dX3_merge_43 : decode cX3_merge 43 = .ok (.iaload, 1) := dk_46 (dk_at dksX3_merge_1 21 rfl rfl)
theorem dX3_merge_44 : decode cX3_merge 44 = .ok (.aload_n 0, 1) := dk_42 (dk_at dksX3_merge_1 22 rfl rfl)
theorem dX3_merge_45 : decode cX3_merge 45 = .ok (.getfield 13, 3) := dk_180 0 13 (dk_at dksX3_merge_2 0 rfl rfl)
theorem dX3_merge_48 : decode cX3_merge 48 = .ok (.iload_n 2, 1) := dk_28 (dk_at dksX3_merge_2 3 rfl rfl)
theorem dX3_merge_49 : decode cX3_merge 49 = .ok (.iaload, 1) := dk_46 (dk_at dksX3_merge_2 4 rfl rfl)
theorem dX3_merge_50 : decode cX3_merge 50 = .ok (.iadd, 1) := dk_96 (dk_at dksX3_merge_2 5 rfl rfl)
theorem dX3_merge_51 : decode cX3_merge 51 = .ok (.ldc 83, 2) := dk_18 83 (dk_at dksX3_merge_2 6 rfl rfl)
theorem dX3_merge_53 : decode cX3_merge 53 = .ok (.if_icmp .le 7, 3) := dk_164 0 7 (dk_at dksX3_merge_2 8 rfl rfl)
theorem dX3_merge_56 : decode cX3_merge 56 = .ok (.iconst 3, 1) := dk_6 (dk_at dksX3_merge_2 11 rfl rfl)
theorem dX3_merge_57 : decode cX3_merge 57 = .ok (.goto 4, 3) := dk_167 0 4 (dk_at dksX3_merge_2 12 rfl rfl)
theorem dX3_merge_60 : decode cX3_merge 60 = .ok (.iconst 0, 1) := dk_3 (dk_at dksX3_merge_2 15 rfl rfl)
theorem dX3_merge_61 : decode cX3_merge 61 = .ok (.invokevirtual 84, 3) := dk_182 0 84 (dk_at dksX3_merge_2 16 rfl rfl)
theorem dX3_merge_64 : decode cX3_merge 64 = .ok (.ifCond .ne 5, 3) := dk_154 0 5 (dk_at dksX3_merge_2 19 rfl rfl)
theorem dX3_merge_67 : decode cX3_merge 67 = .ok (.iconst 0, 1) := dk_3 (dk_at dksX3_merge_2 22 rfl rfl)
theorem dX3_merge_68 : decode cX3_merge 68 = .ok (.ireturn, 1) := dk_172 (dk_at dksX3_merge_2 23 rfl rfl)
theorem dX3_merge_69 : decode cX3_merge 69 = .ok (.iconst 0, 1) := dk_3 (dk_at dksX3_merge_3 0 rfl rfl)
theorem dX3_merge_70 : decode cX3_merge 70 = .ok (.istore 4, 2) := dk_54 4 (dk_at dksX3_merge_3 1 rfl rfl)
theorem dX3_merge_72 : decode cX3_merge 72 = .ok (.iload 4, 2) := dk_21 4 (dk_at dksX3_merge_3 3 rfl rfl)
theorem dX3_merge_74 : decode cX3_merge 74 = .ok (.bipush 64, 2) := dk_16 64 (dk_at dksX3_merge_3 5 rfl rfl)
theorem dX3_merge_76 : decode cX3_merge 76 = .ok (.if_icmp .ge 36, 3) := dk_162 0 36 (dk_at dksX3_merge_3 7 rfl rfl)
theorem dX3_merge_79 : decode cX3_merge 79 = .ok (.aload_n 0, 1) := dk_42 (dk_at dksX3_merge_3 10 rfl rfl)
theorem dX3_merge_80 : decode cX3_merge 80 = .ok (.getfield 7, 3) := dk_180 0 7 (dk_at dksX3_merge_3 11 rfl rfl)
theorem dX3_merge_83 : decode cX3_merge 83 = .ok (.bipush 64, 2) := dk_16 64 (dk_at dksX3_merge_3 14 rfl rfl)
theorem dX3_merge_85 : decode cX3_merge 85 = .ok (.iload_n 1, 1) := dk_27 (dk_at dksX3_merge_3 16 rfl rfl)
theorem dX3_merge_86 : decode cX3_merge 86 = .ok (.imul, 1) := dk_104 (dk_at dksX3_merge_3 17 rfl rfl)
theorem dX3_merge_87 : decode cX3_merge 87 = .ok (.iload 4, 2) := dk_21 4 (dk_at dksX3_merge_3 18 rfl rfl)
theorem dX3_merge_89 : decode cX3_merge 89 = .ok (.iadd, 1) := dk_96 (dk_at dksX3_merge_3 20 rfl rfl)
theorem dX3_merge_90 : decode cX3_merge 90 = .ok (.dup2, 1) := dk_92 (dk_at dksX3_merge_3 21 rfl rfl)
theorem dX3_merge_91 : decode cX3_merge 91 = .ok (.iaload, 1) := dk_46 (dk_at dksX3_merge_3 22 rfl rfl)
theorem dX3_merge_92 : decode cX3_merge 92 = .ok (.aload_n 0, 1) := dk_42 (dk_at dksX3_merge_3 23 rfl rfl)
theorem dX3_merge_93 : decode cX3_merge 93 = .ok (.getfield 7, 3) := dk_180 0 7 (dk_at dksX3_merge_4 0 rfl rfl)
theorem dX3_merge_96 : decode cX3_merge 96 = .ok (.bipush 64, 2) := dk_16 64 (dk_at dksX3_merge_4 3 rfl rfl)
theorem dX3_merge_98 : decode cX3_merge 98 = .ok (.iload_n 2, 1) := dk_28 (dk_at dksX3_merge_4 5 rfl rfl)
theorem dX3_merge_99 : decode cX3_merge 99 = .ok (.imul, 1) := dk_104 (dk_at dksX3_merge_4 6 rfl rfl)
theorem dX3_merge_100 : decode cX3_merge 100 = .ok (.iload 4, 2) := dk_21 4 (dk_at dksX3_merge_4 7 rfl rfl)
theorem dX3_merge_102 : decode cX3_merge 102 = .ok (.iadd, 1) := dk_96 (dk_at dksX3_merge_4 9 rfl rfl)
theorem dX3_merge_103 : decode cX3_merge 103 = .ok (.iaload, 1) := dk_46 (dk_at dksX3_merge_4 10 rfl rfl)
theorem dX3_merge_104 : decode cX3_merge 104 = .ok (.iadd, 1) := dk_96 (dk_at dksX3_merge_4 11 rfl rfl)
theorem dX3_merge_105 : decode cX3_merge 105 = .ok (.iastore, 1) := dk_79 (dk_at dksX3_merge_4 12 rfl rfl)
theorem dX3_merge_106 : decode cX3_merge 106 = .ok (.iinc 4 1, 3) := dk_132 4 1 (dk_at dksX3_merge_4 13 rfl rfl)
theorem dX3_merge_109 : decode cX3_merge 109 = .ok (.goto (-37), 3) := dk_167 255 219 (dk_at dksX3_merge_4 16 rfl rfl)
theorem dX3_merge_112 : decode cX3_merge 112 = .ok (.iconst 0, 1) := dk_3 (dk_at dksX3_merge_4 19 rfl rfl)
theorem dX3_merge_113 : decode cX3_merge 113 = .ok (.istore 4, 2) := dk_54 4 (dk_at dksX3_merge_4 20 rfl rfl)
theorem dX3_merge_115 : decode cX3_merge 115 = .ok (.iload 4, 2) := dk_21 4 (dk_at dksX3_merge_4 22 rfl rfl)
theorem dX3_merge_117 : decode cX3_merge 117 = .ok (.bipush 72, 2) := dk_16 72 (dk_at dksX3_merge_5 0 rfl rfl)
theorem dX3_merge_119 : decode cX3_merge 119 = .ok (.if_icmp .ge 36, 3) := dk_162 0 36 (dk_at dksX3_merge_5 2 rfl rfl)
theorem dX3_merge_122 : decode cX3_merge 122 = .ok (.aload_n 0, 1) := dk_42 (dk_at dksX3_merge_5 5 rfl rfl)
theorem dX3_merge_123 : decode cX3_merge 123 = .ok (.getfield 16, 3) := dk_180 0 16 (dk_at dksX3_merge_5 6 rfl rfl)
theorem dX3_merge_126 : decode cX3_merge 126 = .ok (.bipush 72, 2) := dk_16 72 (dk_at dksX3_merge_5 9 rfl rfl)
theorem dX3_merge_128 : decode cX3_merge 128 = .ok (.iload_n 1, 1) := dk_27 (dk_at dksX3_merge_5 11 rfl rfl)
theorem dX3_merge_129 : decode cX3_merge 129 = .ok (.imul, 1) := dk_104 (dk_at dksX3_merge_5 12 rfl rfl)
theorem dX3_merge_130 : decode cX3_merge 130 = .ok (.iload 4, 2) := dk_21 4 (dk_at dksX3_merge_5 13 rfl rfl)
theorem dX3_merge_132 : decode cX3_merge 132 = .ok (.iadd, 1) := dk_96 (dk_at dksX3_merge_5 15 rfl rfl)
theorem dX3_merge_133 : decode cX3_merge 133 = .ok (.dup2, 1) := dk_92 (dk_at dksX3_merge_5 16 rfl rfl)
theorem dX3_merge_134 : decode cX3_merge 134 = .ok (.iaload, 1) := dk_46 (dk_at dksX3_merge_5 17 rfl rfl)
theorem dX3_merge_135 : decode cX3_merge 135 = .ok (.aload_n 0, 1) := dk_42 (dk_at dksX3_merge_5 18 rfl rfl)
theorem dX3_merge_136 : decode cX3_merge 136 = .ok (.getfield 16, 3) := dk_180 0 16 (dk_at dksX3_merge_5 19 rfl rfl)
theorem dX3_merge_139 : decode cX3_merge 139 = .ok (.bipush 72, 2) := dk_16 72 (dk_at dksX3_merge_5 22 rfl rfl)
theorem dX3_merge_141 : decode cX3_merge 141 = .ok (.iload_n 2, 1) := dk_28 (dk_at dksX3_merge_6 0 rfl rfl)
theorem dX3_merge_142 : decode cX3_merge 142 = .ok (.imul, 1) := dk_104 (dk_at dksX3_merge_6 1 rfl rfl)
theorem dX3_merge_143 : decode cX3_merge 143 = .ok (.iload 4, 2) := dk_21 4 (dk_at dksX3_merge_6 2 rfl rfl)
theorem dX3_merge_145 : decode cX3_merge 145 = .ok (.iadd, 1) := dk_96 (dk_at dksX3_merge_6 4 rfl rfl)
theorem dX3_merge_146 : decode cX3_merge 146 = .ok (.iaload, 1) := dk_46 (dk_at dksX3_merge_6 5 rfl rfl)
theorem dX3_merge_147 : decode cX3_merge 147 = .ok (.iadd, 1) := dk_96 (dk_at dksX3_merge_6 6 rfl rfl)
theorem dX3_merge_148 : decode cX3_merge 148 = .ok (.iastore, 1) := dk_79 (dk_at dksX3_merge_6 7 rfl rfl)
theorem dX3_merge_149 : decode cX3_merge 149 = .ok (.iinc 4 1, 3) := dk_132 4 1 (dk_at dksX3_merge_6 8 rfl rfl)
theorem dX3_merge_152 : decode cX3_merge 152 = .ok (.goto (-37), 3) := dk_167 255 219 (dk_at dksX3_merge_6 11 rfl rfl)
theorem dX3_merge_155 : decode cX3_merge 155 = .ok (.aload_n 0, 1) := dk_42 (dk_at dksX3_merge_6 14 rfl rfl)
theorem dX3_merge_156 : decode cX3_merge 156 = .ok (.getfield 13, 3) := dk_180 0 13 (dk_at dksX3_merge_6 15 rfl rfl)
theorem dX3_merge_159 : decode cX3_merge 159 = .ok (.iload_n 1, 1) := dk_27 (dk_at dksX3_merge_6 18 rfl rfl)
theorem dX3_merge_160 : decode cX3_merge 160 = .ok (.dup2, 1) := dk_92 (dk_at dksX3_merge_6 19 rfl rfl)
theorem dX3_merge_161 : decode cX3_merge 161 = .ok (.iaload, 1) := dk_46 (dk_at dksX3_merge_6 20 rfl rfl)
theorem dX3_merge_162 : decode cX3_merge 162 = .ok (.aload_n 0, 1) := dk_42 (dk_at dksX3_merge_6 21 rfl rfl)
theorem dX3_merge_163 : decode cX3_merge 163 = .ok (.getfield 13, 3) := dk_180 0 13 (dk_at dksX3_merge_7 0 rfl rfl)
theorem dX3_merge_166 : decode cX3_merge 166 = .ok (.iload_n 2, 1) := dk_28 (dk_at dksX3_merge_7 3 rfl rfl)
theorem dX3_merge_167 : decode cX3_merge 167 = .ok (.iaload, 1) := dk_46 (dk_at dksX3_merge_7 4 rfl rfl)
theorem dX3_merge_168 : decode cX3_merge 168 = .ok (.iadd, 1) := dk_96 (dk_at dksX3_merge_7 5 rfl rfl)
theorem dX3_merge_169 : decode cX3_merge 169 = .ok (.iastore, 1) := dk_79 (dk_at dksX3_merge_7 6 rfl rfl)
theorem dX3_merge_170 : decode cX3_merge 170 = .ok (.aload_n 0, 1) := dk_42 (dk_at dksX3_merge_7 7 rfl rfl)
theorem dX3_merge_171 : decode cX3_merge 171 = .ok (.iload_n 1, 1) := dk_27 (dk_at dksX3_merge_7 8 rfl rfl)
theorem dX3_merge_172 : decode cX3_merge 172 = .ok (.iload_n 2, 1) := dk_28 (dk_at dksX3_merge_7 9 rfl rfl)
theorem dX3_merge_173 : decode cX3_merge 173 = .ok (.invokevirtual 93, 3) := dk_182 0 93 (dk_at dksX3_merge_7 10 rfl rfl)
theorem dX3_merge_176 : decode cX3_merge 176 = .ok (.aload_n 0, 1) := dk_42 (dk_at dksX3_merge_7 13 rfl rfl)
theorem dX3_merge_177 : decode cX3_merge 177 = .ok (.getfield 13, 3) := dk_180 0 13 (dk_at dksX3_merge_7 14 rfl rfl)
theorem dX3_merge_180 : decode cX3_merge 180 = .ok (.iload_n 1, 1) := dk_27 (dk_at dksX3_merge_7 17 rfl rfl)
theorem dX3_merge_181 : decode cX3_merge 181 = .ok (.iaload, 1) := dk_46 (dk_at dksX3_merge_7 18 rfl rfl)
theorem dX3_merge_182 : decode cX3_merge 182 = .ok (.ireturn, 1) := dk_172 (dk_at dksX3_merge_7 19 rfl rfl)
abbrev cX3_mergesCounters : ByteArray := prog_9_method_20_code
def yX3_mergesCounters : MethodName := ⟨RX3, "mergesCounters", "(II)V"⟩
def dkwX3_mergesCounters_5 : List UInt8 := [164, 0, 13, 42, 27, 42, 27, 182, 0, 76, 182, 0, 68, 177]
abbrev dktX3_mergesCounters_5 : List UInt8 := dkwX3_mergesCounters_5 ++ []
def dkwX3_mergesCounters_4 : List UInt8 := [42, 180, 0, 28, 27, 92, 46, 42, 180, 0, 28, 28, 46, 96, 79, 42, 180, 0, 19, 27, 46, 7]
abbrev dktX3_mergesCounters_4 : List UInt8 := dkwX3_mergesCounters_4 ++ dktX3_mergesCounters_5
def dkwX3_mergesCounters_3 : List UInt8 := [21, 5, 96, 92, 46, 42, 180, 0, 25, 16, 8, 28, 104, 29, 96, 46, 96, 79, 132, 3, 1, 167, 255, 168]
abbrev dktX3_mergesCounters_3 : List UInt8 := dkwX3_mergesCounters_3 ++ dktX3_mergesCounters_4
def dkwX3_mergesCounters_2 : List UInt8 := [180, 0, 25, 16, 8, 28, 104, 29, 96, 46, 182, 0, 72, 167, 0, 29, 42, 180, 0, 25, 16, 8, 27, 104]
abbrev dktX3_mergesCounters_2 : List UInt8 := dkwX3_mergesCounters_2 ++ dktX3_mergesCounters_3
def dkwX3_mergesCounters_1 : List UInt8 := [54, 4, 42, 27, 21, 4, 182, 0, 65, 54, 5, 21, 5, 2, 160, 0, 24, 42, 27, 21, 4, 42]
abbrev dktX3_mergesCounters_1 : List UInt8 := dkwX3_mergesCounters_1 ++ dktX3_mergesCounters_2
def dkwX3_mergesCounters_0 : List UInt8 := [3, 62, 29, 42, 180, 0, 19, 28, 46, 162, 0, 84, 42, 180, 0, 22, 16, 8, 28, 104, 29, 96, 46]
abbrev dktX3_mergesCounters_0 : List UInt8 := dkwX3_mergesCounters_0 ++ dktX3_mergesCounters_1
theorem dksX3_mergesCounters_0 : cX3_mergesCounters.data.toList.drop 0 = dktX3_mergesCounters_0 := by decide +kernel
theorem dksX3_mergesCounters_1 : cX3_mergesCounters.data.toList.drop 23 = dktX3_mergesCounters_1 := dk_seg dksX3_mergesCounters_0 23 rfl rfl
theorem dksX3_mergesCounters_2 : cX3_mergesCounters.data.toList.drop 45 = dktX3_mergesCounters_2 := dk_seg dksX3_mergesCounters_1 22 rfl rfl
theorem dksX3_mergesCounters_3 : cX3_mergesCounters.data.toList.drop 69 = dktX3_mergesCounters_3 := dk_seg dksX3_mergesCounters_2 24 rfl rfl
theorem dksX3_mergesCounters_4 : cX3_mergesCounters.data.toList.drop 93 = dktX3_mergesCounters_4 := dk_seg dksX3_mergesCounters_3 24 rfl rfl
theorem dksX3_mergesCounters_5 : cX3_mergesCounters.data.toList.drop 115 = dktX3_mergesCounters_5 := dk_seg dksX3_mergesCounters_4 22 rfl rfl
theorem dX3_mergesCounters_0 : decode cX3_mergesCounters 0 = .ok (.iconst 0, 1) := dk_3 (dk_at dksX3_mergesCounters_0 0 rfl rfl)
theorem dX3_mergesCounters_1 : decode cX3_mergesCounters 1 = .ok (.istore_n 3, 1) := dk_62 (dk_at dksX3_mergesCounters_0 1 rfl rfl)
theorem dX3_mergesCounters_2 : decode cX3_mergesCounters 2 = .ok (.iload_n 3, 1) := dk_29 (dk_at dksX3_mergesCounters_0 2 rfl rfl)
theorem dX3_mergesCounters_3 : decode cX3_mergesCounters 3 = .ok (.aload_n 0, 1) := dk_42 (dk_at dksX3_mergesCounters_0 3 rfl rfl)
theorem dX3_mergesCounters_4 : decode cX3_mergesCounters 4 = .ok (.getfield 19, 3) := dk_180 0 19 (dk_at dksX3_mergesCounters_0 4 rfl rfl)
theorem dX3_mergesCounters_7 : decode cX3_mergesCounters 7 = .ok (.iload_n 2, 1) := dk_28 (dk_at dksX3_mergesCounters_0 7 rfl rfl)
theorem dX3_mergesCounters_8 : decode cX3_mergesCounters 8 = .ok (.iaload, 1) := dk_46 (dk_at dksX3_mergesCounters_0 8 rfl rfl)
theorem dX3_mergesCounters_9 : decode cX3_mergesCounters 9 = .ok (.if_icmp .ge 84, 3) := dk_162 0 84 (dk_at dksX3_mergesCounters_0 9 rfl rfl)
theorem dX3_mergesCounters_12 : decode cX3_mergesCounters 12 = .ok (.aload_n 0, 1) := dk_42 (dk_at dksX3_mergesCounters_0 12 rfl rfl)
theorem dX3_mergesCounters_13 : decode cX3_mergesCounters 13 = .ok (.getfield 22, 3) := dk_180 0 22 (dk_at dksX3_mergesCounters_0 13 rfl rfl)
theorem dX3_mergesCounters_16 : decode cX3_mergesCounters 16 = .ok (.bipush 8, 2) := dk_16 8 (dk_at dksX3_mergesCounters_0 16 rfl rfl)
theorem dX3_mergesCounters_18 : decode cX3_mergesCounters 18 = .ok (.iload_n 2, 1) := dk_28 (dk_at dksX3_mergesCounters_0 18 rfl rfl)
theorem dX3_mergesCounters_19 : decode cX3_mergesCounters 19 = .ok (.imul, 1) := dk_104 (dk_at dksX3_mergesCounters_0 19 rfl rfl)
theorem dX3_mergesCounters_20 : decode cX3_mergesCounters 20 = .ok (.iload_n 3, 1) := dk_29 (dk_at dksX3_mergesCounters_0 20 rfl rfl)
theorem dX3_mergesCounters_21 : decode cX3_mergesCounters 21 = .ok (.iadd, 1) := dk_96 (dk_at dksX3_mergesCounters_0 21 rfl rfl)
theorem dX3_mergesCounters_22 : decode cX3_mergesCounters 22 = .ok (.iaload, 1) := dk_46 (dk_at dksX3_mergesCounters_0 22 rfl rfl)
theorem dX3_mergesCounters_23 : decode cX3_mergesCounters 23 = .ok (.istore 4, 2) := dk_54 4 (dk_at dksX3_mergesCounters_1 0 rfl rfl)
theorem dX3_mergesCounters_25 : decode cX3_mergesCounters 25 = .ok (.aload_n 0, 1) := dk_42 (dk_at dksX3_mergesCounters_1 2 rfl rfl)
theorem dX3_mergesCounters_26 : decode cX3_mergesCounters 26 = .ok (.iload_n 1, 1) := dk_27 (dk_at dksX3_mergesCounters_1 3 rfl rfl)
theorem dX3_mergesCounters_27 : decode cX3_mergesCounters 27 = .ok (.iload 4, 2) := dk_21 4 (dk_at dksX3_mergesCounters_1 4 rfl rfl)
theorem dX3_mergesCounters_29 : decode cX3_mergesCounters 29 = .ok (.invokevirtual 65, 3) := dk_182 0 65 (dk_at dksX3_mergesCounters_1 6 rfl rfl)
theorem dX3_mergesCounters_32 : decode cX3_mergesCounters 32 = .ok (.istore 5, 2) := dk_54 5 (dk_at dksX3_mergesCounters_1 9 rfl rfl)
theorem dX3_mergesCounters_34 : decode cX3_mergesCounters 34 = .ok (.iload 5, 2) := dk_21 5 (dk_at dksX3_mergesCounters_1 11 rfl rfl)
theorem dX3_mergesCounters_36 : decode cX3_mergesCounters 36 = .ok (.iconst (-1), 1) := dk_2 (dk_at dksX3_mergesCounters_1 13 rfl rfl)
theorem dX3_mergesCounters_37 : decode cX3_mergesCounters 37 = .ok (.if_icmp .ne 24, 3) := dk_160 0 24 (dk_at dksX3_mergesCounters_1 14 rfl rfl)
theorem dX3_mergesCounters_40 : decode cX3_mergesCounters 40 = .ok (.aload_n 0, 1) := dk_42 (dk_at dksX3_mergesCounters_1 17 rfl rfl)
theorem dX3_mergesCounters_41 : decode cX3_mergesCounters 41 = .ok (.iload_n 1, 1) := dk_27 (dk_at dksX3_mergesCounters_1 18 rfl rfl)
theorem dX3_mergesCounters_42 : decode cX3_mergesCounters 42 = .ok (.iload 4, 2) := dk_21 4 (dk_at dksX3_mergesCounters_1 19 rfl rfl)
theorem dX3_mergesCounters_44 : decode cX3_mergesCounters 44 = .ok (.aload_n 0, 1) := dk_42 (dk_at dksX3_mergesCounters_1 21 rfl rfl)
theorem dX3_mergesCounters_45 : decode cX3_mergesCounters 45 = .ok (.getfield 25, 3) := dk_180 0 25 (dk_at dksX3_mergesCounters_2 0 rfl rfl)
theorem dX3_mergesCounters_48 : decode cX3_mergesCounters 48 = .ok (.bipush 8, 2) := dk_16 8 (dk_at dksX3_mergesCounters_2 3 rfl rfl)
theorem dX3_mergesCounters_50 : decode cX3_mergesCounters 50 = .ok (.iload_n 2, 1) := dk_28 (dk_at dksX3_mergesCounters_2 5 rfl rfl)
theorem dX3_mergesCounters_51 : decode cX3_mergesCounters 51 = .ok (.imul, 1) := dk_104 (dk_at dksX3_mergesCounters_2 6 rfl rfl)
theorem dX3_mergesCounters_52 : decode cX3_mergesCounters 52 = .ok (.iload_n 3, 1) := dk_29 (dk_at dksX3_mergesCounters_2 7 rfl rfl)
theorem dX3_mergesCounters_53 : decode cX3_mergesCounters 53 = .ok (.iadd, 1) := dk_96 (dk_at dksX3_mergesCounters_2 8 rfl rfl)
theorem dX3_mergesCounters_54 : decode cX3_mergesCounters 54 = .ok (.iaload, 1) := dk_46 (dk_at dksX3_mergesCounters_2 9 rfl rfl)
theorem dX3_mergesCounters_55 : decode cX3_mergesCounters 55 = .ok (.invokevirtual 72, 3) := dk_182 0 72 (dk_at dksX3_mergesCounters_2 10 rfl rfl)
theorem dX3_mergesCounters_58 : decode cX3_mergesCounters 58 = .ok (.goto 29, 3) := dk_167 0 29 (dk_at dksX3_mergesCounters_2 13 rfl rfl)
theorem dX3_mergesCounters_61 : decode cX3_mergesCounters 61 = .ok (.aload_n 0, 1) := dk_42 (dk_at dksX3_mergesCounters_2 16 rfl rfl)
theorem dX3_mergesCounters_62 : decode cX3_mergesCounters 62 = .ok (.getfield 25, 3) := dk_180 0 25 (dk_at dksX3_mergesCounters_2 17 rfl rfl)
theorem dX3_mergesCounters_65 : decode cX3_mergesCounters 65 = .ok (.bipush 8, 2) := dk_16 8 (dk_at dksX3_mergesCounters_2 20 rfl rfl)
theorem dX3_mergesCounters_67 : decode cX3_mergesCounters 67 = .ok (.iload_n 1, 1) := dk_27 (dk_at dksX3_mergesCounters_2 22 rfl rfl)
theorem dX3_mergesCounters_68 : decode cX3_mergesCounters 68 = .ok (.imul, 1) := dk_104 (dk_at dksX3_mergesCounters_2 23 rfl rfl)
theorem dX3_mergesCounters_69 : decode cX3_mergesCounters 69 = .ok (.iload 5, 2) := dk_21 5 (dk_at dksX3_mergesCounters_3 0 rfl rfl)
theorem dX3_mergesCounters_71 : decode cX3_mergesCounters 71 = .ok (.iadd, 1) := dk_96 (dk_at dksX3_mergesCounters_3 2 rfl rfl)
theorem dX3_mergesCounters_72 : decode cX3_mergesCounters 72 = .ok (.dup2, 1) := dk_92 (dk_at dksX3_mergesCounters_3 3 rfl rfl)
theorem dX3_mergesCounters_73 : decode cX3_mergesCounters 73 = .ok (.iaload, 1) := dk_46 (dk_at dksX3_mergesCounters_3 4 rfl rfl)
theorem dX3_mergesCounters_74 : decode cX3_mergesCounters 74 = .ok (.aload_n 0, 1) := dk_42 (dk_at dksX3_mergesCounters_3 5 rfl rfl)
theorem dX3_mergesCounters_75 : decode cX3_mergesCounters 75 = .ok (.getfield 25, 3) := dk_180 0 25 (dk_at dksX3_mergesCounters_3 6 rfl rfl)
theorem dX3_mergesCounters_78 : decode cX3_mergesCounters 78 = .ok (.bipush 8, 2) := dk_16 8 (dk_at dksX3_mergesCounters_3 9 rfl rfl)
theorem dX3_mergesCounters_80 : decode cX3_mergesCounters 80 = .ok (.iload_n 2, 1) := dk_28 (dk_at dksX3_mergesCounters_3 11 rfl rfl)
theorem dX3_mergesCounters_81 : decode cX3_mergesCounters 81 = .ok (.imul, 1) := dk_104 (dk_at dksX3_mergesCounters_3 12 rfl rfl)
theorem dX3_mergesCounters_82 : decode cX3_mergesCounters 82 = .ok (.iload_n 3, 1) := dk_29 (dk_at dksX3_mergesCounters_3 13 rfl rfl)
theorem dX3_mergesCounters_83 : decode cX3_mergesCounters 83 = .ok (.iadd, 1) := dk_96 (dk_at dksX3_mergesCounters_3 14 rfl rfl)
theorem dX3_mergesCounters_84 : decode cX3_mergesCounters 84 = .ok (.iaload, 1) := dk_46 (dk_at dksX3_mergesCounters_3 15 rfl rfl)
theorem dX3_mergesCounters_85 : decode cX3_mergesCounters 85 = .ok (.iadd, 1) := dk_96 (dk_at dksX3_mergesCounters_3 16 rfl rfl)
theorem dX3_mergesCounters_86 : decode cX3_mergesCounters 86 = .ok (.iastore, 1) := dk_79 (dk_at dksX3_mergesCounters_3 17 rfl rfl)
theorem dX3_mergesCounters_87 : decode cX3_mergesCounters 87 = .ok (.iinc 3 1, 3) := dk_132 3 1 (dk_at dksX3_mergesCounters_3 18 rfl rfl)
theorem dX3_mergesCounters_90 : decode cX3_mergesCounters 90 = .ok (.goto (-88), 3) := dk_167 255 168 (dk_at dksX3_mergesCounters_3 21 rfl rfl)
theorem dX3_mergesCounters_93 : decode cX3_mergesCounters 93 = .ok (.aload_n 0, 1) := dk_42 (dk_at dksX3_mergesCounters_4 0 rfl rfl)
theorem dX3_mergesCounters_94 : decode cX3_mergesCounters 94 = .ok (.getfield 28, 3) := dk_180 0 28 (dk_at dksX3_mergesCounters_4 1 rfl rfl)
theorem dX3_mergesCounters_97 : decode cX3_mergesCounters 97 = .ok (.iload_n 1, 1) := dk_27 (dk_at dksX3_mergesCounters_4 4 rfl rfl)
theorem dX3_mergesCounters_98 : decode cX3_mergesCounters 98 = .ok (.dup2, 1) := dk_92 (dk_at dksX3_mergesCounters_4 5 rfl rfl)
theorem dX3_mergesCounters_99 : decode cX3_mergesCounters 99 = .ok (.iaload, 1) := dk_46 (dk_at dksX3_mergesCounters_4 6 rfl rfl)
theorem dX3_mergesCounters_100 : decode cX3_mergesCounters 100 = .ok (.aload_n 0, 1) := dk_42 (dk_at dksX3_mergesCounters_4 7 rfl rfl)
theorem dX3_mergesCounters_101 : decode cX3_mergesCounters 101 = .ok (.getfield 28, 3) := dk_180 0 28 (dk_at dksX3_mergesCounters_4 8 rfl rfl)
theorem dX3_mergesCounters_104 : decode cX3_mergesCounters 104 = .ok (.iload_n 2, 1) := dk_28 (dk_at dksX3_mergesCounters_4 11 rfl rfl)
theorem dX3_mergesCounters_105 : decode cX3_mergesCounters 105 = .ok (.iaload, 1) := dk_46 (dk_at dksX3_mergesCounters_4 12 rfl rfl)
theorem dX3_mergesCounters_106 : decode cX3_mergesCounters 106 = .ok (.iadd, 1) := dk_96 (dk_at dksX3_mergesCounters_4 13 rfl rfl)
theorem dX3_mergesCounters_107 : decode cX3_mergesCounters 107 = .ok (.iastore, 1) := dk_79 (dk_at dksX3_mergesCounters_4 14 rfl rfl)
theorem dX3_mergesCounters_108 : decode cX3_mergesCounters 108 = .ok (.aload_n 0, 1) := dk_42 (dk_at dksX3_mergesCounters_4 15 rfl rfl)
theorem dX3_mergesCounters_109 : decode cX3_mergesCounters 109 = .ok (.getfield 19, 3) := dk_180 0 19 (dk_at dksX3_mergesCounters_4 16 rfl rfl)
theorem dX3_mergesCounters_112 : decode cX3_mergesCounters 112 = .ok (.iload_n 1, 1) := dk_27 (dk_at dksX3_mergesCounters_4 19 rfl rfl)
theorem dX3_mergesCounters_113 : decode cX3_mergesCounters 113 = .ok (.iaload, 1) := dk_46 (dk_at dksX3_mergesCounters_4 20 rfl rfl)
theorem dX3_mergesCounters_114 : decode cX3_mergesCounters 114 = .ok (.iconst 4, 1) := dk_7 (dk_at dksX3_mergesCounters_4 21 rfl rfl)
theorem dX3_mergesCounters_115 : decode cX3_mergesCounters 115 = .ok (.if_icmp .le 13, 3) := dk_164 0 13 (dk_at dksX3_mergesCounters_5 0 rfl rfl)
theorem dX3_mergesCounters_118 : decode cX3_mergesCounters 118 = .ok (.aload_n 0, 1) := dk_42 (dk_at dksX3_mergesCounters_5 3 rfl rfl)
theorem dX3_mergesCounters_119 : decode cX3_mergesCounters 119 = .ok (.iload_n 1, 1) := dk_27 (dk_at dksX3_mergesCounters_5 4 rfl rfl)
theorem dX3_mergesCounters_120 : decode cX3_mergesCounters 120 = .ok (.aload_n 0, 1) := dk_42 (dk_at dksX3_mergesCounters_5 5 rfl rfl)
theorem dX3_mergesCounters_121 : decode cX3_mergesCounters 121 = .ok (.iload_n 1, 1) := dk_27 (dk_at dksX3_mergesCounters_5 6 rfl rfl)
theorem dX3_mergesCounters_122 : decode cX3_mergesCounters 122 = .ok (.invokevirtual 76, 3) := dk_182 0 76 (dk_at dksX3_mergesCounters_5 7 rfl rfl)
theorem dX3_mergesCounters_125 : decode cX3_mergesCounters 125 = .ok (.invokevirtual 68, 3) := dk_182 0 68 (dk_at dksX3_mergesCounters_5 10 rfl rfl)
theorem dX3_mergesCounters_128 : decode cX3_mergesCounters 128 = .ok (.return_, 1) := dk_177 (dk_at dksX3_mergesCounters_5 13 rfl rfl)
abbrev cX3_fifth : ByteArray := prog_9_method_19_code
def yX3_fifth : MethodName := ⟨RX3, "fifth", "(I)I"⟩
def dkwX3_fifth_5 : List UInt8 := [7, 164, 0, 8, 21, 4, 167, 0, 4, 28, 61, 132, 3, 1, 167, 255, 128, 28, 172]
abbrev dktX3_fifth_5 : List UInt8 := dkwX3_fifth_5 ++ []
def dkwX3_fifth_4 : List UInt8 := [167, 0, 4, 3, 96, 54, 6, 132, 7, 1, 167, 255, 188, 21, 5, 7, 163, 0, 17, 21, 5, 21, 6, 96]
abbrev dktX3_fifth_4 : List UInt8 := dkwX3_fifth_4 ++ dktX3_fifth_5
def dkwX3_fifth_3 : List UInt8 := [96, 54, 5, 21, 6, 42, 180, 0, 25, 16, 8, 27, 104, 21, 7, 96, 46, 21, 4, 160, 0, 7, 4]
abbrev dktX3_fifth_3 : List UInt8 := dkwX3_fifth_3 ++ dktX3_fifth_4
def dkwX3_fifth_2 : List UInt8 := [21, 5, 42, 180, 0, 25, 16, 8, 27, 104, 21, 7, 96, 46, 21, 4, 164, 0, 7, 4, 167, 0, 4, 3]
abbrev dktX3_fifth_2 : List UInt8 := dkwX3_fifth_2 ++ dktX3_fifth_3
def dkwX3_fifth_1 : List UInt8 := [46, 54, 4, 3, 54, 5, 3, 54, 6, 3, 54, 7, 21, 7, 42, 180, 0, 19, 27, 46, 162, 0, 63]
abbrev dktX3_fifth_1 : List UInt8 := dkwX3_fifth_1 ++ dktX3_fifth_2
def dkwX3_fifth_0 : List UInt8 := [3, 61, 3, 62, 29, 42, 180, 0, 19, 27, 46, 162, 0, 124, 42, 180, 0, 25, 16, 8, 27, 104, 29, 96]
abbrev dktX3_fifth_0 : List UInt8 := dkwX3_fifth_0 ++ dktX3_fifth_1
theorem dksX3_fifth_0 : cX3_fifth.data.toList.drop 0 = dktX3_fifth_0 := by decide +kernel
theorem dksX3_fifth_1 : cX3_fifth.data.toList.drop 24 = dktX3_fifth_1 := dk_seg dksX3_fifth_0 24 rfl rfl
theorem dksX3_fifth_2 : cX3_fifth.data.toList.drop 47 = dktX3_fifth_2 := dk_seg dksX3_fifth_1 23 rfl rfl
theorem dksX3_fifth_3 : cX3_fifth.data.toList.drop 71 = dktX3_fifth_3 := dk_seg dksX3_fifth_2 24 rfl rfl
theorem dksX3_fifth_4 : cX3_fifth.data.toList.drop 94 = dktX3_fifth_4 := dk_seg dksX3_fifth_3 23 rfl rfl
theorem dksX3_fifth_5 : cX3_fifth.data.toList.drop 118 = dktX3_fifth_5 := dk_seg dksX3_fifth_4 24 rfl rfl
theorem dX3_fifth_0 : decode cX3_fifth 0 = .ok (.iconst 0, 1) := dk_3 (dk_at dksX3_fifth_0 0 rfl rfl)
theorem dX3_fifth_1 : decode cX3_fifth 1 = .ok (.istore_n 2, 1) := dk_61 (dk_at dksX3_fifth_0 1 rfl rfl)
theorem dX3_fifth_2 : decode cX3_fifth 2 = .ok (.iconst 0, 1) := dk_3 (dk_at dksX3_fifth_0 2 rfl rfl)
theorem dX3_fifth_3 : decode cX3_fifth 3 = .ok (.istore_n 3, 1) := dk_62 (dk_at dksX3_fifth_0 3 rfl rfl)
theorem dX3_fifth_4 : decode cX3_fifth 4 = .ok (.iload_n 3, 1) := dk_29 (dk_at dksX3_fifth_0 4 rfl rfl)
theorem dX3_fifth_5 : decode cX3_fifth 5 = .ok (.aload_n 0, 1) := dk_42 (dk_at dksX3_fifth_0 5 rfl rfl)
theorem dX3_fifth_6 : decode cX3_fifth 6 = .ok (.getfield 19, 3) := dk_180 0 19 (dk_at dksX3_fifth_0 6 rfl rfl)
theorem dX3_fifth_9 : decode cX3_fifth 9 = .ok (.iload_n 1, 1) := dk_27 (dk_at dksX3_fifth_0 9 rfl rfl)
theorem dX3_fifth_10 : decode cX3_fifth 10 = .ok (.iaload, 1) := dk_46 (dk_at dksX3_fifth_0 10 rfl rfl)
theorem dX3_fifth_11 : decode cX3_fifth 11 = .ok (.if_icmp .ge 124, 3) := dk_162 0 124 (dk_at dksX3_fifth_0 11 rfl rfl)
theorem dX3_fifth_14 : decode cX3_fifth 14 = .ok (.aload_n 0, 1) := dk_42 (dk_at dksX3_fifth_0 14 rfl rfl)
theorem dX3_fifth_15 : decode cX3_fifth 15 = .ok (.getfield 25, 3) := dk_180 0 25 (dk_at dksX3_fifth_0 15 rfl rfl)
theorem dX3_fifth_18 : decode cX3_fifth 18 = .ok (.bipush 8, 2) := dk_16 8 (dk_at dksX3_fifth_0 18 rfl rfl)
theorem dX3_fifth_20 : decode cX3_fifth 20 = .ok (.iload_n 1, 1) := dk_27 (dk_at dksX3_fifth_0 20 rfl rfl)
theorem dX3_fifth_21 : decode cX3_fifth 21 = .ok (.imul, 1) := dk_104 (dk_at dksX3_fifth_0 21 rfl rfl)
theorem dX3_fifth_22 : decode cX3_fifth 22 = .ok (.iload_n 3, 1) := dk_29 (dk_at dksX3_fifth_0 22 rfl rfl)
theorem dX3_fifth_23 : decode cX3_fifth 23 = .ok (.iadd, 1) := dk_96 (dk_at dksX3_fifth_0 23 rfl rfl)
theorem dX3_fifth_24 : decode cX3_fifth 24 = .ok (.iaload, 1) := dk_46 (dk_at dksX3_fifth_1 0 rfl rfl)
theorem dX3_fifth_25 : decode cX3_fifth 25 = .ok (.istore 4, 2) := dk_54 4 (dk_at dksX3_fifth_1 1 rfl rfl)
theorem dX3_fifth_27 : decode cX3_fifth 27 = .ok (.iconst 0, 1) := dk_3 (dk_at dksX3_fifth_1 3 rfl rfl)
theorem dX3_fifth_28 : decode cX3_fifth 28 = .ok (.istore 5, 2) := dk_54 5 (dk_at dksX3_fifth_1 4 rfl rfl)
theorem dX3_fifth_30 : decode cX3_fifth 30 = .ok (.iconst 0, 1) := dk_3 (dk_at dksX3_fifth_1 6 rfl rfl)
theorem dX3_fifth_31 : decode cX3_fifth 31 = .ok (.istore 6, 2) := dk_54 6 (dk_at dksX3_fifth_1 7 rfl rfl)
theorem dX3_fifth_33 : decode cX3_fifth 33 = .ok (.iconst 0, 1) := dk_3 (dk_at dksX3_fifth_1 9 rfl rfl)
theorem dX3_fifth_34 : decode cX3_fifth 34 = .ok (.istore 7, 2) := dk_54 7 (dk_at dksX3_fifth_1 10 rfl rfl)
theorem dX3_fifth_36 : decode cX3_fifth 36 = .ok (.iload 7, 2) := dk_21 7 (dk_at dksX3_fifth_1 12 rfl rfl)
theorem dX3_fifth_38 : decode cX3_fifth 38 = .ok (.aload_n 0, 1) := dk_42 (dk_at dksX3_fifth_1 14 rfl rfl)
theorem dX3_fifth_39 : decode cX3_fifth 39 = .ok (.getfield 19, 3) := dk_180 0 19 (dk_at dksX3_fifth_1 15 rfl rfl)
theorem dX3_fifth_42 : decode cX3_fifth 42 = .ok (.iload_n 1, 1) := dk_27 (dk_at dksX3_fifth_1 18 rfl rfl)
theorem dX3_fifth_43 : decode cX3_fifth 43 = .ok (.iaload, 1) := dk_46 (dk_at dksX3_fifth_1 19 rfl rfl)
theorem dX3_fifth_44 : decode cX3_fifth 44 = .ok (.if_icmp .ge 63, 3) := dk_162 0 63 (dk_at dksX3_fifth_1 20 rfl rfl)
theorem dX3_fifth_47 : decode cX3_fifth 47 = .ok (.iload 5, 2) := dk_21 5 (dk_at dksX3_fifth_2 0 rfl rfl)
theorem dX3_fifth_49 : decode cX3_fifth 49 = .ok (.aload_n 0, 1) := dk_42 (dk_at dksX3_fifth_2 2 rfl rfl)
theorem dX3_fifth_50 : decode cX3_fifth 50 = .ok (.getfield 25, 3) := dk_180 0 25 (dk_at dksX3_fifth_2 3 rfl rfl)
theorem dX3_fifth_53 : decode cX3_fifth 53 = .ok (.bipush 8, 2) := dk_16 8 (dk_at dksX3_fifth_2 6 rfl rfl)
theorem dX3_fifth_55 : decode cX3_fifth 55 = .ok (.iload_n 1, 1) := dk_27 (dk_at dksX3_fifth_2 8 rfl rfl)
theorem dX3_fifth_56 : decode cX3_fifth 56 = .ok (.imul, 1) := dk_104 (dk_at dksX3_fifth_2 9 rfl rfl)
theorem dX3_fifth_57 : decode cX3_fifth 57 = .ok (.iload 7, 2) := dk_21 7 (dk_at dksX3_fifth_2 10 rfl rfl)
theorem dX3_fifth_59 : decode cX3_fifth 59 = .ok (.iadd, 1) := dk_96 (dk_at dksX3_fifth_2 12 rfl rfl)
theorem dX3_fifth_60 : decode cX3_fifth 60 = .ok (.iaload, 1) := dk_46 (dk_at dksX3_fifth_2 13 rfl rfl)
theorem dX3_fifth_61 : decode cX3_fifth 61 = .ok (.iload 4, 2) := dk_21 4 (dk_at dksX3_fifth_2 14 rfl rfl)
theorem dX3_fifth_63 : decode cX3_fifth 63 = .ok (.if_icmp .le 7, 3) := dk_164 0 7 (dk_at dksX3_fifth_2 16 rfl rfl)
theorem dX3_fifth_66 : decode cX3_fifth 66 = .ok (.iconst 1, 1) := dk_4 (dk_at dksX3_fifth_2 19 rfl rfl)
theorem dX3_fifth_67 : decode cX3_fifth 67 = .ok (.goto 4, 3) := dk_167 0 4 (dk_at dksX3_fifth_2 20 rfl rfl)
theorem dX3_fifth_70 : decode cX3_fifth 70 = .ok (.iconst 0, 1) := dk_3 (dk_at dksX3_fifth_2 23 rfl rfl)
theorem dX3_fifth_71 : decode cX3_fifth 71 = .ok (.iadd, 1) := dk_96 (dk_at dksX3_fifth_3 0 rfl rfl)
theorem dX3_fifth_72 : decode cX3_fifth 72 = .ok (.istore 5, 2) := dk_54 5 (dk_at dksX3_fifth_3 1 rfl rfl)
theorem dX3_fifth_74 : decode cX3_fifth 74 = .ok (.iload 6, 2) := dk_21 6 (dk_at dksX3_fifth_3 3 rfl rfl)
theorem dX3_fifth_76 : decode cX3_fifth 76 = .ok (.aload_n 0, 1) := dk_42 (dk_at dksX3_fifth_3 5 rfl rfl)
theorem dX3_fifth_77 : decode cX3_fifth 77 = .ok (.getfield 25, 3) := dk_180 0 25 (dk_at dksX3_fifth_3 6 rfl rfl)
theorem dX3_fifth_80 : decode cX3_fifth 80 = .ok (.bipush 8, 2) := dk_16 8 (dk_at dksX3_fifth_3 9 rfl rfl)
theorem dX3_fifth_82 : decode cX3_fifth 82 = .ok (.iload_n 1, 1) := dk_27 (dk_at dksX3_fifth_3 11 rfl rfl)
theorem dX3_fifth_83 : decode cX3_fifth 83 = .ok (.imul, 1) := dk_104 (dk_at dksX3_fifth_3 12 rfl rfl)
theorem dX3_fifth_84 : decode cX3_fifth 84 = .ok (.iload 7, 2) := dk_21 7 (dk_at dksX3_fifth_3 13 rfl rfl)
theorem dX3_fifth_86 : decode cX3_fifth 86 = .ok (.iadd, 1) := dk_96 (dk_at dksX3_fifth_3 15 rfl rfl)
theorem dX3_fifth_87 : decode cX3_fifth 87 = .ok (.iaload, 1) := dk_46 (dk_at dksX3_fifth_3 16 rfl rfl)
theorem dX3_fifth_88 : decode cX3_fifth 88 = .ok (.iload 4, 2) := dk_21 4 (dk_at dksX3_fifth_3 17 rfl rfl)
theorem dX3_fifth_90 : decode cX3_fifth 90 = .ok (.if_icmp .ne 7, 3) := dk_160 0 7 (dk_at dksX3_fifth_3 19 rfl rfl)
theorem dX3_fifth_93 : decode cX3_fifth 93 = .ok (.iconst 1, 1) := dk_4 (dk_at dksX3_fifth_3 22 rfl rfl)
theorem dX3_fifth_94 : decode cX3_fifth 94 = .ok (.goto 4, 3) := dk_167 0 4 (dk_at dksX3_fifth_4 0 rfl rfl)
theorem dX3_fifth_97 : decode cX3_fifth 97 = .ok (.iconst 0, 1) := dk_3 (dk_at dksX3_fifth_4 3 rfl rfl)
theorem dX3_fifth_98 : decode cX3_fifth 98 = .ok (.iadd, 1) := dk_96 (dk_at dksX3_fifth_4 4 rfl rfl)
theorem dX3_fifth_99 : decode cX3_fifth 99 = .ok (.istore 6, 2) := dk_54 6 (dk_at dksX3_fifth_4 5 rfl rfl)
theorem dX3_fifth_101 : decode cX3_fifth 101 = .ok (.iinc 7 1, 3) := dk_132 7 1 (dk_at dksX3_fifth_4 7 rfl rfl)
theorem dX3_fifth_104 : decode cX3_fifth 104 = .ok (.goto (-68), 3) := dk_167 255 188 (dk_at dksX3_fifth_4 10 rfl rfl)
theorem dX3_fifth_107 : decode cX3_fifth 107 = .ok (.iload 5, 2) := dk_21 5 (dk_at dksX3_fifth_4 13 rfl rfl)
theorem dX3_fifth_109 : decode cX3_fifth 109 = .ok (.iconst 4, 1) := dk_7 (dk_at dksX3_fifth_4 15 rfl rfl)
theorem dX3_fifth_110 : decode cX3_fifth 110 = .ok (.if_icmp .gt 17, 3) := dk_163 0 17 (dk_at dksX3_fifth_4 16 rfl rfl)
theorem dX3_fifth_113 : decode cX3_fifth 113 = .ok (.iload 5, 2) := dk_21 5 (dk_at dksX3_fifth_4 19 rfl rfl)
theorem dX3_fifth_115 : decode cX3_fifth 115 = .ok (.iload 6, 2) := dk_21 6 (dk_at dksX3_fifth_4 21 rfl rfl)
theorem dX3_fifth_117 : decode cX3_fifth 117 = .ok (.iadd, 1) := dk_96 (dk_at dksX3_fifth_4 23 rfl rfl)
theorem dX3_fifth_118 : decode cX3_fifth 118 = .ok (.iconst 4, 1) := dk_7 (dk_at dksX3_fifth_5 0 rfl rfl)
theorem dX3_fifth_119 : decode cX3_fifth 119 = .ok (.if_icmp .le 8, 3) := dk_164 0 8 (dk_at dksX3_fifth_5 1 rfl rfl)
theorem dX3_fifth_122 : decode cX3_fifth 122 = .ok (.iload 4, 2) := dk_21 4 (dk_at dksX3_fifth_5 4 rfl rfl)
theorem dX3_fifth_124 : decode cX3_fifth 124 = .ok (.goto 4, 3) := dk_167 0 4 (dk_at dksX3_fifth_5 6 rfl rfl)
theorem dX3_fifth_127 : decode cX3_fifth 127 = .ok (.iload_n 2, 1) := dk_28 (dk_at dksX3_fifth_5 9 rfl rfl)
theorem dX3_fifth_128 : decode cX3_fifth 128 = .ok (.istore_n 2, 1) := dk_61 (dk_at dksX3_fifth_5 10 rfl rfl)
theorem dX3_fifth_129 : decode cX3_fifth 129 = .ok (.iinc 3 1, 3) := dk_132 3 1 (dk_at dksX3_fifth_5 11 rfl rfl)
theorem dX3_fifth_132 : decode cX3_fifth 132 = .ok (.goto (-128), 3) := dk_167 255 128 (dk_at dksX3_fifth_5 14 rfl rfl)
theorem dX3_fifth_135 : decode cX3_fifth 135 = .ok (.iload_n 2, 1) := dk_28 (dk_at dksX3_fifth_5 17 rfl rfl)
theorem dX3_fifth_136 : decode cX3_fifth 136 = .ok (.ireturn, 1) := dk_172 (dk_at dksX3_fifth_5 18 rfl rfl)
abbrev cX3_clear : ByteArray := prog_9_method_23_code
def yX3_clear : MethodName := ⟨RX3, "clear", "(I)I"⟩
def dkwX3_clear_4 : List UInt8 := [42, 180, 0, 28, 27, 3, 79, 28, 172]
abbrev dktX3_clear_4 : List UInt8 := dkwX3_clear_4 ++ []
def dkwX3_clear_3 : List UInt8 := [29, 96, 3, 79, 132, 3, 1, 167, 255, 235, 42, 180, 0, 13, 27, 3, 79, 42, 180, 0, 19, 27, 3, 79]
abbrev dktX3_clear_3 : List UInt8 := dkwX3_clear_3 ++ dktX3_clear_4
def dkwX3_clear_2 : List UInt8 := [3, 79, 132, 3, 1, 167, 255, 235, 3, 62, 29, 16, 72, 162, 0, 21, 42, 180, 0, 16, 16, 72, 27, 104]
abbrev dktX3_clear_2 : List UInt8 := dkwX3_clear_2 ++ dktX3_clear_3
def dkwX3_clear_1 : List UInt8 := [180, 0, 13, 27, 46, 61, 3, 62, 29, 16, 64, 162, 0, 21, 42, 180, 0, 7, 16, 64, 27, 104, 29, 96]
abbrev dktX3_clear_1 : List UInt8 := dkwX3_clear_1 ++ dktX3_clear_2
def dkwX3_clear_0 : List UInt8 := [42, 27, 184, 0, 79, 153, 0, 7, 3, 167, 0, 4, 4, 182, 0, 84, 154, 0, 5, 3, 172, 42]
abbrev dktX3_clear_0 : List UInt8 := dkwX3_clear_0 ++ dktX3_clear_1
theorem dksX3_clear_0 : cX3_clear.data.toList.drop 0 = dktX3_clear_0 := by decide +kernel
theorem dksX3_clear_1 : cX3_clear.data.toList.drop 22 = dktX3_clear_1 := dk_seg dksX3_clear_0 22 rfl rfl
theorem dksX3_clear_2 : cX3_clear.data.toList.drop 46 = dktX3_clear_2 := dk_seg dksX3_clear_1 24 rfl rfl
theorem dksX3_clear_3 : cX3_clear.data.toList.drop 70 = dktX3_clear_3 := dk_seg dksX3_clear_2 24 rfl rfl
theorem dksX3_clear_4 : cX3_clear.data.toList.drop 94 = dktX3_clear_4 := dk_seg dksX3_clear_3 24 rfl rfl
theorem dX3_clear_0 : decode cX3_clear 0 = .ok (.aload_n 0, 1) := dk_42 (dk_at dksX3_clear_0 0 rfl rfl)
theorem dX3_clear_1 : decode cX3_clear 1 = .ok (.iload_n 1, 1) := dk_27 (dk_at dksX3_clear_0 1 rfl rfl)
theorem dX3_clear_2 : decode cX3_clear 2 = .ok (.invokestatic 79, 3) := dk_184 0 79 (dk_at dksX3_clear_0 2 rfl rfl)
theorem dX3_clear_5 : decode cX3_clear 5 = .ok (.ifCond .eq 7, 3) := dk_153 0 7 (dk_at dksX3_clear_0 5 rfl rfl)
theorem dX3_clear_8 : decode cX3_clear 8 = .ok (.iconst 0, 1) := dk_3 (dk_at dksX3_clear_0 8 rfl rfl)
theorem dX3_clear_9 : decode cX3_clear 9 = .ok (.goto 4, 3) := dk_167 0 4 (dk_at dksX3_clear_0 9 rfl rfl)
theorem dX3_clear_12 : decode cX3_clear 12 = .ok (.iconst 1, 1) := dk_4 (dk_at dksX3_clear_0 12 rfl rfl)
theorem dX3_clear_13 : decode cX3_clear 13 = .ok (.invokevirtual 84, 3) := dk_182 0 84 (dk_at dksX3_clear_0 13 rfl rfl)
theorem dX3_clear_16 : decode cX3_clear 16 = .ok (.ifCond .ne 5, 3) := dk_154 0 5 (dk_at dksX3_clear_0 16 rfl rfl)
theorem dX3_clear_19 : decode cX3_clear 19 = .ok (.iconst 0, 1) := dk_3 (dk_at dksX3_clear_0 19 rfl rfl)
theorem dX3_clear_20 : decode cX3_clear 20 = .ok (.ireturn, 1) := dk_172 (dk_at dksX3_clear_0 20 rfl rfl)
theorem dX3_clear_21 : decode cX3_clear 21 = .ok (.aload_n 0, 1) := dk_42 (dk_at dksX3_clear_0 21 rfl rfl)
theorem dX3_clear_22 : decode cX3_clear 22 = .ok (.getfield 13, 3) := dk_180 0 13 (dk_at dksX3_clear_1 0 rfl rfl)
theorem dX3_clear_25 : decode cX3_clear 25 = .ok (.iload_n 1, 1) := dk_27 (dk_at dksX3_clear_1 3 rfl rfl)
theorem dX3_clear_26 : decode cX3_clear 26 = .ok (.iaload, 1) := dk_46 (dk_at dksX3_clear_1 4 rfl rfl)
theorem dX3_clear_27 : decode cX3_clear 27 = .ok (.istore_n 2, 1) := dk_61 (dk_at dksX3_clear_1 5 rfl rfl)
theorem dX3_clear_28 : decode cX3_clear 28 = .ok (.iconst 0, 1) := dk_3 (dk_at dksX3_clear_1 6 rfl rfl)
theorem dX3_clear_29 : decode cX3_clear 29 = .ok (.istore_n 3, 1) := dk_62 (dk_at dksX3_clear_1 7 rfl rfl)
theorem dX3_clear_30 : decode cX3_clear 30 = .ok (.iload_n 3, 1) := dk_29 (dk_at dksX3_clear_1 8 rfl rfl)
theorem dX3_clear_31 : decode cX3_clear 31 = .ok (.bipush 64, 2) := dk_16 64 (dk_at dksX3_clear_1 9 rfl rfl)
theorem dX3_clear_33 : decode cX3_clear 33 = .ok (.if_icmp .ge 21, 3) := dk_162 0 21 (dk_at dksX3_clear_1 11 rfl rfl)
theorem dX3_clear_36 : decode cX3_clear 36 = .ok (.aload_n 0, 1) := dk_42 (dk_at dksX3_clear_1 14 rfl rfl)
theorem dX3_clear_37 : decode cX3_clear 37 = .ok (.getfield 7, 3) := dk_180 0 7 (dk_at dksX3_clear_1 15 rfl rfl)
theorem dX3_clear_40 : decode cX3_clear 40 = .ok (.bipush 64, 2) := dk_16 64 (dk_at dksX3_clear_1 18 rfl rfl)
theorem dX3_clear_42 : decode cX3_clear 42 = .ok (.iload_n 1, 1) := dk_27 (dk_at dksX3_clear_1 20 rfl rfl)
theorem dX3_clear_43 : decode cX3_clear 43 = .ok (.imul, 1) := dk_104 (dk_at dksX3_clear_1 21 rfl rfl)
theorem dX3_clear_44 : decode cX3_clear 44 = .ok (.iload_n 3, 1) := dk_29 (dk_at dksX3_clear_1 22 rfl rfl)
theorem dX3_clear_45 : decode cX3_clear 45 = .ok (.iadd, 1) := dk_96 (dk_at dksX3_clear_1 23 rfl rfl)
theorem dX3_clear_46 : decode cX3_clear 46 = .ok (.iconst 0, 1) := dk_3 (dk_at dksX3_clear_2 0 rfl rfl)
theorem dX3_clear_47 : decode cX3_clear 47 = .ok (.iastore, 1) := dk_79 (dk_at dksX3_clear_2 1 rfl rfl)
theorem dX3_clear_48 : decode cX3_clear 48 = .ok (.iinc 3 1, 3) := dk_132 3 1 (dk_at dksX3_clear_2 2 rfl rfl)
theorem dX3_clear_51 : decode cX3_clear 51 = .ok (.goto (-21), 3) := dk_167 255 235 (dk_at dksX3_clear_2 5 rfl rfl)
theorem dX3_clear_54 : decode cX3_clear 54 = .ok (.iconst 0, 1) := dk_3 (dk_at dksX3_clear_2 8 rfl rfl)
theorem dX3_clear_55 : decode cX3_clear 55 = .ok (.istore_n 3, 1) := dk_62 (dk_at dksX3_clear_2 9 rfl rfl)
theorem dX3_clear_56 : decode cX3_clear 56 = .ok (.iload_n 3, 1) := dk_29 (dk_at dksX3_clear_2 10 rfl rfl)
theorem dX3_clear_57 : decode cX3_clear 57 = .ok (.bipush 72, 2) := dk_16 72 (dk_at dksX3_clear_2 11 rfl rfl)
theorem dX3_clear_59 : decode cX3_clear 59 = .ok (.if_icmp .ge 21, 3) := dk_162 0 21 (dk_at dksX3_clear_2 13 rfl rfl)
theorem dX3_clear_62 : decode cX3_clear 62 = .ok (.aload_n 0, 1) := dk_42 (dk_at dksX3_clear_2 16 rfl rfl)
theorem dX3_clear_63 : decode cX3_clear 63 = .ok (.getfield 16, 3) := dk_180 0 16 (dk_at dksX3_clear_2 17 rfl rfl)
theorem dX3_clear_66 : decode cX3_clear 66 = .ok (.bipush 72, 2) := dk_16 72 (dk_at dksX3_clear_2 20 rfl rfl)
theorem dX3_clear_68 : decode cX3_clear 68 = .ok (.iload_n 1, 1) := dk_27 (dk_at dksX3_clear_2 22 rfl rfl)
theorem dX3_clear_69 : decode cX3_clear 69 = .ok (.imul, 1) := dk_104 (dk_at dksX3_clear_2 23 rfl rfl)
theorem dX3_clear_70 : decode cX3_clear 70 = .ok (.iload_n 3, 1) := dk_29 (dk_at dksX3_clear_3 0 rfl rfl)
theorem dX3_clear_71 : decode cX3_clear 71 = .ok (.iadd, 1) := dk_96 (dk_at dksX3_clear_3 1 rfl rfl)
theorem dX3_clear_72 : decode cX3_clear 72 = .ok (.iconst 0, 1) := dk_3 (dk_at dksX3_clear_3 2 rfl rfl)
theorem dX3_clear_73 : decode cX3_clear 73 = .ok (.iastore, 1) := dk_79 (dk_at dksX3_clear_3 3 rfl rfl)
theorem dX3_clear_74 : decode cX3_clear 74 = .ok (.iinc 3 1, 3) := dk_132 3 1 (dk_at dksX3_clear_3 4 rfl rfl)
theorem dX3_clear_77 : decode cX3_clear 77 = .ok (.goto (-21), 3) := dk_167 255 235 (dk_at dksX3_clear_3 7 rfl rfl)
theorem dX3_clear_80 : decode cX3_clear 80 = .ok (.aload_n 0, 1) := dk_42 (dk_at dksX3_clear_3 10 rfl rfl)
theorem dX3_clear_81 : decode cX3_clear 81 = .ok (.getfield 13, 3) := dk_180 0 13 (dk_at dksX3_clear_3 11 rfl rfl)
theorem dX3_clear_84 : decode cX3_clear 84 = .ok (.iload_n 1, 1) := dk_27 (dk_at dksX3_clear_3 14 rfl rfl)
theorem dX3_clear_85 : decode cX3_clear 85 = .ok (.iconst 0, 1) := dk_3 (dk_at dksX3_clear_3 15 rfl rfl)
theorem dX3_clear_86 : decode cX3_clear 86 = .ok (.iastore, 1) := dk_79 (dk_at dksX3_clear_3 16 rfl rfl)
theorem dX3_clear_87 : decode cX3_clear 87 = .ok (.aload_n 0, 1) := dk_42 (dk_at dksX3_clear_3 17 rfl rfl)
theorem dX3_clear_88 : decode cX3_clear 88 = .ok (.getfield 19, 3) := dk_180 0 19 (dk_at dksX3_clear_3 18 rfl rfl)
theorem dX3_clear_91 : decode cX3_clear 91 = .ok (.iload_n 1, 1) := dk_27 (dk_at dksX3_clear_3 21 rfl rfl)
theorem dX3_clear_92 : decode cX3_clear 92 = .ok (.iconst 0, 1) := dk_3 (dk_at dksX3_clear_3 22 rfl rfl)
theorem dX3_clear_93 : decode cX3_clear 93 = .ok (.iastore, 1) := dk_79 (dk_at dksX3_clear_3 23 rfl rfl)
theorem dX3_clear_94 : decode cX3_clear 94 = .ok (.aload_n 0, 1) := dk_42 (dk_at dksX3_clear_4 0 rfl rfl)
theorem dX3_clear_95 : decode cX3_clear 95 = .ok (.getfield 28, 3) := dk_180 0 28 (dk_at dksX3_clear_4 1 rfl rfl)
theorem dX3_clear_98 : decode cX3_clear 98 = .ok (.iload_n 1, 1) := dk_27 (dk_at dksX3_clear_4 4 rfl rfl)
theorem dX3_clear_99 : decode cX3_clear 99 = .ok (.iconst 0, 1) := dk_3 (dk_at dksX3_clear_4 5 rfl rfl)
theorem dX3_clear_100 : decode cX3_clear 100 = .ok (.iastore, 1) := dk_79 (dk_at dksX3_clear_4 6 rfl rfl)
theorem dX3_clear_101 : decode cX3_clear 101 = .ok (.iload_n 2, 1) := dk_28 (dk_at dksX3_clear_4 7 rfl rfl)
theorem dX3_clear_102 : decode cX3_clear 102 = .ok (.ireturn, 1) := dk_172 (dk_at dksX3_clear_4 8 rfl rfl)
abbrev cX3_total : ByteArray := prog_9_method_24_code
def yX3_total : MethodName := ⟨RX3, "total", "(I)I"⟩
def dkwX3_total_1 : List UInt8 := [46, 167, 0, 4, 3, 172]
abbrev dktX3_total_1 : List UInt8 := dkwX3_total_1 ++ []
def dkwX3_total_0 : List UInt8 := [42, 27, 184, 0, 79, 153, 0, 7, 3, 167, 0, 4, 4, 182, 0, 84, 153, 0, 12, 42, 180, 0, 13, 27]
abbrev dktX3_total_0 : List UInt8 := dkwX3_total_0 ++ dktX3_total_1
theorem dksX3_total_0 : cX3_total.data.toList.drop 0 = dktX3_total_0 := by decide +kernel
theorem dksX3_total_1 : cX3_total.data.toList.drop 24 = dktX3_total_1 := dk_seg dksX3_total_0 24 rfl rfl
theorem dX3_total_0 : decode cX3_total 0 = .ok (.aload_n 0, 1) := dk_42 (dk_at dksX3_total_0 0 rfl rfl)
theorem dX3_total_1 : decode cX3_total 1 = .ok (.iload_n 1, 1) := dk_27 (dk_at dksX3_total_0 1 rfl rfl)
theorem dX3_total_2 : decode cX3_total 2 = .ok (.invokestatic 79, 3) := dk_184 0 79 (dk_at dksX3_total_0 2 rfl rfl)
theorem dX3_total_5 : decode cX3_total 5 = .ok (.ifCond .eq 7, 3) := dk_153 0 7 (dk_at dksX3_total_0 5 rfl rfl)
theorem dX3_total_8 : decode cX3_total 8 = .ok (.iconst 0, 1) := dk_3 (dk_at dksX3_total_0 8 rfl rfl)
theorem dX3_total_9 : decode cX3_total 9 = .ok (.goto 4, 3) := dk_167 0 4 (dk_at dksX3_total_0 9 rfl rfl)
theorem dX3_total_12 : decode cX3_total 12 = .ok (.iconst 1, 1) := dk_4 (dk_at dksX3_total_0 12 rfl rfl)
theorem dX3_total_13 : decode cX3_total 13 = .ok (.invokevirtual 84, 3) := dk_182 0 84 (dk_at dksX3_total_0 13 rfl rfl)
theorem dX3_total_16 : decode cX3_total 16 = .ok (.ifCond .eq 12, 3) := dk_153 0 12 (dk_at dksX3_total_0 16 rfl rfl)
theorem dX3_total_19 : decode cX3_total 19 = .ok (.aload_n 0, 1) := dk_42 (dk_at dksX3_total_0 19 rfl rfl)
theorem dX3_total_20 : decode cX3_total 20 = .ok (.getfield 13, 3) := dk_180 0 13 (dk_at dksX3_total_0 20 rfl rfl)
theorem dX3_total_23 : decode cX3_total 23 = .ok (.iload_n 1, 1) := dk_27 (dk_at dksX3_total_0 23 rfl rfl)
theorem dX3_total_24 : decode cX3_total 24 = .ok (.iaload, 1) := dk_46 (dk_at dksX3_total_1 0 rfl rfl)
theorem dX3_total_25 : decode cX3_total 25 = .ok (.goto 4, 3) := dk_167 0 4 (dk_at dksX3_total_1 1 rfl rfl)
theorem dX3_total_28 : decode cX3_total 28 = .ok (.iconst 0, 1) := dk_3 (dk_at dksX3_total_1 4 rfl rfl)
theorem dX3_total_29 : decode cX3_total 29 = .ok (.ireturn, 1) := dk_172 (dk_at dksX3_total_1 5 rfl rfl)
abbrev cX3_count : ByteArray := prog_9_method_26_code
def yX3_count : MethodName := ⟨RX3, "count", "(II)I"⟩
def dkwX3_count_1 : List UInt8 := [172]
abbrev dktX3_count_1 : List UInt8 := dkwX3_count_1 ++ []
def dkwX3_count_0 : List UInt8 := [42, 27, 28, 182, 0, 96, 153, 0, 17, 42, 180, 0, 7, 16, 64, 27, 104, 28, 96, 46, 167, 0, 4, 3]
abbrev dktX3_count_0 : List UInt8 := dkwX3_count_0 ++ dktX3_count_1
theorem dksX3_count_0 : cX3_count.data.toList.drop 0 = dktX3_count_0 := by decide +kernel
theorem dksX3_count_1 : cX3_count.data.toList.drop 24 = dktX3_count_1 := dk_seg dksX3_count_0 24 rfl rfl
theorem dX3_count_0 : decode cX3_count 0 = .ok (.aload_n 0, 1) := dk_42 (dk_at dksX3_count_0 0 rfl rfl)
theorem dX3_count_1 : decode cX3_count 1 = .ok (.iload_n 1, 1) := dk_27 (dk_at dksX3_count_0 1 rfl rfl)
theorem dX3_count_2 : decode cX3_count 2 = .ok (.iload_n 2, 1) := dk_28 (dk_at dksX3_count_0 2 rfl rfl)
theorem dX3_count_3 : decode cX3_count 3 = .ok (.invokevirtual 96, 3) := dk_182 0 96 (dk_at dksX3_count_0 3 rfl rfl)
theorem dX3_count_6 : decode cX3_count 6 = .ok (.ifCond .eq 17, 3) := dk_153 0 17 (dk_at dksX3_count_0 6 rfl rfl)
theorem dX3_count_9 : decode cX3_count 9 = .ok (.aload_n 0, 1) := dk_42 (dk_at dksX3_count_0 9 rfl rfl)
theorem dX3_count_10 : decode cX3_count 10 = .ok (.getfield 7, 3) := dk_180 0 7 (dk_at dksX3_count_0 10 rfl rfl)
theorem dX3_count_13 : decode cX3_count 13 = .ok (.bipush 64, 2) := dk_16 64 (dk_at dksX3_count_0 13 rfl rfl)
theorem dX3_count_15 : decode cX3_count 15 = .ok (.iload_n 1, 1) := dk_27 (dk_at dksX3_count_0 15 rfl rfl)
theorem dX3_count_16 : decode cX3_count 16 = .ok (.imul, 1) := dk_104 (dk_at dksX3_count_0 16 rfl rfl)
theorem dX3_count_17 : decode cX3_count 17 = .ok (.iload_n 2, 1) := dk_28 (dk_at dksX3_count_0 17 rfl rfl)
theorem dX3_count_18 : decode cX3_count 18 = .ok (.iadd, 1) := dk_96 (dk_at dksX3_count_0 18 rfl rfl)
theorem dX3_count_19 : decode cX3_count 19 = .ok (.iaload, 1) := dk_46 (dk_at dksX3_count_0 19 rfl rfl)
theorem dX3_count_20 : decode cX3_count 20 = .ok (.goto 4, 3) := dk_167 0 4 (dk_at dksX3_count_0 20 rfl rfl)
theorem dX3_count_23 : decode cX3_count 23 = .ok (.iconst 0, 1) := dk_3 (dk_at dksX3_count_0 23 rfl rfl)
theorem dX3_count_24 : decode cX3_count 24 = .ok (.ireturn, 1) := dk_172 (dk_at dksX3_count_1 0 rfl rfl)
abbrev cX3_isItem : ByteArray := prog_9_method_25_code
def yX3_isItem : MethodName := ⟨RX3, "isItem", "(II)Z"⟩
def dkwX3_isItem_1 : List UInt8 := [182, 0, 84, 172]
abbrev dktX3_isItem_1 : List UInt8 := dkwX3_isItem_1 ++ []
def dkwX3_isItem_0 : List UInt8 := [42, 27, 184, 0, 79, 153, 0, 16, 28, 16, 64, 184, 0, 39, 153, 0, 7, 3, 167, 0, 4, 4]
abbrev dktX3_isItem_0 : List UInt8 := dkwX3_isItem_0 ++ dktX3_isItem_1
theorem dksX3_isItem_0 : cX3_isItem.data.toList.drop 0 = dktX3_isItem_0 := by decide +kernel
theorem dksX3_isItem_1 : cX3_isItem.data.toList.drop 22 = dktX3_isItem_1 := dk_seg dksX3_isItem_0 22 rfl rfl
theorem dX3_isItem_0 : decode cX3_isItem 0 = .ok (.aload_n 0, 1) := dk_42 (dk_at dksX3_isItem_0 0 rfl rfl)
theorem dX3_isItem_1 : decode cX3_isItem 1 = .ok (.iload_n 1, 1) := dk_27 (dk_at dksX3_isItem_0 1 rfl rfl)
theorem dX3_isItem_2 : decode cX3_isItem 2 = .ok (.invokestatic 79, 3) := dk_184 0 79 (dk_at dksX3_isItem_0 2 rfl rfl)
theorem dX3_isItem_5 : decode cX3_isItem 5 = .ok (.ifCond .eq 16, 3) := dk_153 0 16 (dk_at dksX3_isItem_0 5 rfl rfl)
theorem dX3_isItem_8 : decode cX3_isItem 8 = .ok (.iload_n 2, 1) := dk_28 (dk_at dksX3_isItem_0 8 rfl rfl)
theorem dX3_isItem_9 : decode cX3_isItem 9 = .ok (.bipush 64, 2) := dk_16 64 (dk_at dksX3_isItem_0 9 rfl rfl)
theorem dX3_isItem_11 : decode cX3_isItem 11 = .ok (.invokestatic 39, 3) := dk_184 0 39 (dk_at dksX3_isItem_0 11 rfl rfl)
theorem dX3_isItem_14 : decode cX3_isItem 14 = .ok (.ifCond .eq 7, 3) := dk_153 0 7 (dk_at dksX3_isItem_0 14 rfl rfl)
theorem dX3_isItem_17 : decode cX3_isItem 17 = .ok (.iconst 0, 1) := dk_3 (dk_at dksX3_isItem_0 17 rfl rfl)
theorem dX3_isItem_18 : decode cX3_isItem 18 = .ok (.goto 4, 3) := dk_167 0 4 (dk_at dksX3_isItem_0 18 rfl rfl)
theorem dX3_isItem_21 : decode cX3_isItem 21 = .ok (.iconst 1, 1) := dk_4 (dk_at dksX3_isItem_0 21 rfl rfl)
theorem dX3_isItem_22 : decode cX3_isItem 22 = .ok (.invokevirtual 84, 3) := dk_182 0 84 (dk_at dksX3_isItem_1 0 rfl rfl)
theorem dX3_isItem_25 : decode cX3_isItem 25 = .ok (.ireturn, 1) := dk_172 (dk_at dksX3_isItem_1 3 rfl rfl)
abbrev cX3_countOfRange : ByteArray := prog_9_method_28_code
def yX3_countOfRange : MethodName := ⟨RX3, "countOfRange", "(III)I"⟩
def dkwX3_countOfRange_1 : List UInt8 := [172]
abbrev dktX3_countOfRange_1 : List UInt8 := dkwX3_countOfRange_1 ++ []
def dkwX3_countOfRange_0 : List UInt8 := [42, 27, 184, 0, 79, 28, 29, 182, 0, 99, 153, 0, 13, 42, 27, 28, 29, 182, 0, 50, 167, 0, 4, 3]
abbrev dktX3_countOfRange_0 : List UInt8 := dkwX3_countOfRange_0 ++ dktX3_countOfRange_1
theorem dksX3_countOfRange_0 : cX3_countOfRange.data.toList.drop 0 = dktX3_countOfRange_0 := by decide +kernel
theorem dksX3_countOfRange_1 : cX3_countOfRange.data.toList.drop 24 = dktX3_countOfRange_1 := dk_seg dksX3_countOfRange_0 24 rfl rfl
theorem dX3_countOfRange_0 : decode cX3_countOfRange 0 = .ok (.aload_n 0, 1) := dk_42 (dk_at dksX3_countOfRange_0 0 rfl rfl)
theorem dX3_countOfRange_1 : decode cX3_countOfRange 1 = .ok (.iload_n 1, 1) := dk_27 (dk_at dksX3_countOfRange_0 1 rfl rfl)
theorem dX3_countOfRange_2 : decode cX3_countOfRange 2 = .ok (.invokestatic 79, 3) := dk_184 0 79 (dk_at dksX3_countOfRange_0 2 rfl rfl)
theorem dX3_countOfRange_5 : decode cX3_countOfRange 5 = .ok (.iload_n 2, 1) := dk_28 (dk_at dksX3_countOfRange_0 5 rfl rfl)
theorem dX3_countOfRange_6 : decode cX3_countOfRange 6 = .ok (.iload_n 3, 1) := dk_29 (dk_at dksX3_countOfRange_0 6 rfl rfl)
theorem dX3_countOfRange_7 : decode cX3_countOfRange 7 = .ok (.invokevirtual 99, 3) := dk_182 0 99 (dk_at dksX3_countOfRange_0 7 rfl rfl)
theorem dX3_countOfRange_10 : decode cX3_countOfRange 10 = .ok (.ifCond .eq 13, 3) := dk_153 0 13 (dk_at dksX3_countOfRange_0 10 rfl rfl)
theorem dX3_countOfRange_13 : decode cX3_countOfRange 13 = .ok (.aload_n 0, 1) := dk_42 (dk_at dksX3_countOfRange_0 13 rfl rfl)
theorem dX3_countOfRange_14 : decode cX3_countOfRange 14 = .ok (.iload_n 1, 1) := dk_27 (dk_at dksX3_countOfRange_0 14 rfl rfl)
theorem dX3_countOfRange_15 : decode cX3_countOfRange 15 = .ok (.iload_n 2, 1) := dk_28 (dk_at dksX3_countOfRange_0 15 rfl rfl)
theorem dX3_countOfRange_16 : decode cX3_countOfRange 16 = .ok (.iload_n 3, 1) := dk_29 (dk_at dksX3_countOfRange_0 16 rfl rfl)
theorem dX3_countOfRange_17 : decode cX3_countOfRange 17 = .ok (.invokevirtual 50, 3) := dk_182 0 50 (dk_at dksX3_countOfRange_0 17 rfl rfl)
theorem dX3_countOfRange_20 : decode cX3_countOfRange 20 = .ok (.goto 4, 3) := dk_167 0 4 (dk_at dksX3_countOfRange_0 20 rfl rfl)
theorem dX3_countOfRange_23 : decode cX3_countOfRange 23 = .ok (.iconst 0, 1) := dk_3 (dk_at dksX3_countOfRange_0 23 rfl rfl)
theorem dX3_countOfRange_24 : decode cX3_countOfRange 24 = .ok (.ireturn, 1) := dk_172 (dk_at dksX3_countOfRange_1 0 rfl rfl)
abbrev cX3_isRange : ByteArray := prog_9_method_27_code
def yX3_isRange : MethodName := ⟨RX3, "isRange", "(ZII)Z"⟩
def dkwX3_isRange_2 : List UInt8 := [167, 0, 4, 3, 182, 0, 84, 172]
abbrev dktX3_isRange_2 : List UInt8 := dkwX3_isRange_2 ++ []
def dkwX3_isRange_1 : List UInt8 := [167, 0, 4, 3, 54, 4, 42, 21, 4, 154, 0, 7, 4, 167, 0, 13, 29, 28, 162, 0, 7, 5]
abbrev dktX3_isRange_1 : List UInt8 := dkwX3_isRange_1 ++ dktX3_isRange_2
def dkwX3_isRange_0 : List UInt8 := [27, 153, 0, 25, 28, 16, 64, 184, 0, 39, 153, 0, 16, 29, 16, 64, 184, 0, 39, 153, 0, 7, 4]
abbrev dktX3_isRange_0 : List UInt8 := dkwX3_isRange_0 ++ dktX3_isRange_1
theorem dksX3_isRange_0 : cX3_isRange.data.toList.drop 0 = dktX3_isRange_0 := by decide +kernel
theorem dksX3_isRange_1 : cX3_isRange.data.toList.drop 23 = dktX3_isRange_1 := dk_seg dksX3_isRange_0 23 rfl rfl
theorem dksX3_isRange_2 : cX3_isRange.data.toList.drop 45 = dktX3_isRange_2 := dk_seg dksX3_isRange_1 22 rfl rfl
theorem dX3_isRange_0 : decode cX3_isRange 0 = .ok (.iload_n 1, 1) := dk_27 (dk_at dksX3_isRange_0 0 rfl rfl)
theorem dX3_isRange_1 : decode cX3_isRange 1 = .ok (.ifCond .eq 25, 3) := dk_153 0 25 (dk_at dksX3_isRange_0 1 rfl rfl)
theorem dX3_isRange_4 : decode cX3_isRange 4 = .ok (.iload_n 2, 1) := dk_28 (dk_at dksX3_isRange_0 4 rfl rfl)
theorem dX3_isRange_5 : decode cX3_isRange 5 = .ok (.bipush 64, 2) := dk_16 64 (dk_at dksX3_isRange_0 5 rfl rfl)
theorem dX3_isRange_7 : decode cX3_isRange 7 = .ok (.invokestatic 39, 3) := dk_184 0 39 (dk_at dksX3_isRange_0 7 rfl rfl)
theorem dX3_isRange_10 : decode cX3_isRange 10 = .ok (.ifCond .eq 16, 3) := dk_153 0 16 (dk_at dksX3_isRange_0 10 rfl rfl)
theorem dX3_isRange_13 : decode cX3_isRange 13 = .ok (.iload_n 3, 1) := dk_29 (dk_at dksX3_isRange_0 13 rfl rfl)
theorem dX3_isRange_14 : decode cX3_isRange 14 = .ok (.bipush 64, 2) := dk_16 64 (dk_at dksX3_isRange_0 14 rfl rfl)
theorem dX3_isRange_16 : decode cX3_isRange 16 = .ok (.invokestatic 39, 3) := dk_184 0 39 (dk_at dksX3_isRange_0 16 rfl rfl)
theorem dX3_isRange_19 : decode cX3_isRange 19 = .ok (.ifCond .eq 7, 3) := dk_153 0 7 (dk_at dksX3_isRange_0 19 rfl rfl)
theorem dX3_isRange_22 : decode cX3_isRange 22 = .ok (.iconst 1, 1) := dk_4 (dk_at dksX3_isRange_0 22 rfl rfl)
theorem dX3_isRange_23 : decode cX3_isRange 23 = .ok (.goto 4, 3) := dk_167 0 4 (dk_at dksX3_isRange_1 0 rfl rfl)
theorem dX3_isRange_26 : decode cX3_isRange 26 = .ok (.iconst 0, 1) := dk_3 (dk_at dksX3_isRange_1 3 rfl rfl)
theorem dX3_isRange_27 : decode cX3_isRange 27 = .ok (.istore 4, 2) := dk_54 4 (dk_at dksX3_isRange_1 4 rfl rfl)
theorem dX3_isRange_29 : decode cX3_isRange 29 = .ok (.aload_n 0, 1) := dk_42 (dk_at dksX3_isRange_1 6 rfl rfl)
theorem dX3_isRange_30 : decode cX3_isRange 30 = .ok (.iload 4, 2) := dk_21 4 (dk_at dksX3_isRange_1 7 rfl rfl)
theorem dX3_isRange_32 : decode cX3_isRange 32 = .ok (.ifCond .ne 7, 3) := dk_154 0 7 (dk_at dksX3_isRange_1 9 rfl rfl)
theorem dX3_isRange_35 : decode cX3_isRange 35 = .ok (.iconst 1, 1) := dk_4 (dk_at dksX3_isRange_1 12 rfl rfl)
theorem dX3_isRange_36 : decode cX3_isRange 36 = .ok (.goto 13, 3) := dk_167 0 13 (dk_at dksX3_isRange_1 13 rfl rfl)
theorem dX3_isRange_39 : decode cX3_isRange 39 = .ok (.iload_n 3, 1) := dk_29 (dk_at dksX3_isRange_1 16 rfl rfl)
theorem dX3_isRange_40 : decode cX3_isRange 40 = .ok (.iload_n 2, 1) := dk_28 (dk_at dksX3_isRange_1 17 rfl rfl)
theorem dX3_isRange_41 : decode cX3_isRange 41 = .ok (.if_icmp .ge 7, 3) := dk_162 0 7 (dk_at dksX3_isRange_1 18 rfl rfl)
theorem dX3_isRange_44 : decode cX3_isRange 44 = .ok (.iconst 2, 1) := dk_5 (dk_at dksX3_isRange_1 21 rfl rfl)
theorem dX3_isRange_45 : decode cX3_isRange 45 = .ok (.goto 4, 3) := dk_167 0 4 (dk_at dksX3_isRange_2 0 rfl rfl)
theorem dX3_isRange_48 : decode cX3_isRange 48 = .ok (.iconst 0, 1) := dk_3 (dk_at dksX3_isRange_2 3 rfl rfl)
theorem dX3_isRange_49 : decode cX3_isRange 49 = .ok (.invokevirtual 84, 3) := dk_182 0 84 (dk_at dksX3_isRange_2 4 rfl rfl)
theorem dX3_isRange_52 : decode cX3_isRange 52 = .ok (.ireturn, 1) := dk_172 (dk_at dksX3_isRange_2 7 rfl rfl)
abbrev cX3_product : ByteArray := prog_9_method_29_code
def yX3_product : MethodName := ⟨RX3, "product", "(II)J"⟩
def dkwX3_product_3 : List UInt8 := [132, 5, 1, 167, 255, 216, 33, 173]
abbrev dktX3_product_3 : List UInt8 := dkwX3_product_3 ++ []
def dkwX3_product_2 : List UInt8 := [27, 104, 21, 5, 96, 46, 133, 42, 180, 0, 7, 16, 64, 28, 104, 21, 5, 96, 46, 133, 105, 97, 66]
abbrev dktX3_product_2 : List UInt8 := dkwX3_product_2 ++ dktX3_product_3
def dkwX3_product_1 : List UInt8 := [154, 0, 5, 9, 173, 9, 66, 3, 54, 5, 21, 5, 16, 64, 162, 0, 39, 33, 42, 180, 0, 7, 16, 64]
abbrev dktX3_product_1 : List UInt8 := dkwX3_product_1 ++ dktX3_product_2
def dkwX3_product_0 : List UInt8 := [42, 27, 184, 0, 79, 153, 0, 14, 28, 184, 0, 79, 153, 0, 7, 3, 167, 0, 4, 4, 182, 0, 84]
abbrev dktX3_product_0 : List UInt8 := dkwX3_product_0 ++ dktX3_product_1
theorem dksX3_product_0 : cX3_product.data.toList.drop 0 = dktX3_product_0 := by decide +kernel
theorem dksX3_product_1 : cX3_product.data.toList.drop 23 = dktX3_product_1 := dk_seg dksX3_product_0 23 rfl rfl
theorem dksX3_product_2 : cX3_product.data.toList.drop 47 = dktX3_product_2 := dk_seg dksX3_product_1 24 rfl rfl
theorem dksX3_product_3 : cX3_product.data.toList.drop 70 = dktX3_product_3 := dk_seg dksX3_product_2 23 rfl rfl
theorem dX3_product_0 : decode cX3_product 0 = .ok (.aload_n 0, 1) := dk_42 (dk_at dksX3_product_0 0 rfl rfl)
theorem dX3_product_1 : decode cX3_product 1 = .ok (.iload_n 1, 1) := dk_27 (dk_at dksX3_product_0 1 rfl rfl)
theorem dX3_product_2 : decode cX3_product 2 = .ok (.invokestatic 79, 3) := dk_184 0 79 (dk_at dksX3_product_0 2 rfl rfl)
theorem dX3_product_5 : decode cX3_product 5 = .ok (.ifCond .eq 14, 3) := dk_153 0 14 (dk_at dksX3_product_0 5 rfl rfl)
theorem dX3_product_8 : decode cX3_product 8 = .ok (.iload_n 2, 1) := dk_28 (dk_at dksX3_product_0 8 rfl rfl)
theorem dX3_product_9 : decode cX3_product 9 = .ok (.invokestatic 79, 3) := dk_184 0 79 (dk_at dksX3_product_0 9 rfl rfl)
theorem dX3_product_12 : decode cX3_product 12 = .ok (.ifCond .eq 7, 3) := dk_153 0 7 (dk_at dksX3_product_0 12 rfl rfl)
theorem dX3_product_15 : decode cX3_product 15 = .ok (.iconst 0, 1) := dk_3 (dk_at dksX3_product_0 15 rfl rfl)
theorem dX3_product_16 : decode cX3_product 16 = .ok (.goto 4, 3) := dk_167 0 4 (dk_at dksX3_product_0 16 rfl rfl)
theorem dX3_product_19 : decode cX3_product 19 = .ok (.iconst 1, 1) := dk_4 (dk_at dksX3_product_0 19 rfl rfl)
theorem dX3_product_20 : decode cX3_product 20 = .ok (.invokevirtual 84, 3) := dk_182 0 84 (dk_at dksX3_product_0 20 rfl rfl)
theorem dX3_product_23 : decode cX3_product 23 = .ok (.ifCond .ne 5, 3) := dk_154 0 5 (dk_at dksX3_product_1 0 rfl rfl)
theorem dX3_product_26 : decode cX3_product 26 = .ok (.lconst 0, 1) := dk_9 (dk_at dksX3_product_1 3 rfl rfl)
theorem dX3_product_27 : decode cX3_product 27 = .ok (.lreturn, 1) := dk_173 (dk_at dksX3_product_1 4 rfl rfl)
theorem dX3_product_28 : decode cX3_product 28 = .ok (.lconst 0, 1) := dk_9 (dk_at dksX3_product_1 5 rfl rfl)
theorem dX3_product_29 : decode cX3_product 29 = .ok (.lstore_n 3, 1) := dk_66 (dk_at dksX3_product_1 6 rfl rfl)
theorem dX3_product_30 : decode cX3_product 30 = .ok (.iconst 0, 1) := dk_3 (dk_at dksX3_product_1 7 rfl rfl)
theorem dX3_product_31 : decode cX3_product 31 = .ok (.istore 5, 2) := dk_54 5 (dk_at dksX3_product_1 8 rfl rfl)
theorem dX3_product_33 : decode cX3_product 33 = .ok (.iload 5, 2) := dk_21 5 (dk_at dksX3_product_1 10 rfl rfl)
theorem dX3_product_35 : decode cX3_product 35 = .ok (.bipush 64, 2) := dk_16 64 (dk_at dksX3_product_1 12 rfl rfl)
theorem dX3_product_37 : decode cX3_product 37 = .ok (.if_icmp .ge 39, 3) := dk_162 0 39 (dk_at dksX3_product_1 14 rfl rfl)
theorem dX3_product_40 : decode cX3_product 40 = .ok (.lload_n 3, 1) := dk_33 (dk_at dksX3_product_1 17 rfl rfl)
theorem dX3_product_41 : decode cX3_product 41 = .ok (.aload_n 0, 1) := dk_42 (dk_at dksX3_product_1 18 rfl rfl)
theorem dX3_product_42 : decode cX3_product 42 = .ok (.getfield 7, 3) := dk_180 0 7 (dk_at dksX3_product_1 19 rfl rfl)
theorem dX3_product_45 : decode cX3_product 45 = .ok (.bipush 64, 2) := dk_16 64 (dk_at dksX3_product_1 22 rfl rfl)
theorem dX3_product_47 : decode cX3_product 47 = .ok (.iload_n 1, 1) := dk_27 (dk_at dksX3_product_2 0 rfl rfl)
theorem dX3_product_48 : decode cX3_product 48 = .ok (.imul, 1) := dk_104 (dk_at dksX3_product_2 1 rfl rfl)
theorem dX3_product_49 : decode cX3_product 49 = .ok (.iload 5, 2) := dk_21 5 (dk_at dksX3_product_2 2 rfl rfl)
theorem dX3_product_51 : decode cX3_product 51 = .ok (.iadd, 1) := dk_96 (dk_at dksX3_product_2 4 rfl rfl)
theorem dX3_product_52 : decode cX3_product 52 = .ok (.iaload, 1) := dk_46 (dk_at dksX3_product_2 5 rfl rfl)
theorem dX3_product_53 : decode cX3_product 53 = .ok (.i2l, 1) := dk_133 (dk_at dksX3_product_2 6 rfl rfl)
theorem dX3_product_54 : decode cX3_product 54 = .ok (.aload_n 0, 1) := dk_42 (dk_at dksX3_product_2 7 rfl rfl)
theorem dX3_product_55 : decode cX3_product 55 = .ok (.getfield 7, 3) := dk_180 0 7 (dk_at dksX3_product_2 8 rfl rfl)
theorem dX3_product_58 : decode cX3_product 58 = .ok (.bipush 64, 2) := dk_16 64 (dk_at dksX3_product_2 11 rfl rfl)
theorem dX3_product_60 : decode cX3_product 60 = .ok (.iload_n 2, 1) := dk_28 (dk_at dksX3_product_2 13 rfl rfl)
theorem dX3_product_61 : decode cX3_product 61 = .ok (.imul, 1) := dk_104 (dk_at dksX3_product_2 14 rfl rfl)
theorem dX3_product_62 : decode cX3_product 62 = .ok (.iload 5, 2) := dk_21 5 (dk_at dksX3_product_2 15 rfl rfl)
theorem dX3_product_64 : decode cX3_product 64 = .ok (.iadd, 1) := dk_96 (dk_at dksX3_product_2 17 rfl rfl)
theorem dX3_product_65 : decode cX3_product 65 = .ok (.iaload, 1) := dk_46 (dk_at dksX3_product_2 18 rfl rfl)
theorem dX3_product_66 : decode cX3_product 66 = .ok (.i2l, 1) := dk_133 (dk_at dksX3_product_2 19 rfl rfl)
theorem dX3_product_67 : decode cX3_product 67 = .ok (.lmul, 1) := dk_105 (dk_at dksX3_product_2 20 rfl rfl)
theorem dX3_product_68 : decode cX3_product 68 = .ok (.ladd, 1) := dk_97 (dk_at dksX3_product_2 21 rfl rfl)
theorem dX3_product_69 : decode cX3_product 69 = .ok (.lstore_n 3, 1) := dk_66 (dk_at dksX3_product_2 22 rfl rfl)
theorem dX3_product_70 : decode cX3_product 70 = .ok (.iinc 5 1, 3) := dk_132 5 1 (dk_at dksX3_product_3 0 rfl rfl)
theorem dX3_product_73 : decode cX3_product 73 = .ok (.goto (-40), 3) := dk_167 255 216 (dk_at dksX3_product_3 3 rfl rfl)
theorem dX3_product_76 : decode cX3_product 76 = .ok (.lload_n 3, 1) := dk_33 (dk_at dksX3_product_3 6 rfl rfl)
theorem dX3_product_77 : decode cX3_product 77 = .ok (.lreturn, 1) := dk_173 (dk_at dksX3_product_3 7 rfl rfl)
abbrev cX3_column : ByteArray := prog_9_method_30_code
def yX3_column : MethodName := ⟨RX3, "column", "(II)I"⟩
def dkwX3_column_1 : List UInt8 := [182, 0, 84, 153, 0, 11, 27, 28, 184, 0, 54, 167, 0, 4, 3, 172]
abbrev dktX3_column_1 : List UInt8 := dkwX3_column_1 ++ []
def dkwX3_column_0 : List UInt8 := [42, 27, 6, 184, 0, 39, 153, 0, 16, 28, 16, 64, 184, 0, 39, 153, 0, 7, 3, 167, 0, 4, 4]
abbrev dktX3_column_0 : List UInt8 := dkwX3_column_0 ++ dktX3_column_1
theorem dksX3_column_0 : cX3_column.data.toList.drop 0 = dktX3_column_0 := by decide +kernel
theorem dksX3_column_1 : cX3_column.data.toList.drop 23 = dktX3_column_1 := dk_seg dksX3_column_0 23 rfl rfl
theorem dX3_column_0 : decode cX3_column 0 = .ok (.aload_n 0, 1) := dk_42 (dk_at dksX3_column_0 0 rfl rfl)
theorem dX3_column_1 : decode cX3_column 1 = .ok (.iload_n 1, 1) := dk_27 (dk_at dksX3_column_0 1 rfl rfl)
theorem dX3_column_2 : decode cX3_column 2 = .ok (.iconst 3, 1) := dk_6 (dk_at dksX3_column_0 2 rfl rfl)
theorem dX3_column_3 : decode cX3_column 3 = .ok (.invokestatic 39, 3) := dk_184 0 39 (dk_at dksX3_column_0 3 rfl rfl)
theorem dX3_column_6 : decode cX3_column 6 = .ok (.ifCond .eq 16, 3) := dk_153 0 16 (dk_at dksX3_column_0 6 rfl rfl)
theorem dX3_column_9 : decode cX3_column 9 = .ok (.iload_n 2, 1) := dk_28 (dk_at dksX3_column_0 9 rfl rfl)
theorem dX3_column_10 : decode cX3_column 10 = .ok (.bipush 64, 2) := dk_16 64 (dk_at dksX3_column_0 10 rfl rfl)
theorem dX3_column_12 : decode cX3_column 12 = .ok (.invokestatic 39, 3) := dk_184 0 39 (dk_at dksX3_column_0 12 rfl rfl)
theorem dX3_column_15 : decode cX3_column 15 = .ok (.ifCond .eq 7, 3) := dk_153 0 7 (dk_at dksX3_column_0 15 rfl rfl)
theorem dX3_column_18 : decode cX3_column 18 = .ok (.iconst 0, 1) := dk_3 (dk_at dksX3_column_0 18 rfl rfl)
theorem dX3_column_19 : decode cX3_column 19 = .ok (.goto 4, 3) := dk_167 0 4 (dk_at dksX3_column_0 19 rfl rfl)
theorem dX3_column_22 : decode cX3_column 22 = .ok (.iconst 1, 1) := dk_4 (dk_at dksX3_column_0 22 rfl rfl)
theorem dX3_column_23 : decode cX3_column 23 = .ok (.invokevirtual 84, 3) := dk_182 0 84 (dk_at dksX3_column_1 0 rfl rfl)
theorem dX3_column_26 : decode cX3_column 26 = .ok (.ifCond .eq 11, 3) := dk_153 0 11 (dk_at dksX3_column_1 3 rfl rfl)
theorem dX3_column_29 : decode cX3_column 29 = .ok (.iload_n 1, 1) := dk_27 (dk_at dksX3_column_1 6 rfl rfl)
theorem dX3_column_30 : decode cX3_column 30 = .ok (.iload_n 2, 1) := dk_28 (dk_at dksX3_column_1 7 rfl rfl)
theorem dX3_column_31 : decode cX3_column 31 = .ok (.invokestatic 54, 3) := dk_184 0 54 (dk_at dksX3_column_1 8 rfl rfl)
theorem dX3_column_34 : decode cX3_column 34 = .ok (.goto 4, 3) := dk_167 0 4 (dk_at dksX3_column_1 11 rfl rfl)
theorem dX3_column_37 : decode cX3_column 37 = .ok (.iconst 0, 1) := dk_3 (dk_at dksX3_column_1 14 rfl rfl)
theorem dX3_column_38 : decode cX3_column 38 = .ok (.ireturn, 1) := dk_172 (dk_at dksX3_column_1 15 rfl rfl)
abbrev cX3_cell : ByteArray := prog_9_method_31_code
def yX3_cell : MethodName := ⟨RX3, "cell", "(IIII)I"⟩
def dkwX3_cell_3 : List UInt8 := [167, 0, 4, 3, 172]
abbrev dktX3_cell_3 : List UInt8 := dkwX3_cell_3 ++ []
def dkwX3_cell_2 : List UInt8 := [167, 0, 4, 4, 182, 0, 84, 153, 0, 19, 42, 180, 0, 16, 27, 28, 29, 21, 4, 184, 0, 58, 46]
abbrev dktX3_cell_2 : List UInt8 := dkwX3_cell_2 ++ dktX3_cell_3
def dkwX3_cell_1 : List UInt8 := [21, 4, 16, 8, 184, 0, 39, 153, 0, 7, 4, 167, 0, 4, 3, 54, 5, 42, 21, 5, 153, 0, 7, 3]
abbrev dktX3_cell_1 : List UInt8 := dkwX3_cell_1 ++ dktX3_cell_2
def dkwX3_cell_0 : List UInt8 := [27, 184, 0, 79, 153, 0, 33, 28, 6, 184, 0, 39, 153, 0, 25, 29, 6, 184, 0, 39, 153, 0, 17]
abbrev dktX3_cell_0 : List UInt8 := dkwX3_cell_0 ++ dktX3_cell_1
theorem dksX3_cell_0 : cX3_cell.data.toList.drop 0 = dktX3_cell_0 := by decide +kernel
theorem dksX3_cell_1 : cX3_cell.data.toList.drop 23 = dktX3_cell_1 := dk_seg dksX3_cell_0 23 rfl rfl
theorem dksX3_cell_2 : cX3_cell.data.toList.drop 47 = dktX3_cell_2 := dk_seg dksX3_cell_1 24 rfl rfl
theorem dksX3_cell_3 : cX3_cell.data.toList.drop 70 = dktX3_cell_3 := dk_seg dksX3_cell_2 23 rfl rfl
theorem dX3_cell_0 : decode cX3_cell 0 = .ok (.iload_n 1, 1) := dk_27 (dk_at dksX3_cell_0 0 rfl rfl)
theorem dX3_cell_1 : decode cX3_cell 1 = .ok (.invokestatic 79, 3) := dk_184 0 79 (dk_at dksX3_cell_0 1 rfl rfl)
theorem dX3_cell_4 : decode cX3_cell 4 = .ok (.ifCond .eq 33, 3) := dk_153 0 33 (dk_at dksX3_cell_0 4 rfl rfl)
theorem dX3_cell_7 : decode cX3_cell 7 = .ok (.iload_n 2, 1) := dk_28 (dk_at dksX3_cell_0 7 rfl rfl)
theorem dX3_cell_8 : decode cX3_cell 8 = .ok (.iconst 3, 1) := dk_6 (dk_at dksX3_cell_0 8 rfl rfl)
theorem dX3_cell_9 : decode cX3_cell 9 = .ok (.invokestatic 39, 3) := dk_184 0 39 (dk_at dksX3_cell_0 9 rfl rfl)
theorem dX3_cell_12 : decode cX3_cell 12 = .ok (.ifCond .eq 25, 3) := dk_153 0 25 (dk_at dksX3_cell_0 12 rfl rfl)
theorem dX3_cell_15 : decode cX3_cell 15 = .ok (.iload_n 3, 1) := dk_29 (dk_at dksX3_cell_0 15 rfl rfl)
theorem dX3_cell_16 : decode cX3_cell 16 = .ok (.iconst 3, 1) := dk_6 (dk_at dksX3_cell_0 16 rfl rfl)
theorem dX3_cell_17 : decode cX3_cell 17 = .ok (.invokestatic 39, 3) := dk_184 0 39 (dk_at dksX3_cell_0 17 rfl rfl)
theorem dX3_cell_20 : decode cX3_cell 20 = .ok (.ifCond .eq 17, 3) := dk_153 0 17 (dk_at dksX3_cell_0 20 rfl rfl)
theorem dX3_cell_23 : decode cX3_cell 23 = .ok (.iload 4, 2) := dk_21 4 (dk_at dksX3_cell_1 0 rfl rfl)
theorem dX3_cell_25 : decode cX3_cell 25 = .ok (.bipush 8, 2) := dk_16 8 (dk_at dksX3_cell_1 2 rfl rfl)
theorem dX3_cell_27 : decode cX3_cell 27 = .ok (.invokestatic 39, 3) := dk_184 0 39 (dk_at dksX3_cell_1 4 rfl rfl)
theorem dX3_cell_30 : decode cX3_cell 30 = .ok (.ifCond .eq 7, 3) := dk_153 0 7 (dk_at dksX3_cell_1 7 rfl rfl)
theorem dX3_cell_33 : decode cX3_cell 33 = .ok (.iconst 1, 1) := dk_4 (dk_at dksX3_cell_1 10 rfl rfl)
theorem dX3_cell_34 : decode cX3_cell 34 = .ok (.goto 4, 3) := dk_167 0 4 (dk_at dksX3_cell_1 11 rfl rfl)
theorem dX3_cell_37 : decode cX3_cell 37 = .ok (.iconst 0, 1) := dk_3 (dk_at dksX3_cell_1 14 rfl rfl)
theorem dX3_cell_38 : decode cX3_cell 38 = .ok (.istore 5, 2) := dk_54 5 (dk_at dksX3_cell_1 15 rfl rfl)
theorem dX3_cell_40 : decode cX3_cell 40 = .ok (.aload_n 0, 1) := dk_42 (dk_at dksX3_cell_1 17 rfl rfl)
theorem dX3_cell_41 : decode cX3_cell 41 = .ok (.iload 5, 2) := dk_21 5 (dk_at dksX3_cell_1 18 rfl rfl)
theorem dX3_cell_43 : decode cX3_cell 43 = .ok (.ifCond .eq 7, 3) := dk_153 0 7 (dk_at dksX3_cell_1 20 rfl rfl)
theorem dX3_cell_46 : decode cX3_cell 46 = .ok (.iconst 0, 1) := dk_3 (dk_at dksX3_cell_1 23 rfl rfl)
theorem dX3_cell_47 : decode cX3_cell 47 = .ok (.goto 4, 3) := dk_167 0 4 (dk_at dksX3_cell_2 0 rfl rfl)
theorem dX3_cell_50 : decode cX3_cell 50 = .ok (.iconst 1, 1) := dk_4 (dk_at dksX3_cell_2 3 rfl rfl)
theorem dX3_cell_51 : decode cX3_cell 51 = .ok (.invokevirtual 84, 3) := dk_182 0 84 (dk_at dksX3_cell_2 4 rfl rfl)
theorem dX3_cell_54 : decode cX3_cell 54 = .ok (.ifCond .eq 19, 3) := dk_153 0 19 (dk_at dksX3_cell_2 7 rfl rfl)
theorem dX3_cell_57 : decode cX3_cell 57 = .ok (.aload_n 0, 1) := dk_42 (dk_at dksX3_cell_2 10 rfl rfl)
theorem dX3_cell_58 : decode cX3_cell 58 = .ok (.getfield 16, 3) := dk_180 0 16 (dk_at dksX3_cell_2 11 rfl rfl)
theorem dX3_cell_61 : decode cX3_cell 61 = .ok (.iload_n 1, 1) := dk_27 (dk_at dksX3_cell_2 14 rfl rfl)
theorem dX3_cell_62 : decode cX3_cell 62 = .ok (.iload_n 2, 1) := dk_28 (dk_at dksX3_cell_2 15 rfl rfl)
theorem dX3_cell_63 : decode cX3_cell 63 = .ok (.iload_n 3, 1) := dk_29 (dk_at dksX3_cell_2 16 rfl rfl)
theorem dX3_cell_64 : decode cX3_cell 64 = .ok (.iload 4, 2) := dk_21 4 (dk_at dksX3_cell_2 17 rfl rfl)
theorem dX3_cell_66 : decode cX3_cell 66 = .ok (.invokestatic 58, 3) := dk_184 0 58 (dk_at dksX3_cell_2 19 rfl rfl)
theorem dX3_cell_69 : decode cX3_cell 69 = .ok (.iaload, 1) := dk_46 (dk_at dksX3_cell_2 22 rfl rfl)
theorem dX3_cell_70 : decode cX3_cell 70 = .ok (.goto 4, 3) := dk_167 0 4 (dk_at dksX3_cell_3 0 rfl rfl)
theorem dX3_cell_73 : decode cX3_cell 73 = .ok (.iconst 0, 1) := dk_3 (dk_at dksX3_cell_3 3 rfl rfl)
theorem dX3_cell_74 : decode cX3_cell 74 = .ok (.ireturn, 1) := dk_172 (dk_at dksX3_cell_3 4 rfl rfl)
abbrev cX3_estimate : ByteArray := prog_9_method_32_code
def yX3_estimate : MethodName := ⟨RX3, "estimate", "(III)I"⟩
def dkwX3_estimate_2 : List UInt8 := [153, 0, 13, 42, 27, 28, 29, 182, 0, 62, 167, 0, 4, 3, 172]
abbrev dktX3_estimate_2 : List UInt8 := dkwX3_estimate_2 ++ []
def dkwX3_estimate_1 : List UInt8 := [153, 0, 7, 4, 167, 0, 4, 3, 54, 4, 42, 21, 4, 153, 0, 7, 3, 167, 0, 4, 4, 182, 0, 84]
abbrev dktX3_estimate_1 : List UInt8 := dkwX3_estimate_1 ++ dktX3_estimate_2
def dkwX3_estimate_0 : List UInt8 := [27, 184, 0, 79, 153, 0, 27, 28, 16, 7, 184, 0, 39, 153, 0, 18, 29, 16, 64, 28, 122, 184, 0, 39]
abbrev dktX3_estimate_0 : List UInt8 := dkwX3_estimate_0 ++ dktX3_estimate_1
theorem dksX3_estimate_0 : cX3_estimate.data.toList.drop 0 = dktX3_estimate_0 := by decide +kernel
theorem dksX3_estimate_1 : cX3_estimate.data.toList.drop 24 = dktX3_estimate_1 := dk_seg dksX3_estimate_0 24 rfl rfl
theorem dksX3_estimate_2 : cX3_estimate.data.toList.drop 48 = dktX3_estimate_2 := dk_seg dksX3_estimate_1 24 rfl rfl
theorem dX3_estimate_0 : decode cX3_estimate 0 = .ok (.iload_n 1, 1) := dk_27 (dk_at dksX3_estimate_0 0 rfl rfl)
theorem dX3_estimate_1 : decode cX3_estimate 1 = .ok (.invokestatic 79, 3) := dk_184 0 79 (dk_at dksX3_estimate_0 1 rfl rfl)
theorem dX3_estimate_4 : decode cX3_estimate 4 = .ok (.ifCond .eq 27, 3) := dk_153 0 27 (dk_at dksX3_estimate_0 4 rfl rfl)
theorem dX3_estimate_7 : decode cX3_estimate 7 = .ok (.iload_n 2, 1) := dk_28 (dk_at dksX3_estimate_0 7 rfl rfl)
theorem dX3_estimate_8 : decode cX3_estimate 8 = .ok (.bipush 7, 2) := dk_16 7 (dk_at dksX3_estimate_0 8 rfl rfl)
theorem dX3_estimate_10 : decode cX3_estimate 10 = .ok (.invokestatic 39, 3) := dk_184 0 39 (dk_at dksX3_estimate_0 10 rfl rfl)
theorem dX3_estimate_13 : decode cX3_estimate 13 = .ok (.ifCond .eq 18, 3) := dk_153 0 18 (dk_at dksX3_estimate_0 13 rfl rfl)
theorem dX3_estimate_16 : decode cX3_estimate 16 = .ok (.iload_n 3, 1) := dk_29 (dk_at dksX3_estimate_0 16 rfl rfl)
theorem dX3_estimate_17 : decode cX3_estimate 17 = .ok (.bipush 64, 2) := dk_16 64 (dk_at dksX3_estimate_0 17 rfl rfl)
theorem dX3_estimate_19 : decode cX3_estimate 19 = .ok (.iload_n 2, 1) := dk_28 (dk_at dksX3_estimate_0 19 rfl rfl)
theorem dX3_estimate_20 : decode cX3_estimate 20 = .ok (.ishr, 1) := dk_122 (dk_at dksX3_estimate_0 20 rfl rfl)
theorem dX3_estimate_21 : decode cX3_estimate 21 = .ok (.invokestatic 39, 3) := dk_184 0 39 (dk_at dksX3_estimate_0 21 rfl rfl)
theorem dX3_estimate_24 : decode cX3_estimate 24 = .ok (.ifCond .eq 7, 3) := dk_153 0 7 (dk_at dksX3_estimate_1 0 rfl rfl)
theorem dX3_estimate_27 : decode cX3_estimate 27 = .ok (.iconst 1, 1) := dk_4 (dk_at dksX3_estimate_1 3 rfl rfl)
theorem dX3_estimate_28 : decode cX3_estimate 28 = .ok (.goto 4, 3) := dk_167 0 4 (dk_at dksX3_estimate_1 4 rfl rfl)
theorem dX3_estimate_31 : decode cX3_estimate 31 = .ok (.iconst 0, 1) := dk_3 (dk_at dksX3_estimate_1 7 rfl rfl)
theorem dX3_estimate_32 : decode cX3_estimate 32 = .ok (.istore 4, 2) := dk_54 4 (dk_at dksX3_estimate_1 8 rfl rfl)
theorem dX3_estimate_34 : decode cX3_estimate 34 = .ok (.aload_n 0, 1) := dk_42 (dk_at dksX3_estimate_1 10 rfl rfl)
theorem dX3_estimate_35 : decode cX3_estimate 35 = .ok (.iload 4, 2) := dk_21 4 (dk_at dksX3_estimate_1 11 rfl rfl)
theorem dX3_estimate_37 : decode cX3_estimate 37 = .ok (.ifCond .eq 7, 3) := dk_153 0 7 (dk_at dksX3_estimate_1 13 rfl rfl)
theorem dX3_estimate_40 : decode cX3_estimate 40 = .ok (.iconst 0, 1) := dk_3 (dk_at dksX3_estimate_1 16 rfl rfl)
theorem dX3_estimate_41 : decode cX3_estimate 41 = .ok (.goto 4, 3) := dk_167 0 4 (dk_at dksX3_estimate_1 17 rfl rfl)
theorem dX3_estimate_44 : decode cX3_estimate 44 = .ok (.iconst 1, 1) := dk_4 (dk_at dksX3_estimate_1 20 rfl rfl)
theorem dX3_estimate_45 : decode cX3_estimate 45 = .ok (.invokevirtual 84, 3) := dk_182 0 84 (dk_at dksX3_estimate_1 21 rfl rfl)
theorem dX3_estimate_48 : decode cX3_estimate 48 = .ok (.ifCond .eq 13, 3) := dk_153 0 13 (dk_at dksX3_estimate_2 0 rfl rfl)
theorem dX3_estimate_51 : decode cX3_estimate 51 = .ok (.aload_n 0, 1) := dk_42 (dk_at dksX3_estimate_2 3 rfl rfl)
theorem dX3_estimate_52 : decode cX3_estimate 52 = .ok (.iload_n 1, 1) := dk_27 (dk_at dksX3_estimate_2 4 rfl rfl)
theorem dX3_estimate_53 : decode cX3_estimate 53 = .ok (.iload_n 2, 1) := dk_28 (dk_at dksX3_estimate_2 5 rfl rfl)
theorem dX3_estimate_54 : decode cX3_estimate 54 = .ok (.iload_n 3, 1) := dk_29 (dk_at dksX3_estimate_2 6 rfl rfl)
theorem dX3_estimate_55 : decode cX3_estimate 55 = .ok (.invokevirtual 62, 3) := dk_182 0 62 (dk_at dksX3_estimate_2 7 rfl rfl)
theorem dX3_estimate_58 : decode cX3_estimate 58 = .ok (.goto 4, 3) := dk_167 0 4 (dk_at dksX3_estimate_2 10 rfl rfl)
theorem dX3_estimate_61 : decode cX3_estimate 61 = .ok (.iconst 0, 1) := dk_3 (dk_at dksX3_estimate_2 13 rfl rfl)
theorem dX3_estimate_62 : decode cX3_estimate 62 = .ok (.ireturn, 1) := dk_172 (dk_at dksX3_estimate_2 14 rfl rfl)
abbrev cX3_share : ByteArray := prog_9_method_33_code
def yX3_share : MethodName := ⟨RX3, "share", "(II)D"⟩
def dkwX3_share_1 : List UInt8 := [182, 0, 62, 135, 42, 180, 0, 13, 27, 46, 135, 111, 175]
abbrev dktX3_share_1 : List UInt8 := dkwX3_share_1 ++ []
def dkwX3_share_0 : List UInt8 := [42, 27, 28, 182, 0, 96, 153, 0, 12, 42, 180, 0, 13, 27, 46, 154, 0, 5, 14, 175, 42, 27, 3, 28]
abbrev dktX3_share_0 : List UInt8 := dkwX3_share_0 ++ dktX3_share_1
theorem dksX3_share_0 : cX3_share.data.toList.drop 0 = dktX3_share_0 := by decide +kernel
theorem dksX3_share_1 : cX3_share.data.toList.drop 24 = dktX3_share_1 := dk_seg dksX3_share_0 24 rfl rfl
theorem dX3_share_0 : decode cX3_share 0 = .ok (.aload_n 0, 1) := dk_42 (dk_at dksX3_share_0 0 rfl rfl)
theorem dX3_share_1 : decode cX3_share 1 = .ok (.iload_n 1, 1) := dk_27 (dk_at dksX3_share_0 1 rfl rfl)
theorem dX3_share_2 : decode cX3_share 2 = .ok (.iload_n 2, 1) := dk_28 (dk_at dksX3_share_0 2 rfl rfl)
theorem dX3_share_3 : decode cX3_share 3 = .ok (.invokevirtual 96, 3) := dk_182 0 96 (dk_at dksX3_share_0 3 rfl rfl)
theorem dX3_share_6 : decode cX3_share 6 = .ok (.ifCond .eq 12, 3) := dk_153 0 12 (dk_at dksX3_share_0 6 rfl rfl)
theorem dX3_share_9 : decode cX3_share 9 = .ok (.aload_n 0, 1) := dk_42 (dk_at dksX3_share_0 9 rfl rfl)
theorem dX3_share_10 : decode cX3_share 10 = .ok (.getfield 13, 3) := dk_180 0 13 (dk_at dksX3_share_0 10 rfl rfl)
theorem dX3_share_13 : decode cX3_share 13 = .ok (.iload_n 1, 1) := dk_27 (dk_at dksX3_share_0 13 rfl rfl)
theorem dX3_share_14 : decode cX3_share 14 = .ok (.iaload, 1) := dk_46 (dk_at dksX3_share_0 14 rfl rfl)
theorem dX3_share_15 : decode cX3_share 15 = .ok (.ifCond .ne 5, 3) := dk_154 0 5 (dk_at dksX3_share_0 15 rfl rfl)
theorem dX3_share_18 : decode cX3_share 18 = .ok (.dconst 0, 1) := dk_14 (dk_at dksX3_share_0 18 rfl rfl)
theorem dX3_share_19 : decode cX3_share 19 = .ok (.dreturn, 1) := dk_175 (dk_at dksX3_share_0 19 rfl rfl)
theorem dX3_share_20 : decode cX3_share 20 = .ok (.aload_n 0, 1) := dk_42 (dk_at dksX3_share_0 20 rfl rfl)
theorem dX3_share_21 : decode cX3_share 21 = .ok (.iload_n 1, 1) := dk_27 (dk_at dksX3_share_0 21 rfl rfl)
theorem dX3_share_22 : decode cX3_share 22 = .ok (.iconst 0, 1) := dk_3 (dk_at dksX3_share_0 22 rfl rfl)
theorem dX3_share_23 : decode cX3_share 23 = .ok (.iload_n 2, 1) := dk_28 (dk_at dksX3_share_0 23 rfl rfl)
theorem dX3_share_24 : decode cX3_share 24 = .ok (.invokevirtual 62, 3) := dk_182 0 62 (dk_at dksX3_share_1 0 rfl rfl)
theorem dX3_share_27 : decode cX3_share 27 = .ok (.i2d, 1) := dk_135 (dk_at dksX3_share_1 3 rfl rfl)
theorem dX3_share_28 : decode cX3_share 28 = .ok (.aload_n 0, 1) := dk_42 (dk_at dksX3_share_1 4 rfl rfl)
theorem dX3_share_29 : decode cX3_share 29 = .ok (.getfield 13, 3) := dk_180 0 13 (dk_at dksX3_share_1 5 rfl rfl)
theorem dX3_share_32 : decode cX3_share 32 = .ok (.iload_n 1, 1) := dk_27 (dk_at dksX3_share_1 8 rfl rfl)
theorem dX3_share_33 : decode cX3_share 33 = .ok (.iaload, 1) := dk_46 (dk_at dksX3_share_1 9 rfl rfl)
theorem dX3_share_34 : decode cX3_share 34 = .ok (.i2d, 1) := dk_135 (dk_at dksX3_share_1 10 rfl rfl)
theorem dX3_share_35 : decode cX3_share 35 = .ok (.ddiv, 1) := dk_111 (dk_at dksX3_share_1 11 rfl rfl)
theorem dX3_share_36 : decode cX3_share 36 = .ok (.dreturn, 1) := dk_175 (dk_at dksX3_share_1 12 rfl rfl)
abbrev cX3_parts : ByteArray := prog_9_method_35_code
def yX3_parts : MethodName := ⟨RX3, "parts", "(II)I"⟩
def dkwX3_parts_1 : List UInt8 := [132, 3, 1, 21, 4, 4, 21, 4, 28, 184, 0, 103, 120, 96, 54, 4, 167, 255, 234, 29, 172]
abbrev dktX3_parts_1 : List UInt8 := dkwX3_parts_1 ++ []
def dkwX3_parts_0 : List UInt8 := [42, 4, 27, 28, 182, 0, 99, 154, 0, 5, 3, 172, 3, 62, 27, 54, 4, 21, 4, 28, 163, 0, 22]
abbrev dktX3_parts_0 : List UInt8 := dkwX3_parts_0 ++ dktX3_parts_1
theorem dksX3_parts_0 : cX3_parts.data.toList.drop 0 = dktX3_parts_0 := by decide +kernel
theorem dksX3_parts_1 : cX3_parts.data.toList.drop 23 = dktX3_parts_1 := dk_seg dksX3_parts_0 23 rfl rfl
theorem dX3_parts_0 : decode cX3_parts 0 = .ok (.aload_n 0, 1) := dk_42 (dk_at dksX3_parts_0 0 rfl rfl)
theorem dX3_parts_1 : decode cX3_parts 1 = .ok (.iconst 1, 1) := dk_4 (dk_at dksX3_parts_0 1 rfl rfl)
theorem dX3_parts_2 : decode cX3_parts 2 = .ok (.iload_n 1, 1) := dk_27 (dk_at dksX3_parts_0 2 rfl rfl)
theorem dX3_parts_3 : decode cX3_parts 3 = .ok (.iload_n 2, 1) := dk_28 (dk_at dksX3_parts_0 3 rfl rfl)
theorem dX3_parts_4 : decode cX3_parts 4 = .ok (.invokevirtual 99, 3) := dk_182 0 99 (dk_at dksX3_parts_0 4 rfl rfl)
theorem dX3_parts_7 : decode cX3_parts 7 = .ok (.ifCond .ne 5, 3) := dk_154 0 5 (dk_at dksX3_parts_0 7 rfl rfl)
theorem dX3_parts_10 : decode cX3_parts 10 = .ok (.iconst 0, 1) := dk_3 (dk_at dksX3_parts_0 10 rfl rfl)
theorem dX3_parts_11 : decode cX3_parts 11 = .ok (.ireturn, 1) := dk_172 (dk_at dksX3_parts_0 11 rfl rfl)
theorem dX3_parts_12 : decode cX3_parts 12 = .ok (.iconst 0, 1) := dk_3 (dk_at dksX3_parts_0 12 rfl rfl)
theorem dX3_parts_13 : decode cX3_parts 13 = .ok (.istore_n 3, 1) := dk_62 (dk_at dksX3_parts_0 13 rfl rfl)
theorem dX3_parts_14 : decode cX3_parts 14 = .ok (.iload_n 1, 1) := dk_27 (dk_at dksX3_parts_0 14 rfl rfl)
theorem dX3_parts_15 : decode cX3_parts 15 = .ok (.istore 4, 2) := dk_54 4 (dk_at dksX3_parts_0 15 rfl rfl)
theorem dX3_parts_17 : decode cX3_parts 17 = .ok (.iload 4, 2) := dk_21 4 (dk_at dksX3_parts_0 17 rfl rfl)
theorem dX3_parts_19 : decode cX3_parts 19 = .ok (.iload_n 2, 1) := dk_28 (dk_at dksX3_parts_0 19 rfl rfl)
theorem dX3_parts_20 : decode cX3_parts 20 = .ok (.if_icmp .gt 22, 3) := dk_163 0 22 (dk_at dksX3_parts_0 20 rfl rfl)
theorem dX3_parts_23 : decode cX3_parts 23 = .ok (.iinc 3 1, 3) := dk_132 3 1 (dk_at dksX3_parts_1 0 rfl rfl)
theorem dX3_parts_26 : decode cX3_parts 26 = .ok (.iload 4, 2) := dk_21 4 (dk_at dksX3_parts_1 3 rfl rfl)
theorem dX3_parts_28 : decode cX3_parts 28 = .ok (.iconst 1, 1) := dk_4 (dk_at dksX3_parts_1 5 rfl rfl)
theorem dX3_parts_29 : decode cX3_parts 29 = .ok (.iload 4, 2) := dk_21 4 (dk_at dksX3_parts_1 6 rfl rfl)
theorem dX3_parts_31 : decode cX3_parts 31 = .ok (.iload_n 2, 1) := dk_28 (dk_at dksX3_parts_1 8 rfl rfl)
theorem dX3_parts_32 : decode cX3_parts 32 = .ok (.invokestatic 103, 3) := dk_184 0 103 (dk_at dksX3_parts_1 9 rfl rfl)
theorem dX3_parts_35 : decode cX3_parts 35 = .ok (.ishl, 1) := dk_120 (dk_at dksX3_parts_1 12 rfl rfl)
theorem dX3_parts_36 : decode cX3_parts 36 = .ok (.iadd, 1) := dk_96 (dk_at dksX3_parts_1 13 rfl rfl)
theorem dX3_parts_37 : decode cX3_parts 37 = .ok (.istore 4, 2) := dk_54 4 (dk_at dksX3_parts_1 14 rfl rfl)
theorem dX3_parts_39 : decode cX3_parts 39 = .ok (.goto (-22), 3) := dk_167 255 234 (dk_at dksX3_parts_1 16 rfl rfl)
theorem dX3_parts_42 : decode cX3_parts 42 = .ok (.iload_n 3, 1) := dk_29 (dk_at dksX3_parts_1 19 rfl rfl)
theorem dX3_parts_43 : decode cX3_parts 43 = .ok (.ireturn, 1) := dk_172 (dk_at dksX3_parts_1 20 rfl rfl)
abbrev cX3_levelAt : ByteArray := prog_9_method_34_code
def yX3_levelAt : MethodName := ⟨RX3, "levelAt", "(II)I"⟩
def dkwX3_levelAt_1 : List UInt8 := [132, 2, 255, 167, 255, 234, 28, 172]
abbrev dktX3_levelAt_1 : List UInt8 := dkwX3_levelAt_1 ++ []
def dkwX3_levelAt_0 : List UInt8 := [16, 6, 61, 26, 4, 28, 120, 112, 154, 0, 14, 26, 4, 28, 120, 96, 4, 100, 27, 164, 0, 9]
abbrev dktX3_levelAt_0 : List UInt8 := dkwX3_levelAt_0 ++ dktX3_levelAt_1
theorem dksX3_levelAt_0 : cX3_levelAt.data.toList.drop 0 = dktX3_levelAt_0 := by decide +kernel
theorem dksX3_levelAt_1 : cX3_levelAt.data.toList.drop 22 = dktX3_levelAt_1 := dk_seg dksX3_levelAt_0 22 rfl rfl
theorem dX3_levelAt_0 : decode cX3_levelAt 0 = .ok (.bipush 6, 2) := dk_16 6 (dk_at dksX3_levelAt_0 0 rfl rfl)
theorem dX3_levelAt_2 : decode cX3_levelAt 2 = .ok (.istore_n 2, 1) := dk_61 (dk_at dksX3_levelAt_0 2 rfl rfl)
theorem dX3_levelAt_3 : decode cX3_levelAt 3 = .ok (.iload_n 0, 1) := dk_26 (dk_at dksX3_levelAt_0 3 rfl rfl)
theorem dX3_levelAt_4 : decode cX3_levelAt 4 = .ok (.iconst 1, 1) := dk_4 (dk_at dksX3_levelAt_0 4 rfl rfl)
theorem dX3_levelAt_5 : decode cX3_levelAt 5 = .ok (.iload_n 2, 1) := dk_28 (dk_at dksX3_levelAt_0 5 rfl rfl)
theorem dX3_levelAt_6 : decode cX3_levelAt 6 = .ok (.ishl, 1) := dk_120 (dk_at dksX3_levelAt_0 6 rfl rfl)
theorem dX3_levelAt_7 : decode cX3_levelAt 7 = .ok (.irem, 1) := dk_112 (dk_at dksX3_levelAt_0 7 rfl rfl)
theorem dX3_levelAt_8 : decode cX3_levelAt 8 = .ok (.ifCond .ne 14, 3) := dk_154 0 14 (dk_at dksX3_levelAt_0 8 rfl rfl)
theorem dX3_levelAt_11 : decode cX3_levelAt 11 = .ok (.iload_n 0, 1) := dk_26 (dk_at dksX3_levelAt_0 11 rfl rfl)
theorem dX3_levelAt_12 : decode cX3_levelAt 12 = .ok (.iconst 1, 1) := dk_4 (dk_at dksX3_levelAt_0 12 rfl rfl)
theorem dX3_levelAt_13 : decode cX3_levelAt 13 = .ok (.iload_n 2, 1) := dk_28 (dk_at dksX3_levelAt_0 13 rfl rfl)
theorem dX3_levelAt_14 : decode cX3_levelAt 14 = .ok (.ishl, 1) := dk_120 (dk_at dksX3_levelAt_0 14 rfl rfl)
theorem dX3_levelAt_15 : decode cX3_levelAt 15 = .ok (.iadd, 1) := dk_96 (dk_at dksX3_levelAt_0 15 rfl rfl)
theorem dX3_levelAt_16 : decode cX3_levelAt 16 = .ok (.iconst 1, 1) := dk_4 (dk_at dksX3_levelAt_0 16 rfl rfl)
theorem dX3_levelAt_17 : decode cX3_levelAt 17 = .ok (.isub, 1) := dk_100 (dk_at dksX3_levelAt_0 17 rfl rfl)
theorem dX3_levelAt_18 : decode cX3_levelAt 18 = .ok (.iload_n 1, 1) := dk_27 (dk_at dksX3_levelAt_0 18 rfl rfl)
theorem dX3_levelAt_19 : decode cX3_levelAt 19 = .ok (.if_icmp .le 9, 3) := dk_164 0 9 (dk_at dksX3_levelAt_0 19 rfl rfl)
theorem dX3_levelAt_22 : decode cX3_levelAt 22 = .ok (.iinc 2 (-1), 3) := dk_132 2 255 (dk_at dksX3_levelAt_1 0 rfl rfl)
theorem dX3_levelAt_25 : decode cX3_levelAt 25 = .ok (.goto (-22), 3) := dk_167 255 234 (dk_at dksX3_levelAt_1 3 rfl rfl)
theorem dX3_levelAt_28 : decode cX3_levelAt 28 = .ok (.iload_n 2, 1) := dk_28 (dk_at dksX3_levelAt_1 6 rfl rfl)
theorem dX3_levelAt_29 : decode cX3_levelAt 29 = .ok (.ireturn, 1) := dk_172 (dk_at dksX3_levelAt_1 7 rfl rfl)
abbrev cX3_estimateOfRange : ByteArray := prog_9_method_36_code
def yX3_estimateOfRange : MethodName := ⟨RX3, "estimateOfRange", "(III)I"⟩
def dkwX3_estimateOfRange_3 : List UInt8 := [172]
abbrev dktX3_estimateOfRange_3 : List UInt8 := dkwX3_estimateOfRange_3 ++ []
def dkwX3_estimateOfRange_2 : List UInt8 := [182, 0, 62, 96, 54, 4, 21, 5, 4, 21, 5, 29, 184, 0, 103, 120, 96, 54, 5, 167, 255, 212, 21, 4]
abbrev dktX3_estimateOfRange_2 : List UInt8 := dkwX3_estimateOfRange_2 ++ dktX3_estimateOfRange_3
def dkwX3_estimateOfRange_1 : List UInt8 := [163, 0, 44, 21, 5, 29, 184, 0, 103, 54, 6, 21, 4, 42, 27, 21, 6, 21, 5, 21, 6, 122]
abbrev dktX3_estimateOfRange_1 : List UInt8 := dkwX3_estimateOfRange_1 ++ dktX3_estimateOfRange_2
def dkwX3_estimateOfRange_0 : List UInt8 := [42, 27, 184, 0, 79, 28, 29, 182, 0, 99, 154, 0, 5, 3, 172, 3, 54, 4, 28, 54, 5, 21, 5, 29]
abbrev dktX3_estimateOfRange_0 : List UInt8 := dkwX3_estimateOfRange_0 ++ dktX3_estimateOfRange_1
theorem dksX3_estimateOfRange_0 : cX3_estimateOfRange.data.toList.drop 0 = dktX3_estimateOfRange_0 := by decide +kernel
theorem dksX3_estimateOfRange_1 : cX3_estimateOfRange.data.toList.drop 24 = dktX3_estimateOfRange_1 := dk_seg dksX3_estimateOfRange_0 24 rfl rfl
theorem dksX3_estimateOfRange_2 : cX3_estimateOfRange.data.toList.drop 46 = dktX3_estimateOfRange_2 := dk_seg dksX3_estimateOfRange_1 22 rfl rfl
theorem dksX3_estimateOfRange_3 : cX3_estimateOfRange.data.toList.drop 70 = dktX3_estimateOfRange_3 := dk_seg dksX3_estimateOfRange_2 24 rfl rfl
theorem dX3_estimateOfRange_0 : decode cX3_estimateOfRange 0 = .ok (.aload_n 0, 1) := dk_42 (dk_at dksX3_estimateOfRange_0 0 rfl rfl)
theorem dX3_estimateOfRange_1 : decode cX3_estimateOfRange 1 = .ok (.iload_n 1, 1) := dk_27 (dk_at dksX3_estimateOfRange_0 1 rfl rfl)
theorem dX3_estimateOfRange_2 : decode cX3_estimateOfRange 2 = .ok (.invokestatic 79, 3) := dk_184 0 79 (dk_at dksX3_estimateOfRange_0 2 rfl rfl)
theorem dX3_estimateOfRange_5 : decode cX3_estimateOfRange 5 = .ok (.iload_n 2, 1) := dk_28 (dk_at dksX3_estimateOfRange_0 5 rfl rfl)
theorem dX3_estimateOfRange_6 : decode cX3_estimateOfRange 6 = .ok (.iload_n 3, 1) := dk_29 (dk_at dksX3_estimateOfRange_0 6 rfl rfl)
theorem dX3_estimateOfRange_7 : decode cX3_estimateOfRange 7 = .ok (.invokevirtual 99, 3) := dk_182 0 99 (dk_at dksX3_estimateOfRange_0 7 rfl rfl)
theorem dX3_estimateOfRange_10 : decode cX3_estimateOfRange 10 = .ok (.ifCond .ne 5, 3) := dk_154 0 5 (dk_at dksX3_estimateOfRange_0 10 rfl rfl)
theorem dX3_estimateOfRange_13 : decode cX3_estimateOfRange 13 = .ok (.iconst 0, 1) := dk_3 (dk_at dksX3_estimateOfRange_0 13 rfl rfl)
theorem dX3_estimateOfRange_14 : decode cX3_estimateOfRange 14 = .ok (.ireturn, 1) := dk_172 (dk_at dksX3_estimateOfRange_0 14 rfl rfl)
theorem dX3_estimateOfRange_15 : decode cX3_estimateOfRange 15 = .ok (.iconst 0, 1) := dk_3 (dk_at dksX3_estimateOfRange_0 15 rfl rfl)
theorem dX3_estimateOfRange_16 : decode cX3_estimateOfRange 16 = .ok (.istore 4, 2) := dk_54 4 (dk_at dksX3_estimateOfRange_0 16 rfl rfl)
theorem dX3_estimateOfRange_18 : decode cX3_estimateOfRange 18 = .ok (.iload_n 2, 1) := dk_28 (dk_at dksX3_estimateOfRange_0 18 rfl rfl)
theorem dX3_estimateOfRange_19 : decode cX3_estimateOfRange 19 = .ok (.istore 5, 2) := dk_54 5 (dk_at dksX3_estimateOfRange_0 19 rfl rfl)
theorem dX3_estimateOfRange_21 : decode cX3_estimateOfRange 21 = .ok (.iload 5, 2) := dk_21 5 (dk_at dksX3_estimateOfRange_0 21 rfl rfl)
theorem dX3_estimateOfRange_23 : decode cX3_estimateOfRange 23 = .ok (.iload_n 3, 1) := dk_29 (dk_at dksX3_estimateOfRange_0 23 rfl rfl)
theorem dX3_estimateOfRange_24 : decode cX3_estimateOfRange 24 = .ok (.if_icmp .gt 44, 3) := dk_163 0 44 (dk_at dksX3_estimateOfRange_1 0 rfl rfl)
theorem dX3_estimateOfRange_27 : decode cX3_estimateOfRange 27 = .ok (.iload 5, 2) := dk_21 5 (dk_at dksX3_estimateOfRange_1 3 rfl rfl)
theorem dX3_estimateOfRange_29 : decode cX3_estimateOfRange 29 = .ok (.iload_n 3, 1) := dk_29 (dk_at dksX3_estimateOfRange_1 5 rfl rfl)
theorem dX3_estimateOfRange_30 : decode cX3_estimateOfRange 30 = .ok (.invokestatic 103, 3) := dk_184 0 103 (dk_at dksX3_estimateOfRange_1 6 rfl rfl)
theorem dX3_estimateOfRange_33 : decode cX3_estimateOfRange 33 = .ok (.istore 6, 2) := dk_54 6 (dk_at dksX3_estimateOfRange_1 9 rfl rfl)
theorem dX3_estimateOfRange_35 : decode cX3_estimateOfRange 35 = .ok (.iload 4, 2) := dk_21 4 (dk_at dksX3_estimateOfRange_1 11 rfl rfl)
theorem dX3_estimateOfRange_37 : decode cX3_estimateOfRange 37 = .ok (.aload_n 0, 1) := dk_42 (dk_at dksX3_estimateOfRange_1 13 rfl rfl)
theorem dX3_estimateOfRange_38 : decode cX3_estimateOfRange 38 = .ok (.iload_n 1, 1) := dk_27 (dk_at dksX3_estimateOfRange_1 14 rfl rfl)
theorem dX3_estimateOfRange_39 : decode cX3_estimateOfRange 39 = .ok (.iload 6, 2) := dk_21 6 (dk_at dksX3_estimateOfRange_1 15 rfl rfl)
theorem dX3_estimateOfRange_41 : decode cX3_estimateOfRange 41 = .ok (.iload 5, 2) := dk_21 5 (dk_at dksX3_estimateOfRange_1 17 rfl rfl)
theorem dX3_estimateOfRange_43 : decode cX3_estimateOfRange 43 = .ok (.iload 6, 2) := dk_21 6 (dk_at dksX3_estimateOfRange_1 19 rfl rfl)
theorem dX3_estimateOfRange_45 : decode cX3_estimateOfRange 45 = .ok (.ishr, 1) := dk_122 (dk_at dksX3_estimateOfRange_1 21 rfl rfl)
theorem dX3_estimateOfRange_46 : decode cX3_estimateOfRange 46 = .ok (.invokevirtual 62, 3) := dk_182 0 62 (dk_at dksX3_estimateOfRange_2 0 rfl rfl)
theorem dX3_estimateOfRange_49 : decode cX3_estimateOfRange 49 = .ok (.iadd, 1) := dk_96 (dk_at dksX3_estimateOfRange_2 3 rfl rfl)
theorem dX3_estimateOfRange_50 : decode cX3_estimateOfRange 50 = .ok (.istore 4, 2) := dk_54 4 (dk_at dksX3_estimateOfRange_2 4 rfl rfl)
theorem dX3_estimateOfRange_52 : decode cX3_estimateOfRange 52 = .ok (.iload 5, 2) := dk_21 5 (dk_at dksX3_estimateOfRange_2 6 rfl rfl)
theorem dX3_estimateOfRange_54 : decode cX3_estimateOfRange 54 = .ok (.iconst 1, 1) := dk_4 (dk_at dksX3_estimateOfRange_2 8 rfl rfl)
theorem dX3_estimateOfRange_55 : decode cX3_estimateOfRange 55 = .ok (.iload 5, 2) := dk_21 5 (dk_at dksX3_estimateOfRange_2 9 rfl rfl)
theorem dX3_estimateOfRange_57 : decode cX3_estimateOfRange 57 = .ok (.iload_n 3, 1) := dk_29 (dk_at dksX3_estimateOfRange_2 11 rfl rfl)
theorem dX3_estimateOfRange_58 : decode cX3_estimateOfRange 58 = .ok (.invokestatic 103, 3) := dk_184 0 103 (dk_at dksX3_estimateOfRange_2 12 rfl rfl)
theorem dX3_estimateOfRange_61 : decode cX3_estimateOfRange 61 = .ok (.ishl, 1) := dk_120 (dk_at dksX3_estimateOfRange_2 15 rfl rfl)
theorem dX3_estimateOfRange_62 : decode cX3_estimateOfRange 62 = .ok (.iadd, 1) := dk_96 (dk_at dksX3_estimateOfRange_2 16 rfl rfl)
theorem dX3_estimateOfRange_63 : decode cX3_estimateOfRange 63 = .ok (.istore 5, 2) := dk_54 5 (dk_at dksX3_estimateOfRange_2 17 rfl rfl)
theorem dX3_estimateOfRange_65 : decode cX3_estimateOfRange 65 = .ok (.goto (-44), 3) := dk_167 255 212 (dk_at dksX3_estimateOfRange_2 19 rfl rfl)
theorem dX3_estimateOfRange_68 : decode cX3_estimateOfRange 68 = .ok (.iload 4, 2) := dk_21 4 (dk_at dksX3_estimateOfRange_2 22 rfl rfl)
theorem dX3_estimateOfRange_70 : decode cX3_estimateOfRange 70 = .ok (.ireturn, 1) := dk_172 (dk_at dksX3_estimateOfRange_3 0 rfl rfl)
abbrev cX3_frequent : ByteArray := prog_9_method_39_code
def yX3_frequent : MethodName := ⟨RX3, "frequent", "(II)I"⟩
def dkwX3_frequent_2 : List UInt8 := [29, 172]
abbrev dktX3_frequent_2 : List UInt8 := dkwX3_frequent_2 ++ []
def dkwX3_frequent_1 : List UInt8 := [42, 27, 21, 4, 28, 182, 0, 109, 153, 0, 7, 4, 167, 0, 4, 3, 96, 62, 132, 4, 1, 167, 255, 227]
abbrev dktX3_frequent_1 : List UInt8 := dkwX3_frequent_1 ++ dktX3_frequent_2
def dkwX3_frequent_0 : List UInt8 := [42, 27, 28, 182, 0, 106, 154, 0, 5, 3, 172, 3, 62, 3, 54, 4, 21, 4, 16, 64, 162, 0, 28, 29]
abbrev dktX3_frequent_0 : List UInt8 := dkwX3_frequent_0 ++ dktX3_frequent_1
theorem dksX3_frequent_0 : cX3_frequent.data.toList.drop 0 = dktX3_frequent_0 := by decide +kernel
theorem dksX3_frequent_1 : cX3_frequent.data.toList.drop 24 = dktX3_frequent_1 := dk_seg dksX3_frequent_0 24 rfl rfl
theorem dksX3_frequent_2 : cX3_frequent.data.toList.drop 48 = dktX3_frequent_2 := dk_seg dksX3_frequent_1 24 rfl rfl
theorem dX3_frequent_0 : decode cX3_frequent 0 = .ok (.aload_n 0, 1) := dk_42 (dk_at dksX3_frequent_0 0 rfl rfl)
theorem dX3_frequent_1 : decode cX3_frequent 1 = .ok (.iload_n 1, 1) := dk_27 (dk_at dksX3_frequent_0 1 rfl rfl)
theorem dX3_frequent_2 : decode cX3_frequent 2 = .ok (.iload_n 2, 1) := dk_28 (dk_at dksX3_frequent_0 2 rfl rfl)
theorem dX3_frequent_3 : decode cX3_frequent 3 = .ok (.invokevirtual 106, 3) := dk_182 0 106 (dk_at dksX3_frequent_0 3 rfl rfl)
theorem dX3_frequent_6 : decode cX3_frequent 6 = .ok (.ifCond .ne 5, 3) := dk_154 0 5 (dk_at dksX3_frequent_0 6 rfl rfl)
theorem dX3_frequent_9 : decode cX3_frequent 9 = .ok (.iconst 0, 1) := dk_3 (dk_at dksX3_frequent_0 9 rfl rfl)
theorem dX3_frequent_10 : decode cX3_frequent 10 = .ok (.ireturn, 1) := dk_172 (dk_at dksX3_frequent_0 10 rfl rfl)
theorem dX3_frequent_11 : decode cX3_frequent 11 = .ok (.iconst 0, 1) := dk_3 (dk_at dksX3_frequent_0 11 rfl rfl)
theorem dX3_frequent_12 : decode cX3_frequent 12 = .ok (.istore_n 3, 1) := dk_62 (dk_at dksX3_frequent_0 12 rfl rfl)
theorem dX3_frequent_13 : decode cX3_frequent 13 = .ok (.iconst 0, 1) := dk_3 (dk_at dksX3_frequent_0 13 rfl rfl)
theorem dX3_frequent_14 : decode cX3_frequent 14 = .ok (.istore 4, 2) := dk_54 4 (dk_at dksX3_frequent_0 14 rfl rfl)
theorem dX3_frequent_16 : decode cX3_frequent 16 = .ok (.iload 4, 2) := dk_21 4 (dk_at dksX3_frequent_0 16 rfl rfl)
theorem dX3_frequent_18 : decode cX3_frequent 18 = .ok (.bipush 64, 2) := dk_16 64 (dk_at dksX3_frequent_0 18 rfl rfl)
theorem dX3_frequent_20 : decode cX3_frequent 20 = .ok (.if_icmp .ge 28, 3) := dk_162 0 28 (dk_at dksX3_frequent_0 20 rfl rfl)
theorem dX3_frequent_23 : decode cX3_frequent 23 = .ok (.iload_n 3, 1) := dk_29 (dk_at dksX3_frequent_0 23 rfl rfl)
theorem dX3_frequent_24 : decode cX3_frequent 24 = .ok (.aload_n 0, 1) := dk_42 (dk_at dksX3_frequent_1 0 rfl rfl)
theorem dX3_frequent_25 : decode cX3_frequent 25 = .ok (.iload_n 1, 1) := dk_27 (dk_at dksX3_frequent_1 1 rfl rfl)
theorem dX3_frequent_26 : decode cX3_frequent 26 = .ok (.iload 4, 2) := dk_21 4 (dk_at dksX3_frequent_1 2 rfl rfl)
theorem dX3_frequent_28 : decode cX3_frequent 28 = .ok (.iload_n 2, 1) := dk_28 (dk_at dksX3_frequent_1 4 rfl rfl)
theorem dX3_frequent_29 : decode cX3_frequent 29 = .ok (.invokevirtual 109, 3) := dk_182 0 109 (dk_at dksX3_frequent_1 5 rfl rfl)
theorem dX3_frequent_32 : decode cX3_frequent 32 = .ok (.ifCond .eq 7, 3) := dk_153 0 7 (dk_at dksX3_frequent_1 8 rfl rfl)
theorem dX3_frequent_35 : decode cX3_frequent 35 = .ok (.iconst 1, 1) := dk_4 (dk_at dksX3_frequent_1 11 rfl rfl)
theorem dX3_frequent_36 : decode cX3_frequent 36 = .ok (.goto 4, 3) := dk_167 0 4 (dk_at dksX3_frequent_1 12 rfl rfl)
theorem dX3_frequent_39 : decode cX3_frequent 39 = .ok (.iconst 0, 1) := dk_3 (dk_at dksX3_frequent_1 15 rfl rfl)
theorem dX3_frequent_40 : decode cX3_frequent 40 = .ok (.iadd, 1) := dk_96 (dk_at dksX3_frequent_1 16 rfl rfl)
theorem dX3_frequent_41 : decode cX3_frequent 41 = .ok (.istore_n 3, 1) := dk_62 (dk_at dksX3_frequent_1 17 rfl rfl)
theorem dX3_frequent_42 : decode cX3_frequent 42 = .ok (.iinc 4 1, 3) := dk_132 4 1 (dk_at dksX3_frequent_1 18 rfl rfl)
theorem dX3_frequent_45 : decode cX3_frequent 45 = .ok (.goto (-29), 3) := dk_167 255 227 (dk_at dksX3_frequent_1 21 rfl rfl)
theorem dX3_frequent_48 : decode cX3_frequent 48 = .ok (.iload_n 3, 1) := dk_29 (dk_at dksX3_frequent_2 0 rfl rfl)
theorem dX3_frequent_49 : decode cX3_frequent 49 = .ok (.ireturn, 1) := dk_172 (dk_at dksX3_frequent_2 1 rfl rfl)
abbrev cX3_isLeast : ByteArray := prog_9_method_38_code
def yX3_isLeast : MethodName := ⟨RX3, "isLeast", "(II)Z"⟩
def dkwX3_isLeast_1 : List UInt8 := [167, 0, 4, 5, 182, 0, 84, 172]
abbrev dktX3_isLeast_1 : List UInt8 := dkwX3_isLeast_1 ++ []
def dkwX3_isLeast_0 : List UInt8 := [42, 27, 184, 0, 79, 154, 0, 7, 4, 167, 0, 19, 28, 4, 161, 0, 13, 28, 18, 83, 163, 0, 7, 3]
abbrev dktX3_isLeast_0 : List UInt8 := dkwX3_isLeast_0 ++ dktX3_isLeast_1
theorem dksX3_isLeast_0 : cX3_isLeast.data.toList.drop 0 = dktX3_isLeast_0 := by decide +kernel
theorem dksX3_isLeast_1 : cX3_isLeast.data.toList.drop 24 = dktX3_isLeast_1 := dk_seg dksX3_isLeast_0 24 rfl rfl
theorem dX3_isLeast_0 : decode cX3_isLeast 0 = .ok (.aload_n 0, 1) := dk_42 (dk_at dksX3_isLeast_0 0 rfl rfl)
theorem dX3_isLeast_1 : decode cX3_isLeast 1 = .ok (.iload_n 1, 1) := dk_27 (dk_at dksX3_isLeast_0 1 rfl rfl)
theorem dX3_isLeast_2 : decode cX3_isLeast 2 = .ok (.invokestatic 79, 3) := dk_184 0 79 (dk_at dksX3_isLeast_0 2 rfl rfl)
theorem dX3_isLeast_5 : decode cX3_isLeast 5 = .ok (.ifCond .ne 7, 3) := dk_154 0 7 (dk_at dksX3_isLeast_0 5 rfl rfl)
theorem dX3_isLeast_8 : decode cX3_isLeast 8 = .ok (.iconst 1, 1) := dk_4 (dk_at dksX3_isLeast_0 8 rfl rfl)
theorem dX3_isLeast_9 : decode cX3_isLeast 9 = .ok (.goto 19, 3) := dk_167 0 19 (dk_at dksX3_isLeast_0 9 rfl rfl)
theorem dX3_isLeast_12 : decode cX3_isLeast 12 = .ok (.iload_n 2, 1) := dk_28 (dk_at dksX3_isLeast_0 12 rfl rfl)
theorem dX3_isLeast_13 : decode cX3_isLeast 13 = .ok (.iconst 1, 1) := dk_4 (dk_at dksX3_isLeast_0 13 rfl rfl)
theorem dX3_isLeast_14 : decode cX3_isLeast 14 = .ok (.if_icmp .lt 13, 3) := dk_161 0 13 (dk_at dksX3_isLeast_0 14 rfl rfl)
theorem dX3_isLeast_17 : decode cX3_isLeast 17 = .ok (.iload_n 2, 1) := dk_28 (dk_at dksX3_isLeast_0 17 rfl rfl)
theorem dX3_isLeast_18 : decode cX3_isLeast 18 = .ok (.ldc 83, 2) := dk_18 83 (dk_at dksX3_isLeast_0 18 rfl rfl)
theorem dX3_isLeast_20 : decode cX3_isLeast 20 = .ok (.if_icmp .gt 7, 3) := dk_163 0 7 (dk_at dksX3_isLeast_0 20 rfl rfl)
theorem dX3_isLeast_23 : decode cX3_isLeast 23 = .ok (.iconst 0, 1) := dk_3 (dk_at dksX3_isLeast_0 23 rfl rfl)
theorem dX3_isLeast_24 : decode cX3_isLeast 24 = .ok (.goto 4, 3) := dk_167 0 4 (dk_at dksX3_isLeast_1 0 rfl rfl)
theorem dX3_isLeast_27 : decode cX3_isLeast 27 = .ok (.iconst 2, 1) := dk_5 (dk_at dksX3_isLeast_1 3 rfl rfl)
theorem dX3_isLeast_28 : decode cX3_isLeast 28 = .ok (.invokevirtual 84, 3) := dk_182 0 84 (dk_at dksX3_isLeast_1 4 rfl rfl)
theorem dX3_isLeast_31 : decode cX3_isLeast 31 = .ok (.ireturn, 1) := dk_172 (dk_at dksX3_isLeast_1 7 rfl rfl)
abbrev cX3_isFrequent : ByteArray := prog_9_method_37_code
def yX3_isFrequent : MethodName := ⟨RX3, "isFrequent", "(III)Z"⟩
def dkwX3_isFrequent_2 : List UInt8 := [21, 4, 172]
abbrev dktX3_isFrequent_2 : List UInt8 := dkwX3_isFrequent_2 ++ []
def dkwX3_isFrequent_1 : List UInt8 := [21, 5, 122, 182, 0, 62, 29, 161, 0, 7, 4, 167, 0, 4, 3, 54, 4, 132, 5, 1, 167, 255, 219]
abbrev dktX3_isFrequent_1 : List UInt8 := dkwX3_isFrequent_1 ++ dktX3_isFrequent_2
def dkwX3_isFrequent_0 : List UInt8 := [4, 54, 4, 3, 54, 5, 21, 5, 16, 7, 162, 0, 36, 21, 4, 153, 0, 22, 42, 27, 21, 5, 28]
abbrev dktX3_isFrequent_0 : List UInt8 := dkwX3_isFrequent_0 ++ dktX3_isFrequent_1
theorem dksX3_isFrequent_0 : cX3_isFrequent.data.toList.drop 0 = dktX3_isFrequent_0 := by decide +kernel
theorem dksX3_isFrequent_1 : cX3_isFrequent.data.toList.drop 23 = dktX3_isFrequent_1 := dk_seg dksX3_isFrequent_0 23 rfl rfl
theorem dksX3_isFrequent_2 : cX3_isFrequent.data.toList.drop 46 = dktX3_isFrequent_2 := dk_seg dksX3_isFrequent_1 23 rfl rfl
theorem dX3_isFrequent_0 : decode cX3_isFrequent 0 = .ok (.iconst 1, 1) := dk_4 (dk_at dksX3_isFrequent_0 0 rfl rfl)
theorem dX3_isFrequent_1 : decode cX3_isFrequent 1 = .ok (.istore 4, 2) := dk_54 4 (dk_at dksX3_isFrequent_0 1 rfl rfl)
theorem dX3_isFrequent_3 : decode cX3_isFrequent 3 = .ok (.iconst 0, 1) := dk_3 (dk_at dksX3_isFrequent_0 3 rfl rfl)
theorem dX3_isFrequent_4 : decode cX3_isFrequent 4 = .ok (.istore 5, 2) := dk_54 5 (dk_at dksX3_isFrequent_0 4 rfl rfl)
theorem dX3_isFrequent_6 : decode cX3_isFrequent 6 = .ok (.iload 5, 2) := dk_21 5 (dk_at dksX3_isFrequent_0 6 rfl rfl)
theorem dX3_isFrequent_8 : decode cX3_isFrequent 8 = .ok (.bipush 7, 2) := dk_16 7 (dk_at dksX3_isFrequent_0 8 rfl rfl)
theorem dX3_isFrequent_10 : decode cX3_isFrequent 10 = .ok (.if_icmp .ge 36, 3) := dk_162 0 36 (dk_at dksX3_isFrequent_0 10 rfl rfl)
theorem dX3_isFrequent_13 : decode cX3_isFrequent 13 = .ok (.iload 4, 2) := dk_21 4 (dk_at dksX3_isFrequent_0 13 rfl rfl)
theorem dX3_isFrequent_15 : decode cX3_isFrequent 15 = .ok (.ifCond .eq 22, 3) := dk_153 0 22 (dk_at dksX3_isFrequent_0 15 rfl rfl)
theorem dX3_isFrequent_18 : decode cX3_isFrequent 18 = .ok (.aload_n 0, 1) := dk_42 (dk_at dksX3_isFrequent_0 18 rfl rfl)
theorem dX3_isFrequent_19 : decode cX3_isFrequent 19 = .ok (.iload_n 1, 1) := dk_27 (dk_at dksX3_isFrequent_0 19 rfl rfl)
theorem dX3_isFrequent_20 : decode cX3_isFrequent 20 = .ok (.iload 5, 2) := dk_21 5 (dk_at dksX3_isFrequent_0 20 rfl rfl)
theorem dX3_isFrequent_22 : decode cX3_isFrequent 22 = .ok (.iload_n 2, 1) := dk_28 (dk_at dksX3_isFrequent_0 22 rfl rfl)
theorem dX3_isFrequent_23 : decode cX3_isFrequent 23 = .ok (.iload 5, 2) := dk_21 5 (dk_at dksX3_isFrequent_1 0 rfl rfl)
theorem dX3_isFrequent_25 : decode cX3_isFrequent 25 = .ok (.ishr, 1) := dk_122 (dk_at dksX3_isFrequent_1 2 rfl rfl)
theorem dX3_isFrequent_26 : decode cX3_isFrequent 26 = .ok (.invokevirtual 62, 3) := dk_182 0 62 (dk_at dksX3_isFrequent_1 3 rfl rfl)
theorem dX3_isFrequent_29 : decode cX3_isFrequent 29 = .ok (.iload_n 3, 1) := dk_29 (dk_at dksX3_isFrequent_1 6 rfl rfl)
theorem dX3_isFrequent_30 : decode cX3_isFrequent 30 = .ok (.if_icmp .lt 7, 3) := dk_161 0 7 (dk_at dksX3_isFrequent_1 7 rfl rfl)
theorem dX3_isFrequent_33 : decode cX3_isFrequent 33 = .ok (.iconst 1, 1) := dk_4 (dk_at dksX3_isFrequent_1 10 rfl rfl)
theorem dX3_isFrequent_34 : decode cX3_isFrequent 34 = .ok (.goto 4, 3) := dk_167 0 4 (dk_at dksX3_isFrequent_1 11 rfl rfl)
theorem dX3_isFrequent_37 : decode cX3_isFrequent 37 = .ok (.iconst 0, 1) := dk_3 (dk_at dksX3_isFrequent_1 14 rfl rfl)
theorem dX3_isFrequent_38 : decode cX3_isFrequent 38 = .ok (.istore 4, 2) := dk_54 4 (dk_at dksX3_isFrequent_1 15 rfl rfl)
theorem dX3_isFrequent_40 : decode cX3_isFrequent 40 = .ok (.iinc 5 1, 3) := dk_132 5 1 (dk_at dksX3_isFrequent_1 17 rfl rfl)
theorem dX3_isFrequent_43 : decode cX3_isFrequent 43 = .ok (.goto (-37), 3) := dk_167 255 219 (dk_at dksX3_isFrequent_1 20 rfl rfl)
theorem dX3_isFrequent_46 : decode cX3_isFrequent 46 = .ok (.iload 4, 2) := dk_21 4 (dk_at dksX3_isFrequent_2 0 rfl rfl)
theorem dX3_isFrequent_48 : decode cX3_isFrequent 48 = .ok (.ireturn, 1) := dk_172 (dk_at dksX3_isFrequent_2 2 rfl rfl)
abbrev cX3_frequentAt : ByteArray := prog_9_method_40_code
def yX3_frequentAt : MethodName := ⟨RX3, "frequentAt", "(III)I"⟩
def dkwX3_frequentAt_3 : List UInt8 := [167, 0, 4, 3, 182, 0, 84, 153, 0, 8, 21, 5, 167, 0, 4, 3, 172]
abbrev dktX3_frequentAt_3 : List UInt8 := dkwX3_frequentAt_3 ++ []
def dkwX3_frequentAt_2 : List UInt8 := [167, 0, 5, 21, 5, 54, 5, 132, 4, 1, 132, 6, 1, 167, 255, 217, 42, 21, 5, 2, 160, 0, 7, 6]
abbrev dktX3_frequentAt_2 : List UInt8 := dkwX3_frequentAt_2 ++ dktX3_frequentAt_3
def dkwX3_frequentAt_1 : List UInt8 := [162, 0, 38, 42, 27, 21, 6, 28, 182, 0, 109, 153, 0, 21, 21, 4, 29, 160, 0, 8, 21, 6]
abbrev dktX3_frequentAt_1 : List UInt8 := dkwX3_frequentAt_1 ++ dktX3_frequentAt_2
def dkwX3_frequentAt_0 : List UInt8 := [42, 27, 28, 182, 0, 106, 154, 0, 5, 3, 172, 3, 54, 4, 2, 54, 5, 3, 54, 6, 21, 6, 16, 64]
abbrev dktX3_frequentAt_0 : List UInt8 := dkwX3_frequentAt_0 ++ dktX3_frequentAt_1
theorem dksX3_frequentAt_0 : cX3_frequentAt.data.toList.drop 0 = dktX3_frequentAt_0 := by decide +kernel
theorem dksX3_frequentAt_1 : cX3_frequentAt.data.toList.drop 24 = dktX3_frequentAt_1 := dk_seg dksX3_frequentAt_0 24 rfl rfl
theorem dksX3_frequentAt_2 : cX3_frequentAt.data.toList.drop 46 = dktX3_frequentAt_2 := dk_seg dksX3_frequentAt_1 22 rfl rfl
theorem dksX3_frequentAt_3 : cX3_frequentAt.data.toList.drop 70 = dktX3_frequentAt_3 := dk_seg dksX3_frequentAt_2 24 rfl rfl
theorem dX3_frequentAt_0 : decode cX3_frequentAt 0 = .ok (.aload_n 0, 1) := dk_42 (dk_at dksX3_frequentAt_0 0 rfl rfl)
theorem dX3_frequentAt_1 : decode cX3_frequentAt 1 = .ok (.iload_n 1, 1) := dk_27 (dk_at dksX3_frequentAt_0 1 rfl rfl)
theorem dX3_frequentAt_2 : decode cX3_frequentAt 2 = .ok (.iload_n 2, 1) := dk_28 (dk_at dksX3_frequentAt_0 2 rfl rfl)
theorem dX3_frequentAt_3 : decode cX3_frequentAt 3 = .ok (.invokevirtual 106, 3) := dk_182 0 106 (dk_at dksX3_frequentAt_0 3 rfl rfl)
theorem dX3_frequentAt_6 : decode cX3_frequentAt 6 = .ok (.ifCond .ne 5, 3) := dk_154 0 5 (dk_at dksX3_frequentAt_0 6 rfl rfl)
theorem dX3_frequentAt_9 : decode cX3_frequentAt 9 = .ok (.iconst 0, 1) := dk_3 (dk_at dksX3_frequentAt_0 9 rfl rfl)
theorem dX3_frequentAt_10 : decode cX3_frequentAt 10 = .ok (.ireturn, 1) := dk_172 (dk_at dksX3_frequentAt_0 10 rfl rfl)
theorem dX3_frequentAt_11 : decode cX3_frequentAt 11 = .ok (.iconst 0, 1) := dk_3 (dk_at dksX3_frequentAt_0 11 rfl rfl)
theorem dX3_frequentAt_12 : decode cX3_frequentAt 12 = .ok (.istore 4, 2) := dk_54 4 (dk_at dksX3_frequentAt_0 12 rfl rfl)
theorem dX3_frequentAt_14 : decode cX3_frequentAt 14 = .ok (.iconst (-1), 1) := dk_2 (dk_at dksX3_frequentAt_0 14 rfl rfl)
theorem dX3_frequentAt_15 : decode cX3_frequentAt 15 = .ok (.istore 5, 2) := dk_54 5 (dk_at dksX3_frequentAt_0 15 rfl rfl)
theorem dX3_frequentAt_17 : decode cX3_frequentAt 17 = .ok (.iconst 0, 1) := dk_3 (dk_at dksX3_frequentAt_0 17 rfl rfl)
theorem dX3_frequentAt_18 : decode cX3_frequentAt 18 = .ok (.istore 6, 2) := dk_54 6 (dk_at dksX3_frequentAt_0 18 rfl rfl)
theorem dX3_frequentAt_20 : decode cX3_frequentAt 20 = .ok (.iload 6, 2) := dk_21 6 (dk_at dksX3_frequentAt_0 20 rfl rfl)
theorem dX3_frequentAt_22 : decode cX3_frequentAt 22 = .ok (.bipush 64, 2) := dk_16 64 (dk_at dksX3_frequentAt_0 22 rfl rfl)
theorem dX3_frequentAt_24 : decode cX3_frequentAt 24 = .ok (.if_icmp .ge 38, 3) := dk_162 0 38 (dk_at dksX3_frequentAt_1 0 rfl rfl)
theorem dX3_frequentAt_27 : decode cX3_frequentAt 27 = .ok (.aload_n 0, 1) := dk_42 (dk_at dksX3_frequentAt_1 3 rfl rfl)
theorem dX3_frequentAt_28 : decode cX3_frequentAt 28 = .ok (.iload_n 1, 1) := dk_27 (dk_at dksX3_frequentAt_1 4 rfl rfl)
theorem dX3_frequentAt_29 : decode cX3_frequentAt 29 = .ok (.iload 6, 2) := dk_21 6 (dk_at dksX3_frequentAt_1 5 rfl rfl)
theorem dX3_frequentAt_31 : decode cX3_frequentAt 31 = .ok (.iload_n 2, 1) := dk_28 (dk_at dksX3_frequentAt_1 7 rfl rfl)
theorem dX3_frequentAt_32 : decode cX3_frequentAt 32 = .ok (.invokevirtual 109, 3) := dk_182 0 109 (dk_at dksX3_frequentAt_1 8 rfl rfl)
theorem dX3_frequentAt_35 : decode cX3_frequentAt 35 = .ok (.ifCond .eq 21, 3) := dk_153 0 21 (dk_at dksX3_frequentAt_1 11 rfl rfl)
theorem dX3_frequentAt_38 : decode cX3_frequentAt 38 = .ok (.iload 4, 2) := dk_21 4 (dk_at dksX3_frequentAt_1 14 rfl rfl)
theorem dX3_frequentAt_40 : decode cX3_frequentAt 40 = .ok (.iload_n 3, 1) := dk_29 (dk_at dksX3_frequentAt_1 16 rfl rfl)
theorem dX3_frequentAt_41 : decode cX3_frequentAt 41 = .ok (.if_icmp .ne 8, 3) := dk_160 0 8 (dk_at dksX3_frequentAt_1 17 rfl rfl)
theorem dX3_frequentAt_44 : decode cX3_frequentAt 44 = .ok (.iload 6, 2) := dk_21 6 (dk_at dksX3_frequentAt_1 20 rfl rfl)
theorem dX3_frequentAt_46 : decode cX3_frequentAt 46 = .ok (.goto 5, 3) := dk_167 0 5 (dk_at dksX3_frequentAt_2 0 rfl rfl)
theorem dX3_frequentAt_49 : decode cX3_frequentAt 49 = .ok (.iload 5, 2) := dk_21 5 (dk_at dksX3_frequentAt_2 3 rfl rfl)
theorem dX3_frequentAt_51 : decode cX3_frequentAt 51 = .ok (.istore 5, 2) := dk_54 5 (dk_at dksX3_frequentAt_2 5 rfl rfl)
theorem dX3_frequentAt_53 : decode cX3_frequentAt 53 = .ok (.iinc 4 1, 3) := dk_132 4 1 (dk_at dksX3_frequentAt_2 7 rfl rfl)
theorem dX3_frequentAt_56 : decode cX3_frequentAt 56 = .ok (.iinc 6 1, 3) := dk_132 6 1 (dk_at dksX3_frequentAt_2 10 rfl rfl)
theorem dX3_frequentAt_59 : decode cX3_frequentAt 59 = .ok (.goto (-39), 3) := dk_167 255 217 (dk_at dksX3_frequentAt_2 13 rfl rfl)
theorem dX3_frequentAt_62 : decode cX3_frequentAt 62 = .ok (.aload_n 0, 1) := dk_42 (dk_at dksX3_frequentAt_2 16 rfl rfl)
theorem dX3_frequentAt_63 : decode cX3_frequentAt 63 = .ok (.iload 5, 2) := dk_21 5 (dk_at dksX3_frequentAt_2 17 rfl rfl)
theorem dX3_frequentAt_65 : decode cX3_frequentAt 65 = .ok (.iconst (-1), 1) := dk_2 (dk_at dksX3_frequentAt_2 19 rfl rfl)
theorem dX3_frequentAt_66 : decode cX3_frequentAt 66 = .ok (.if_icmp .ne 7, 3) := dk_160 0 7 (dk_at dksX3_frequentAt_2 20 rfl rfl)
theorem dX3_frequentAt_69 : decode cX3_frequentAt 69 = .ok (.iconst 3, 1) := dk_6 (dk_at dksX3_frequentAt_2 23 rfl rfl)
theorem dX3_frequentAt_70 : decode cX3_frequentAt 70 = .ok (.goto 4, 3) := dk_167 0 4 (dk_at dksX3_frequentAt_3 0 rfl rfl)
theorem dX3_frequentAt_73 : decode cX3_frequentAt 73 = .ok (.iconst 0, 1) := dk_3 (dk_at dksX3_frequentAt_3 3 rfl rfl)
theorem dX3_frequentAt_74 : decode cX3_frequentAt 74 = .ok (.invokevirtual 84, 3) := dk_182 0 84 (dk_at dksX3_frequentAt_3 4 rfl rfl)
theorem dX3_frequentAt_77 : decode cX3_frequentAt 77 = .ok (.ifCond .eq 8, 3) := dk_153 0 8 (dk_at dksX3_frequentAt_3 7 rfl rfl)
theorem dX3_frequentAt_80 : decode cX3_frequentAt 80 = .ok (.iload 5, 2) := dk_21 5 (dk_at dksX3_frequentAt_3 10 rfl rfl)
theorem dX3_frequentAt_82 : decode cX3_frequentAt 82 = .ok (.goto 4, 3) := dk_167 0 4 (dk_at dksX3_frequentAt_3 12 rfl rfl)
theorem dX3_frequentAt_85 : decode cX3_frequentAt 85 = .ok (.iconst 0, 1) := dk_3 (dk_at dksX3_frequentAt_3 15 rfl rfl)
theorem dX3_frequentAt_86 : decode cX3_frequentAt 86 = .ok (.ireturn, 1) := dk_172 (dk_at dksX3_frequentAt_3 16 rfl rfl)
abbrev cX3_itemOfRank : ByteArray := prog_9_method_41_code
def yX3_itemOfRank : MethodName := ⟨RX3, "itemOfRank", "(II)I"⟩
def dkwX3_itemOfRank_4 : List UInt8 := [5, 112, 154, 0, 7, 3, 167, 0, 5, 21, 7, 100, 54, 5, 132, 6, 255, 167, 255, 195, 21, 4, 172]
abbrev dktX3_itemOfRank_4 : List UInt8 := dkwX3_itemOfRank_4 ++ []
def dkwX3_itemOfRank_3 : List UInt8 := [21, 7, 163, 0, 10, 5, 21, 4, 104, 167, 0, 9, 5, 21, 4, 104, 4, 96, 54, 4, 21, 5, 21, 4]
abbrev dktX3_itemOfRank_3 : List UInt8 := dkwX3_itemOfRank_3 ++ dktX3_itemOfRank_4
def dkwX3_itemOfRank_2 : List UInt8 := [8, 54, 6, 21, 6, 155, 0, 62, 42, 27, 21, 6, 5, 21, 4, 104, 182, 0, 62, 54, 7, 21, 5]
abbrev dktX3_itemOfRank_2 : List UInt8 := dkwX3_itemOfRank_2 ++ dktX3_itemOfRank_3
def dkwX3_itemOfRank_1 : List UInt8 := [27, 46, 164, 0, 7, 5, 167, 0, 4, 3, 182, 0, 84, 154, 0, 5, 3, 172, 3, 54, 4, 28, 54, 5]
abbrev dktX3_itemOfRank_1 : List UInt8 := dkwX3_itemOfRank_1 ++ dktX3_itemOfRank_2
def dkwX3_itemOfRank_0 : List UInt8 := [27, 184, 0, 79, 62, 42, 29, 154, 0, 7, 4, 167, 0, 23, 28, 4, 161, 0, 13, 28, 42, 180, 0, 13]
abbrev dktX3_itemOfRank_0 : List UInt8 := dkwX3_itemOfRank_0 ++ dktX3_itemOfRank_1
theorem dksX3_itemOfRank_0 : cX3_itemOfRank.data.toList.drop 0 = dktX3_itemOfRank_0 := by decide +kernel
theorem dksX3_itemOfRank_1 : cX3_itemOfRank.data.toList.drop 24 = dktX3_itemOfRank_1 := dk_seg dksX3_itemOfRank_0 24 rfl rfl
theorem dksX3_itemOfRank_2 : cX3_itemOfRank.data.toList.drop 48 = dktX3_itemOfRank_2 := dk_seg dksX3_itemOfRank_1 24 rfl rfl
theorem dksX3_itemOfRank_3 : cX3_itemOfRank.data.toList.drop 71 = dktX3_itemOfRank_3 := dk_seg dksX3_itemOfRank_2 23 rfl rfl
theorem dksX3_itemOfRank_4 : cX3_itemOfRank.data.toList.drop 95 = dktX3_itemOfRank_4 := dk_seg dksX3_itemOfRank_3 24 rfl rfl
theorem dX3_itemOfRank_0 : decode cX3_itemOfRank 0 = .ok (.iload_n 1, 1) := dk_27 (dk_at dksX3_itemOfRank_0 0 rfl rfl)
theorem dX3_itemOfRank_1 : decode cX3_itemOfRank 1 = .ok (.invokestatic 79, 3) := dk_184 0 79 (dk_at dksX3_itemOfRank_0 1 rfl rfl)
theorem dX3_itemOfRank_4 : decode cX3_itemOfRank 4 = .ok (.istore_n 3, 1) := dk_62 (dk_at dksX3_itemOfRank_0 4 rfl rfl)
theorem dX3_itemOfRank_5 : decode cX3_itemOfRank 5 = .ok (.aload_n 0, 1) := dk_42 (dk_at dksX3_itemOfRank_0 5 rfl rfl)
theorem dX3_itemOfRank_6 : decode cX3_itemOfRank 6 = .ok (.iload_n 3, 1) := dk_29 (dk_at dksX3_itemOfRank_0 6 rfl rfl)
theorem dX3_itemOfRank_7 : decode cX3_itemOfRank 7 = .ok (.ifCond .ne 7, 3) := dk_154 0 7 (dk_at dksX3_itemOfRank_0 7 rfl rfl)
theorem dX3_itemOfRank_10 : decode cX3_itemOfRank 10 = .ok (.iconst 1, 1) := dk_4 (dk_at dksX3_itemOfRank_0 10 rfl rfl)
theorem dX3_itemOfRank_11 : decode cX3_itemOfRank 11 = .ok (.goto 23, 3) := dk_167 0 23 (dk_at dksX3_itemOfRank_0 11 rfl rfl)
theorem dX3_itemOfRank_14 : decode cX3_itemOfRank 14 = .ok (.iload_n 2, 1) := dk_28 (dk_at dksX3_itemOfRank_0 14 rfl rfl)
theorem dX3_itemOfRank_15 : decode cX3_itemOfRank 15 = .ok (.iconst 1, 1) := dk_4 (dk_at dksX3_itemOfRank_0 15 rfl rfl)
theorem dX3_itemOfRank_16 : decode cX3_itemOfRank 16 = .ok (.if_icmp .lt 13, 3) := dk_161 0 13 (dk_at dksX3_itemOfRank_0 16 rfl rfl)
theorem dX3_itemOfRank_19 : decode cX3_itemOfRank 19 = .ok (.iload_n 2, 1) := dk_28 (dk_at dksX3_itemOfRank_0 19 rfl rfl)
theorem dX3_itemOfRank_20 : decode cX3_itemOfRank 20 = .ok (.aload_n 0, 1) := dk_42 (dk_at dksX3_itemOfRank_0 20 rfl rfl)
theorem dX3_itemOfRank_21 : decode cX3_itemOfRank 21 = .ok (.getfield 13, 3) := dk_180 0 13 (dk_at dksX3_itemOfRank_0 21 rfl rfl)
theorem dX3_itemOfRank_24 : decode cX3_itemOfRank 24 = .ok (.iload_n 1, 1) := dk_27 (dk_at dksX3_itemOfRank_1 0 rfl rfl)
theorem dX3_itemOfRank_25 : decode cX3_itemOfRank 25 = .ok (.iaload, 1) := dk_46 (dk_at dksX3_itemOfRank_1 1 rfl rfl)
theorem dX3_itemOfRank_26 : decode cX3_itemOfRank 26 = .ok (.if_icmp .le 7, 3) := dk_164 0 7 (dk_at dksX3_itemOfRank_1 2 rfl rfl)
theorem dX3_itemOfRank_29 : decode cX3_itemOfRank 29 = .ok (.iconst 2, 1) := dk_5 (dk_at dksX3_itemOfRank_1 5 rfl rfl)
theorem dX3_itemOfRank_30 : decode cX3_itemOfRank 30 = .ok (.goto 4, 3) := dk_167 0 4 (dk_at dksX3_itemOfRank_1 6 rfl rfl)
theorem dX3_itemOfRank_33 : decode cX3_itemOfRank 33 = .ok (.iconst 0, 1) := dk_3 (dk_at dksX3_itemOfRank_1 9 rfl rfl)
theorem dX3_itemOfRank_34 : decode cX3_itemOfRank 34 = .ok (.invokevirtual 84, 3) := dk_182 0 84 (dk_at dksX3_itemOfRank_1 10 rfl rfl)
theorem dX3_itemOfRank_37 : decode cX3_itemOfRank 37 = .ok (.ifCond .ne 5, 3) := dk_154 0 5 (dk_at dksX3_itemOfRank_1 13 rfl rfl)
theorem dX3_itemOfRank_40 : decode cX3_itemOfRank 40 = .ok (.iconst 0, 1) := dk_3 (dk_at dksX3_itemOfRank_1 16 rfl rfl)
theorem dX3_itemOfRank_41 : decode cX3_itemOfRank 41 = .ok (.ireturn, 1) := dk_172 (dk_at dksX3_itemOfRank_1 17 rfl rfl)
theorem dX3_itemOfRank_42 : decode cX3_itemOfRank 42 = .ok (.iconst 0, 1) := dk_3 (dk_at dksX3_itemOfRank_1 18 rfl rfl)
theorem dX3_itemOfRank_43 : decode cX3_itemOfRank 43 = .ok (.istore 4, 2) := dk_54 4 (dk_at dksX3_itemOfRank_1 19 rfl rfl)
theorem dX3_itemOfRank_45 : decode cX3_itemOfRank 45 = .ok (.iload_n 2, 1) := dk_28 (dk_at dksX3_itemOfRank_1 21 rfl rfl)
theorem dX3_itemOfRank_46 : decode cX3_itemOfRank 46 = .ok (.istore 5, 2) := dk_54 5 (dk_at dksX3_itemOfRank_1 22 rfl rfl)
theorem dX3_itemOfRank_48 : decode cX3_itemOfRank 48 = .ok (.iconst 5, 1) := dk_8 (dk_at dksX3_itemOfRank_2 0 rfl rfl)
theorem dX3_itemOfRank_49 : decode cX3_itemOfRank 49 = .ok (.istore 6, 2) := dk_54 6 (dk_at dksX3_itemOfRank_2 1 rfl rfl)
theorem dX3_itemOfRank_51 : decode cX3_itemOfRank 51 = .ok (.iload 6, 2) := dk_21 6 (dk_at dksX3_itemOfRank_2 3 rfl rfl)
theorem dX3_itemOfRank_53 : decode cX3_itemOfRank 53 = .ok (.ifCond .lt 62, 3) := dk_155 0 62 (dk_at dksX3_itemOfRank_2 5 rfl rfl)
theorem dX3_itemOfRank_56 : decode cX3_itemOfRank 56 = .ok (.aload_n 0, 1) := dk_42 (dk_at dksX3_itemOfRank_2 8 rfl rfl)
theorem dX3_itemOfRank_57 : decode cX3_itemOfRank 57 = .ok (.iload_n 1, 1) := dk_27 (dk_at dksX3_itemOfRank_2 9 rfl rfl)
theorem dX3_itemOfRank_58 : decode cX3_itemOfRank 58 = .ok (.iload 6, 2) := dk_21 6 (dk_at dksX3_itemOfRank_2 10 rfl rfl)
theorem dX3_itemOfRank_60 : decode cX3_itemOfRank 60 = .ok (.iconst 2, 1) := dk_5 (dk_at dksX3_itemOfRank_2 12 rfl rfl)
theorem dX3_itemOfRank_61 : decode cX3_itemOfRank 61 = .ok (.iload 4, 2) := dk_21 4 (dk_at dksX3_itemOfRank_2 13 rfl rfl)
theorem dX3_itemOfRank_63 : decode cX3_itemOfRank 63 = .ok (.imul, 1) := dk_104 (dk_at dksX3_itemOfRank_2 15 rfl rfl)
theorem dX3_itemOfRank_64 : decode cX3_itemOfRank 64 = .ok (.invokevirtual 62, 3) := dk_182 0 62 (dk_at dksX3_itemOfRank_2 16 rfl rfl)
theorem dX3_itemOfRank_67 : decode cX3_itemOfRank 67 = .ok (.istore 7, 2) := dk_54 7 (dk_at dksX3_itemOfRank_2 19 rfl rfl)
theorem dX3_itemOfRank_69 : decode cX3_itemOfRank 69 = .ok (.iload 5, 2) := dk_21 5 (dk_at dksX3_itemOfRank_2 21 rfl rfl)
theorem dX3_itemOfRank_71 : decode cX3_itemOfRank 71 = .ok (.iload 7, 2) := dk_21 7 (dk_at dksX3_itemOfRank_3 0 rfl rfl)
theorem dX3_itemOfRank_73 : decode cX3_itemOfRank 73 = .ok (.if_icmp .gt 10, 3) := dk_163 0 10 (dk_at dksX3_itemOfRank_3 2 rfl rfl)
theorem dX3_itemOfRank_76 : decode cX3_itemOfRank 76 = .ok (.iconst 2, 1) := dk_5 (dk_at dksX3_itemOfRank_3 5 rfl rfl)
theorem dX3_itemOfRank_77 : decode cX3_itemOfRank 77 = .ok (.iload 4, 2) := dk_21 4 (dk_at dksX3_itemOfRank_3 6 rfl rfl)
theorem dX3_itemOfRank_79 : decode cX3_itemOfRank 79 = .ok (.imul, 1) := dk_104 (dk_at dksX3_itemOfRank_3 8 rfl rfl)
theorem dX3_itemOfRank_80 : decode cX3_itemOfRank 80 = .ok (.goto 9, 3) := dk_167 0 9 (dk_at dksX3_itemOfRank_3 9 rfl rfl)
theorem dX3_itemOfRank_83 : decode cX3_itemOfRank 83 = .ok (.iconst 2, 1) := dk_5 (dk_at dksX3_itemOfRank_3 12 rfl rfl)
theorem dX3_itemOfRank_84 : decode cX3_itemOfRank 84 = .ok (.iload 4, 2) := dk_21 4 (dk_at dksX3_itemOfRank_3 13 rfl rfl)
theorem dX3_itemOfRank_86 : decode cX3_itemOfRank 86 = .ok (.imul, 1) := dk_104 (dk_at dksX3_itemOfRank_3 15 rfl rfl)
theorem dX3_itemOfRank_87 : decode cX3_itemOfRank 87 = .ok (.iconst 1, 1) := dk_4 (dk_at dksX3_itemOfRank_3 16 rfl rfl)
theorem dX3_itemOfRank_88 : decode cX3_itemOfRank 88 = .ok (.iadd, 1) := dk_96 (dk_at dksX3_itemOfRank_3 17 rfl rfl)
theorem dX3_itemOfRank_89 : decode cX3_itemOfRank 89 = .ok (.istore 4, 2) := dk_54 4 (dk_at dksX3_itemOfRank_3 18 rfl rfl)
theorem dX3_itemOfRank_91 : decode cX3_itemOfRank 91 = .ok (.iload 5, 2) := dk_21 5 (dk_at dksX3_itemOfRank_3 20 rfl rfl)
theorem dX3_itemOfRank_93 : decode cX3_itemOfRank 93 = .ok (.iload 4, 2) := dk_21 4 (dk_at dksX3_itemOfRank_3 22 rfl rfl)
theorem dX3_itemOfRank_95 : decode cX3_itemOfRank 95 = .ok (.iconst 2, 1) := dk_5 (dk_at dksX3_itemOfRank_4 0 rfl rfl)
theorem dX3_itemOfRank_96 : decode cX3_itemOfRank 96 = .ok (.irem, 1) := dk_112 (dk_at dksX3_itemOfRank_4 1 rfl rfl)
theorem dX3_itemOfRank_97 : decode cX3_itemOfRank 97 = .ok (.ifCond .ne 7, 3) := dk_154 0 7 (dk_at dksX3_itemOfRank_4 2 rfl rfl)
theorem dX3_itemOfRank_100 : decode cX3_itemOfRank 100 = .ok (.iconst 0, 1) := dk_3 (dk_at dksX3_itemOfRank_4 5 rfl rfl)
theorem dX3_itemOfRank_101 : decode cX3_itemOfRank 101 = .ok (.goto 5, 3) := dk_167 0 5 (dk_at dksX3_itemOfRank_4 6 rfl rfl)
theorem dX3_itemOfRank_104 : decode cX3_itemOfRank 104 = .ok (.iload 7, 2) := dk_21 7 (dk_at dksX3_itemOfRank_4 9 rfl rfl)
theorem dX3_itemOfRank_106 : decode cX3_itemOfRank 106 = .ok (.isub, 1) := dk_100 (dk_at dksX3_itemOfRank_4 11 rfl rfl)
theorem dX3_itemOfRank_107 : decode cX3_itemOfRank 107 = .ok (.istore 5, 2) := dk_54 5 (dk_at dksX3_itemOfRank_4 12 rfl rfl)
theorem dX3_itemOfRank_109 : decode cX3_itemOfRank 109 = .ok (.iinc 6 (-1), 3) := dk_132 6 255 (dk_at dksX3_itemOfRank_4 14 rfl rfl)
theorem dX3_itemOfRank_112 : decode cX3_itemOfRank 112 = .ok (.goto (-61), 3) := dk_167 255 195 (dk_at dksX3_itemOfRank_4 17 rfl rfl)
theorem dX3_itemOfRank_115 : decode cX3_itemOfRank 115 = .ok (.iload 4, 2) := dk_21 4 (dk_at dksX3_itemOfRank_4 20 rfl rfl)
theorem dX3_itemOfRank_117 : decode cX3_itemOfRank 117 = .ok (.ireturn, 1) := dk_172 (dk_at dksX3_itemOfRank_4 22 rfl rfl)
abbrev cX3_signedColumn : ByteArray := prog_9_method_42_code
def yX3_signedColumn : MethodName := ⟨RX3, "signedColumn", "(II)I"⟩
def dkwX3_signedColumn_1 : List UInt8 := [182, 0, 84, 153, 0, 11, 27, 28, 184, 0, 113, 167, 0, 4, 3, 172]
abbrev dktX3_signedColumn_1 : List UInt8 := dkwX3_signedColumn_1 ++ []
def dkwX3_signedColumn_0 : List UInt8 := [42, 27, 8, 184, 0, 39, 153, 0, 16, 28, 16, 64, 184, 0, 39, 153, 0, 7, 3, 167, 0, 4, 4]
abbrev dktX3_signedColumn_0 : List UInt8 := dkwX3_signedColumn_0 ++ dktX3_signedColumn_1
theorem dksX3_signedColumn_0 : cX3_signedColumn.data.toList.drop 0 = dktX3_signedColumn_0 := by decide +kernel
theorem dksX3_signedColumn_1 : cX3_signedColumn.data.toList.drop 23 = dktX3_signedColumn_1 := dk_seg dksX3_signedColumn_0 23 rfl rfl
theorem dX3_signedColumn_0 : decode cX3_signedColumn 0 = .ok (.aload_n 0, 1) := dk_42 (dk_at dksX3_signedColumn_0 0 rfl rfl)
theorem dX3_signedColumn_1 : decode cX3_signedColumn 1 = .ok (.iload_n 1, 1) := dk_27 (dk_at dksX3_signedColumn_0 1 rfl rfl)
theorem dX3_signedColumn_2 : decode cX3_signedColumn 2 = .ok (.iconst 5, 1) := dk_8 (dk_at dksX3_signedColumn_0 2 rfl rfl)
theorem dX3_signedColumn_3 : decode cX3_signedColumn 3 = .ok (.invokestatic 39, 3) := dk_184 0 39 (dk_at dksX3_signedColumn_0 3 rfl rfl)
theorem dX3_signedColumn_6 : decode cX3_signedColumn 6 = .ok (.ifCond .eq 16, 3) := dk_153 0 16 (dk_at dksX3_signedColumn_0 6 rfl rfl)
theorem dX3_signedColumn_9 : decode cX3_signedColumn 9 = .ok (.iload_n 2, 1) := dk_28 (dk_at dksX3_signedColumn_0 9 rfl rfl)
theorem dX3_signedColumn_10 : decode cX3_signedColumn 10 = .ok (.bipush 64, 2) := dk_16 64 (dk_at dksX3_signedColumn_0 10 rfl rfl)
theorem dX3_signedColumn_12 : decode cX3_signedColumn 12 = .ok (.invokestatic 39, 3) := dk_184 0 39 (dk_at dksX3_signedColumn_0 12 rfl rfl)
theorem dX3_signedColumn_15 : decode cX3_signedColumn 15 = .ok (.ifCond .eq 7, 3) := dk_153 0 7 (dk_at dksX3_signedColumn_0 15 rfl rfl)
theorem dX3_signedColumn_18 : decode cX3_signedColumn 18 = .ok (.iconst 0, 1) := dk_3 (dk_at dksX3_signedColumn_0 18 rfl rfl)
theorem dX3_signedColumn_19 : decode cX3_signedColumn 19 = .ok (.goto 4, 3) := dk_167 0 4 (dk_at dksX3_signedColumn_0 19 rfl rfl)
theorem dX3_signedColumn_22 : decode cX3_signedColumn 22 = .ok (.iconst 1, 1) := dk_4 (dk_at dksX3_signedColumn_0 22 rfl rfl)
theorem dX3_signedColumn_23 : decode cX3_signedColumn 23 = .ok (.invokevirtual 84, 3) := dk_182 0 84 (dk_at dksX3_signedColumn_1 0 rfl rfl)
theorem dX3_signedColumn_26 : decode cX3_signedColumn 26 = .ok (.ifCond .eq 11, 3) := dk_153 0 11 (dk_at dksX3_signedColumn_1 3 rfl rfl)
theorem dX3_signedColumn_29 : decode cX3_signedColumn 29 = .ok (.iload_n 1, 1) := dk_27 (dk_at dksX3_signedColumn_1 6 rfl rfl)
theorem dX3_signedColumn_30 : decode cX3_signedColumn 30 = .ok (.iload_n 2, 1) := dk_28 (dk_at dksX3_signedColumn_1 7 rfl rfl)
theorem dX3_signedColumn_31 : decode cX3_signedColumn 31 = .ok (.invokestatic 113, 3) := dk_184 0 113 (dk_at dksX3_signedColumn_1 8 rfl rfl)
theorem dX3_signedColumn_34 : decode cX3_signedColumn 34 = .ok (.goto 4, 3) := dk_167 0 4 (dk_at dksX3_signedColumn_1 11 rfl rfl)
theorem dX3_signedColumn_37 : decode cX3_signedColumn 37 = .ok (.iconst 0, 1) := dk_3 (dk_at dksX3_signedColumn_1 14 rfl rfl)
theorem dX3_signedColumn_38 : decode cX3_signedColumn 38 = .ok (.ireturn, 1) := dk_172 (dk_at dksX3_signedColumn_1 15 rfl rfl)
abbrev cX3_signedColumnOf : ByteArray := prog_9_method_9_code
def yX3_signedColumnOf : MethodName := ⟨RX3, "signedColumnOf", "(II)I"⟩
def dkwX3_signedColumnOf_3 : List UInt8 := [160, 0, 8, 16, 40, 167, 0, 5, 16, 17, 62, 28, 27, 104, 29, 96, 16, 67, 112, 16, 8, 112, 172]
abbrev dktX3_signedColumnOf_3 : List UInt8 := dkwX3_signedColumnOf_3 ++ []
def dkwX3_signedColumnOf_2 : List UInt8 := [167, 0, 34, 26, 4, 160, 0, 8, 16, 8, 167, 0, 24, 26, 5, 160, 0, 7, 5, 167, 0, 15, 26, 6]
abbrev dktX3_signedColumnOf_2 : List UInt8 := dkwX3_signedColumnOf_2 ++ dktX3_signedColumnOf_3
def dkwX3_signedColumnOf_1 : List UInt8 := [16, 14, 167, 0, 15, 26, 6, 160, 0, 8, 16, 27, 167, 0, 5, 16, 33, 61, 26, 154, 0, 7, 4]
abbrev dktX3_signedColumnOf_1 : List UInt8 := dkwX3_signedColumnOf_1 ++ dktX3_signedColumnOf_2
def dkwX3_signedColumnOf_0 : List UInt8 := [26, 154, 0, 7, 8, 167, 0, 35, 26, 4, 160, 0, 8, 16, 9, 167, 0, 25, 26, 5, 160, 0, 8]
abbrev dktX3_signedColumnOf_0 : List UInt8 := dkwX3_signedColumnOf_0 ++ dktX3_signedColumnOf_1
theorem dksX3_signedColumnOf_0 : cX3_signedColumnOf.data.toList.drop 0 = dktX3_signedColumnOf_0 := by decide +kernel
theorem dksX3_signedColumnOf_1 : cX3_signedColumnOf.data.toList.drop 23 = dktX3_signedColumnOf_1 := dk_seg dksX3_signedColumnOf_0 23 rfl rfl
theorem dksX3_signedColumnOf_2 : cX3_signedColumnOf.data.toList.drop 46 = dktX3_signedColumnOf_2 := dk_seg dksX3_signedColumnOf_1 23 rfl rfl
theorem dksX3_signedColumnOf_3 : cX3_signedColumnOf.data.toList.drop 70 = dktX3_signedColumnOf_3 := dk_seg dksX3_signedColumnOf_2 24 rfl rfl
theorem dX3_signedColumnOf_0 : decode cX3_signedColumnOf 0 = .ok (.iload_n 0, 1) := dk_26 (dk_at dksX3_signedColumnOf_0 0 rfl rfl)
theorem dX3_signedColumnOf_1 : decode cX3_signedColumnOf 1 = .ok (.ifCond .ne 7, 3) := dk_154 0 7 (dk_at dksX3_signedColumnOf_0 1 rfl rfl)
theorem dX3_signedColumnOf_4 : decode cX3_signedColumnOf 4 = .ok (.iconst 5, 1) := dk_8 (dk_at dksX3_signedColumnOf_0 4 rfl rfl)
theorem dX3_signedColumnOf_5 : decode cX3_signedColumnOf 5 = .ok (.goto 35, 3) := dk_167 0 35 (dk_at dksX3_signedColumnOf_0 5 rfl rfl)
theorem dX3_signedColumnOf_8 : decode cX3_signedColumnOf 8 = .ok (.iload_n 0, 1) := dk_26 (dk_at dksX3_signedColumnOf_0 8 rfl rfl)
theorem dX3_signedColumnOf_9 : decode cX3_signedColumnOf 9 = .ok (.iconst 1, 1) := dk_4 (dk_at dksX3_signedColumnOf_0 9 rfl rfl)
theorem dX3_signedColumnOf_10 : decode cX3_signedColumnOf 10 = .ok (.if_icmp .ne 8, 3) := dk_160 0 8 (dk_at dksX3_signedColumnOf_0 10 rfl rfl)
theorem dX3_signedColumnOf_13 : decode cX3_signedColumnOf 13 = .ok (.bipush 9, 2) := dk_16 9 (dk_at dksX3_signedColumnOf_0 13 rfl rfl)
theorem dX3_signedColumnOf_15 : decode cX3_signedColumnOf 15 = .ok (.goto 25, 3) := dk_167 0 25 (dk_at dksX3_signedColumnOf_0 15 rfl rfl)
theorem dX3_signedColumnOf_18 : decode cX3_signedColumnOf 18 = .ok (.iload_n 0, 1) := dk_26 (dk_at dksX3_signedColumnOf_0 18 rfl rfl)
theorem dX3_signedColumnOf_19 : decode cX3_signedColumnOf 19 = .ok (.iconst 2, 1) := dk_5 (dk_at dksX3_signedColumnOf_0 19 rfl rfl)
theorem dX3_signedColumnOf_20 : decode cX3_signedColumnOf 20 = .ok (.if_icmp .ne 8, 3) := dk_160 0 8 (dk_at dksX3_signedColumnOf_0 20 rfl rfl)
theorem dX3_signedColumnOf_23 : decode cX3_signedColumnOf 23 = .ok (.bipush 14, 2) := dk_16 14 (dk_at dksX3_signedColumnOf_1 0 rfl rfl)
theorem dX3_signedColumnOf_25 : decode cX3_signedColumnOf 25 = .ok (.goto 15, 3) := dk_167 0 15 (dk_at dksX3_signedColumnOf_1 2 rfl rfl)
theorem dX3_signedColumnOf_28 : decode cX3_signedColumnOf 28 = .ok (.iload_n 0, 1) := dk_26 (dk_at dksX3_signedColumnOf_1 5 rfl rfl)
theorem dX3_signedColumnOf_29 : decode cX3_signedColumnOf 29 = .ok (.iconst 3, 1) := dk_6 (dk_at dksX3_signedColumnOf_1 6 rfl rfl)
theorem dX3_signedColumnOf_30 : decode cX3_signedColumnOf 30 = .ok (.if_icmp .ne 8, 3) := dk_160 0 8 (dk_at dksX3_signedColumnOf_1 7 rfl rfl)
theorem dX3_signedColumnOf_33 : decode cX3_signedColumnOf 33 = .ok (.bipush 27, 2) := dk_16 27 (dk_at dksX3_signedColumnOf_1 10 rfl rfl)
theorem dX3_signedColumnOf_35 : decode cX3_signedColumnOf 35 = .ok (.goto 5, 3) := dk_167 0 5 (dk_at dksX3_signedColumnOf_1 12 rfl rfl)
theorem dX3_signedColumnOf_38 : decode cX3_signedColumnOf 38 = .ok (.bipush 33, 2) := dk_16 33 (dk_at dksX3_signedColumnOf_1 15 rfl rfl)
theorem dX3_signedColumnOf_40 : decode cX3_signedColumnOf 40 = .ok (.istore_n 2, 1) := dk_61 (dk_at dksX3_signedColumnOf_1 17 rfl rfl)
theorem dX3_signedColumnOf_41 : decode cX3_signedColumnOf 41 = .ok (.iload_n 0, 1) := dk_26 (dk_at dksX3_signedColumnOf_1 18 rfl rfl)
theorem dX3_signedColumnOf_42 : decode cX3_signedColumnOf 42 = .ok (.ifCond .ne 7, 3) := dk_154 0 7 (dk_at dksX3_signedColumnOf_1 19 rfl rfl)
theorem dX3_signedColumnOf_45 : decode cX3_signedColumnOf 45 = .ok (.iconst 1, 1) := dk_4 (dk_at dksX3_signedColumnOf_1 22 rfl rfl)
theorem dX3_signedColumnOf_46 : decode cX3_signedColumnOf 46 = .ok (.goto 34, 3) := dk_167 0 34 (dk_at dksX3_signedColumnOf_2 0 rfl rfl)
theorem dX3_signedColumnOf_49 : decode cX3_signedColumnOf 49 = .ok (.iload_n 0, 1) := dk_26 (dk_at dksX3_signedColumnOf_2 3 rfl rfl)
theorem dX3_signedColumnOf_50 : decode cX3_signedColumnOf 50 = .ok (.iconst 1, 1) := dk_4 (dk_at dksX3_signedColumnOf_2 4 rfl rfl)
theorem dX3_signedColumnOf_51 : decode cX3_signedColumnOf 51 = .ok (.if_icmp .ne 8, 3) := dk_160 0 8 (dk_at dksX3_signedColumnOf_2 5 rfl rfl)
theorem dX3_signedColumnOf_54 : decode cX3_signedColumnOf 54 = .ok (.bipush 8, 2) := dk_16 8 (dk_at dksX3_signedColumnOf_2 8 rfl rfl)
theorem dX3_signedColumnOf_56 : decode cX3_signedColumnOf 56 = .ok (.goto 24, 3) := dk_167 0 24 (dk_at dksX3_signedColumnOf_2 10 rfl rfl)
theorem dX3_signedColumnOf_59 : decode cX3_signedColumnOf 59 = .ok (.iload_n 0, 1) := dk_26 (dk_at dksX3_signedColumnOf_2 13 rfl rfl)
theorem dX3_signedColumnOf_60 : decode cX3_signedColumnOf 60 = .ok (.iconst 2, 1) := dk_5 (dk_at dksX3_signedColumnOf_2 14 rfl rfl)
theorem dX3_signedColumnOf_61 : decode cX3_signedColumnOf 61 = .ok (.if_icmp .ne 7, 3) := dk_160 0 7 (dk_at dksX3_signedColumnOf_2 15 rfl rfl)
theorem dX3_signedColumnOf_64 : decode cX3_signedColumnOf 64 = .ok (.iconst 2, 1) := dk_5 (dk_at dksX3_signedColumnOf_2 18 rfl rfl)
theorem dX3_signedColumnOf_65 : decode cX3_signedColumnOf 65 = .ok (.goto 15, 3) := dk_167 0 15 (dk_at dksX3_signedColumnOf_2 19 rfl rfl)
theorem dX3_signedColumnOf_68 : decode cX3_signedColumnOf 68 = .ok (.iload_n 0, 1) := dk_26 (dk_at dksX3_signedColumnOf_2 22 rfl rfl)
theorem dX3_signedColumnOf_69 : decode cX3_signedColumnOf 69 = .ok (.iconst 3, 1) := dk_6 (dk_at dksX3_signedColumnOf_2 23 rfl rfl)
theorem dX3_signedColumnOf_70 : decode cX3_signedColumnOf 70 = .ok (.if_icmp .ne 8, 3) := dk_160 0 8 (dk_at dksX3_signedColumnOf_3 0 rfl rfl)
theorem dX3_signedColumnOf_73 : decode cX3_signedColumnOf 73 = .ok (.bipush 40, 2) := dk_16 40 (dk_at dksX3_signedColumnOf_3 3 rfl rfl)
theorem dX3_signedColumnOf_75 : decode cX3_signedColumnOf 75 = .ok (.goto 5, 3) := dk_167 0 5 (dk_at dksX3_signedColumnOf_3 5 rfl rfl)
theorem dX3_signedColumnOf_78 : decode cX3_signedColumnOf 78 = .ok (.bipush 17, 2) := dk_16 17 (dk_at dksX3_signedColumnOf_3 8 rfl rfl)
theorem dX3_signedColumnOf_80 : decode cX3_signedColumnOf 80 = .ok (.istore_n 3, 1) := dk_62 (dk_at dksX3_signedColumnOf_3 10 rfl rfl)
theorem dX3_signedColumnOf_81 : decode cX3_signedColumnOf 81 = .ok (.iload_n 2, 1) := dk_28 (dk_at dksX3_signedColumnOf_3 11 rfl rfl)
theorem dX3_signedColumnOf_82 : decode cX3_signedColumnOf 82 = .ok (.iload_n 1, 1) := dk_27 (dk_at dksX3_signedColumnOf_3 12 rfl rfl)
theorem dX3_signedColumnOf_83 : decode cX3_signedColumnOf 83 = .ok (.imul, 1) := dk_104 (dk_at dksX3_signedColumnOf_3 13 rfl rfl)
theorem dX3_signedColumnOf_84 : decode cX3_signedColumnOf 84 = .ok (.iload_n 3, 1) := dk_29 (dk_at dksX3_signedColumnOf_3 14 rfl rfl)
theorem dX3_signedColumnOf_85 : decode cX3_signedColumnOf 85 = .ok (.iadd, 1) := dk_96 (dk_at dksX3_signedColumnOf_3 15 rfl rfl)
theorem dX3_signedColumnOf_86 : decode cX3_signedColumnOf 86 = .ok (.bipush 67, 2) := dk_16 67 (dk_at dksX3_signedColumnOf_3 16 rfl rfl)
theorem dX3_signedColumnOf_88 : decode cX3_signedColumnOf 88 = .ok (.irem, 1) := dk_112 (dk_at dksX3_signedColumnOf_3 18 rfl rfl)
theorem dX3_signedColumnOf_89 : decode cX3_signedColumnOf 89 = .ok (.bipush 8, 2) := dk_16 8 (dk_at dksX3_signedColumnOf_3 19 rfl rfl)
theorem dX3_signedColumnOf_91 : decode cX3_signedColumnOf 91 = .ok (.irem, 1) := dk_112 (dk_at dksX3_signedColumnOf_3 21 rfl rfl)
theorem dX3_signedColumnOf_92 : decode cX3_signedColumnOf 92 = .ok (.ireturn, 1) := dk_172 (dk_at dksX3_signedColumnOf_3 22 rfl rfl)
abbrev cX3_sign : ByteArray := prog_9_method_43_code
def yX3_sign : MethodName := ⟨RX3, "sign", "(II)I"⟩
def dkwX3_sign_1 : List UInt8 := [182, 0, 84, 153, 0, 11, 27, 28, 184, 0, 116, 167, 0, 4, 3, 172]
abbrev dktX3_sign_1 : List UInt8 := dkwX3_sign_1 ++ []
def dkwX3_sign_0 : List UInt8 := [42, 27, 8, 184, 0, 39, 153, 0, 16, 28, 16, 64, 184, 0, 39, 153, 0, 7, 3, 167, 0, 4, 4]
abbrev dktX3_sign_0 : List UInt8 := dkwX3_sign_0 ++ dktX3_sign_1
theorem dksX3_sign_0 : cX3_sign.data.toList.drop 0 = dktX3_sign_0 := by decide +kernel
theorem dksX3_sign_1 : cX3_sign.data.toList.drop 23 = dktX3_sign_1 := dk_seg dksX3_sign_0 23 rfl rfl
theorem dX3_sign_0 : decode cX3_sign 0 = .ok (.aload_n 0, 1) := dk_42 (dk_at dksX3_sign_0 0 rfl rfl)
theorem dX3_sign_1 : decode cX3_sign 1 = .ok (.iload_n 1, 1) := dk_27 (dk_at dksX3_sign_0 1 rfl rfl)
theorem dX3_sign_2 : decode cX3_sign 2 = .ok (.iconst 5, 1) := dk_8 (dk_at dksX3_sign_0 2 rfl rfl)
theorem dX3_sign_3 : decode cX3_sign 3 = .ok (.invokestatic 39, 3) := dk_184 0 39 (dk_at dksX3_sign_0 3 rfl rfl)
theorem dX3_sign_6 : decode cX3_sign 6 = .ok (.ifCond .eq 16, 3) := dk_153 0 16 (dk_at dksX3_sign_0 6 rfl rfl)
theorem dX3_sign_9 : decode cX3_sign 9 = .ok (.iload_n 2, 1) := dk_28 (dk_at dksX3_sign_0 9 rfl rfl)
theorem dX3_sign_10 : decode cX3_sign 10 = .ok (.bipush 64, 2) := dk_16 64 (dk_at dksX3_sign_0 10 rfl rfl)
theorem dX3_sign_12 : decode cX3_sign 12 = .ok (.invokestatic 39, 3) := dk_184 0 39 (dk_at dksX3_sign_0 12 rfl rfl)
theorem dX3_sign_15 : decode cX3_sign 15 = .ok (.ifCond .eq 7, 3) := dk_153 0 7 (dk_at dksX3_sign_0 15 rfl rfl)
theorem dX3_sign_18 : decode cX3_sign 18 = .ok (.iconst 0, 1) := dk_3 (dk_at dksX3_sign_0 18 rfl rfl)
theorem dX3_sign_19 : decode cX3_sign 19 = .ok (.goto 4, 3) := dk_167 0 4 (dk_at dksX3_sign_0 19 rfl rfl)
theorem dX3_sign_22 : decode cX3_sign 22 = .ok (.iconst 1, 1) := dk_4 (dk_at dksX3_sign_0 22 rfl rfl)
theorem dX3_sign_23 : decode cX3_sign 23 = .ok (.invokevirtual 84, 3) := dk_182 0 84 (dk_at dksX3_sign_1 0 rfl rfl)
theorem dX3_sign_26 : decode cX3_sign 26 = .ok (.ifCond .eq 11, 3) := dk_153 0 11 (dk_at dksX3_sign_1 3 rfl rfl)
theorem dX3_sign_29 : decode cX3_sign 29 = .ok (.iload_n 1, 1) := dk_27 (dk_at dksX3_sign_1 6 rfl rfl)
theorem dX3_sign_30 : decode cX3_sign 30 = .ok (.iload_n 2, 1) := dk_28 (dk_at dksX3_sign_1 7 rfl rfl)
theorem dX3_sign_31 : decode cX3_sign 31 = .ok (.invokestatic 116, 3) := dk_184 0 116 (dk_at dksX3_sign_1 8 rfl rfl)
theorem dX3_sign_34 : decode cX3_sign 34 = .ok (.goto 4, 3) := dk_167 0 4 (dk_at dksX3_sign_1 11 rfl rfl)
theorem dX3_sign_37 : decode cX3_sign 37 = .ok (.iconst 0, 1) := dk_3 (dk_at dksX3_sign_1 14 rfl rfl)
theorem dX3_sign_38 : decode cX3_sign 38 = .ok (.ireturn, 1) := dk_172 (dk_at dksX3_sign_1 15 rfl rfl)
abbrev cX3_signOf : ByteArray := prog_9_method_10_code
def yX3_signOf : MethodName := ⟨RX3, "signOf", "(II)I"⟩
def dkwX3_signOf_4 : List UInt8 := [167, 0, 4, 2, 172]
abbrev dktX3_signOf_4 : List UInt8 := dkwX3_signOf_4 ++ []
def dkwX3_signOf_3 : List UInt8 := [160, 0, 7, 8, 167, 0, 5, 16, 30, 62, 28, 27, 104, 29, 96, 16, 71, 112, 5, 112, 154, 0, 7, 4]
abbrev dktX3_signOf_3 : List UInt8 := dkwX3_signOf_3 ++ dktX3_signOf_4
def dkwX3_signOf_2 : List UInt8 := [167, 0, 33, 26, 4, 160, 0, 7, 3, 167, 0, 24, 26, 5, 160, 0, 8, 16, 13, 167, 0, 14, 26, 6]
abbrev dktX3_signOf_2 : List UInt8 := dkwX3_signOf_2 ++ dktX3_signOf_3
def dkwX3_signOf_1 : List UInt8 := [16, 21, 167, 0, 15, 26, 6, 160, 0, 8, 16, 29, 167, 0, 5, 16, 44, 61, 26, 154, 0, 8, 16, 7]
abbrev dktX3_signOf_1 : List UInt8 := dkwX3_signOf_1 ++ dktX3_signOf_2
def dkwX3_signOf_0 : List UInt8 := [26, 154, 0, 7, 6, 167, 0, 35, 26, 4, 160, 0, 8, 16, 10, 167, 0, 25, 26, 5, 160, 0, 8]
abbrev dktX3_signOf_0 : List UInt8 := dkwX3_signOf_0 ++ dktX3_signOf_1
theorem dksX3_signOf_0 : cX3_signOf.data.toList.drop 0 = dktX3_signOf_0 := by decide +kernel
theorem dksX3_signOf_1 : cX3_signOf.data.toList.drop 23 = dktX3_signOf_1 := dk_seg dksX3_signOf_0 23 rfl rfl
theorem dksX3_signOf_2 : cX3_signOf.data.toList.drop 47 = dktX3_signOf_2 := dk_seg dksX3_signOf_1 24 rfl rfl
theorem dksX3_signOf_3 : cX3_signOf.data.toList.drop 71 = dktX3_signOf_3 := dk_seg dksX3_signOf_2 24 rfl rfl
theorem dksX3_signOf_4 : cX3_signOf.data.toList.drop 95 = dktX3_signOf_4 := dk_seg dksX3_signOf_3 24 rfl rfl
theorem dX3_signOf_0 : decode cX3_signOf 0 = .ok (.iload_n 0, 1) := dk_26 (dk_at dksX3_signOf_0 0 rfl rfl)
theorem dX3_signOf_1 : decode cX3_signOf 1 = .ok (.ifCond .ne 7, 3) := dk_154 0 7 (dk_at dksX3_signOf_0 1 rfl rfl)
theorem dX3_signOf_4 : decode cX3_signOf 4 = .ok (.iconst 3, 1) := dk_6 (dk_at dksX3_signOf_0 4 rfl rfl)
theorem dX3_signOf_5 : decode cX3_signOf 5 = .ok (.goto 35, 3) := dk_167 0 35 (dk_at dksX3_signOf_0 5 rfl rfl)
theorem dX3_signOf_8 : decode cX3_signOf 8 = .ok (.iload_n 0, 1) := dk_26 (dk_at dksX3_signOf_0 8 rfl rfl)
theorem dX3_signOf_9 : decode cX3_signOf 9 = .ok (.iconst 1, 1) := dk_4 (dk_at dksX3_signOf_0 9 rfl rfl)
theorem dX3_signOf_10 : decode cX3_signOf 10 = .ok (.if_icmp .ne 8, 3) := dk_160 0 8 (dk_at dksX3_signOf_0 10 rfl rfl)
theorem dX3_signOf_13 : decode cX3_signOf 13 = .ok (.bipush 10, 2) := dk_16 10 (dk_at dksX3_signOf_0 13 rfl rfl)
theorem dX3_signOf_15 : decode cX3_signOf 15 = .ok (.goto 25, 3) := dk_167 0 25 (dk_at dksX3_signOf_0 15 rfl rfl)
theorem dX3_signOf_18 : decode cX3_signOf 18 = .ok (.iload_n 0, 1) := dk_26 (dk_at dksX3_signOf_0 18 rfl rfl)
theorem dX3_signOf_19 : decode cX3_signOf 19 = .ok (.iconst 2, 1) := dk_5 (dk_at dksX3_signOf_0 19 rfl rfl)
theorem dX3_signOf_20 : decode cX3_signOf 20 = .ok (.if_icmp .ne 8, 3) := dk_160 0 8 (dk_at dksX3_signOf_0 20 rfl rfl)
theorem dX3_signOf_23 : decode cX3_signOf 23 = .ok (.bipush 21, 2) := dk_16 21 (dk_at dksX3_signOf_1 0 rfl rfl)
theorem dX3_signOf_25 : decode cX3_signOf 25 = .ok (.goto 15, 3) := dk_167 0 15 (dk_at dksX3_signOf_1 2 rfl rfl)
theorem dX3_signOf_28 : decode cX3_signOf 28 = .ok (.iload_n 0, 1) := dk_26 (dk_at dksX3_signOf_1 5 rfl rfl)
theorem dX3_signOf_29 : decode cX3_signOf 29 = .ok (.iconst 3, 1) := dk_6 (dk_at dksX3_signOf_1 6 rfl rfl)
theorem dX3_signOf_30 : decode cX3_signOf 30 = .ok (.if_icmp .ne 8, 3) := dk_160 0 8 (dk_at dksX3_signOf_1 7 rfl rfl)
theorem dX3_signOf_33 : decode cX3_signOf 33 = .ok (.bipush 29, 2) := dk_16 29 (dk_at dksX3_signOf_1 10 rfl rfl)
theorem dX3_signOf_35 : decode cX3_signOf 35 = .ok (.goto 5, 3) := dk_167 0 5 (dk_at dksX3_signOf_1 12 rfl rfl)
theorem dX3_signOf_38 : decode cX3_signOf 38 = .ok (.bipush 44, 2) := dk_16 44 (dk_at dksX3_signOf_1 15 rfl rfl)
theorem dX3_signOf_40 : decode cX3_signOf 40 = .ok (.istore_n 2, 1) := dk_61 (dk_at dksX3_signOf_1 17 rfl rfl)
theorem dX3_signOf_41 : decode cX3_signOf 41 = .ok (.iload_n 0, 1) := dk_26 (dk_at dksX3_signOf_1 18 rfl rfl)
theorem dX3_signOf_42 : decode cX3_signOf 42 = .ok (.ifCond .ne 8, 3) := dk_154 0 8 (dk_at dksX3_signOf_1 19 rfl rfl)
theorem dX3_signOf_45 : decode cX3_signOf 45 = .ok (.bipush 7, 2) := dk_16 7 (dk_at dksX3_signOf_1 22 rfl rfl)
theorem dX3_signOf_47 : decode cX3_signOf 47 = .ok (.goto 33, 3) := dk_167 0 33 (dk_at dksX3_signOf_2 0 rfl rfl)
theorem dX3_signOf_50 : decode cX3_signOf 50 = .ok (.iload_n 0, 1) := dk_26 (dk_at dksX3_signOf_2 3 rfl rfl)
theorem dX3_signOf_51 : decode cX3_signOf 51 = .ok (.iconst 1, 1) := dk_4 (dk_at dksX3_signOf_2 4 rfl rfl)
theorem dX3_signOf_52 : decode cX3_signOf 52 = .ok (.if_icmp .ne 7, 3) := dk_160 0 7 (dk_at dksX3_signOf_2 5 rfl rfl)
theorem dX3_signOf_55 : decode cX3_signOf 55 = .ok (.iconst 0, 1) := dk_3 (dk_at dksX3_signOf_2 8 rfl rfl)
theorem dX3_signOf_56 : decode cX3_signOf 56 = .ok (.goto 24, 3) := dk_167 0 24 (dk_at dksX3_signOf_2 9 rfl rfl)
theorem dX3_signOf_59 : decode cX3_signOf 59 = .ok (.iload_n 0, 1) := dk_26 (dk_at dksX3_signOf_2 12 rfl rfl)
theorem dX3_signOf_60 : decode cX3_signOf 60 = .ok (.iconst 2, 1) := dk_5 (dk_at dksX3_signOf_2 13 rfl rfl)
theorem dX3_signOf_61 : decode cX3_signOf 61 = .ok (.if_icmp .ne 8, 3) := dk_160 0 8 (dk_at dksX3_signOf_2 14 rfl rfl)
theorem dX3_signOf_64 : decode cX3_signOf 64 = .ok (.bipush 13, 2) := dk_16 13 (dk_at dksX3_signOf_2 17 rfl rfl)
theorem dX3_signOf_66 : decode cX3_signOf 66 = .ok (.goto 14, 3) := dk_167 0 14 (dk_at dksX3_signOf_2 19 rfl rfl)
theorem dX3_signOf_69 : decode cX3_signOf 69 = .ok (.iload_n 0, 1) := dk_26 (dk_at dksX3_signOf_2 22 rfl rfl)
theorem dX3_signOf_70 : decode cX3_signOf 70 = .ok (.iconst 3, 1) := dk_6 (dk_at dksX3_signOf_2 23 rfl rfl)
theorem dX3_signOf_71 : decode cX3_signOf 71 = .ok (.if_icmp .ne 7, 3) := dk_160 0 7 (dk_at dksX3_signOf_3 0 rfl rfl)
theorem dX3_signOf_74 : decode cX3_signOf 74 = .ok (.iconst 5, 1) := dk_8 (dk_at dksX3_signOf_3 3 rfl rfl)
theorem dX3_signOf_75 : decode cX3_signOf 75 = .ok (.goto 5, 3) := dk_167 0 5 (dk_at dksX3_signOf_3 4 rfl rfl)
theorem dX3_signOf_78 : decode cX3_signOf 78 = .ok (.bipush 30, 2) := dk_16 30 (dk_at dksX3_signOf_3 7 rfl rfl)
theorem dX3_signOf_80 : decode cX3_signOf 80 = .ok (.istore_n 3, 1) := dk_62 (dk_at dksX3_signOf_3 9 rfl rfl)
theorem dX3_signOf_81 : decode cX3_signOf 81 = .ok (.iload_n 2, 1) := dk_28 (dk_at dksX3_signOf_3 10 rfl rfl)
theorem dX3_signOf_82 : decode cX3_signOf 82 = .ok (.iload_n 1, 1) := dk_27 (dk_at dksX3_signOf_3 11 rfl rfl)
theorem dX3_signOf_83 : decode cX3_signOf 83 = .ok (.imul, 1) := dk_104 (dk_at dksX3_signOf_3 12 rfl rfl)
theorem dX3_signOf_84 : decode cX3_signOf 84 = .ok (.iload_n 3, 1) := dk_29 (dk_at dksX3_signOf_3 13 rfl rfl)
theorem dX3_signOf_85 : decode cX3_signOf 85 = .ok (.iadd, 1) := dk_96 (dk_at dksX3_signOf_3 14 rfl rfl)
theorem dX3_signOf_86 : decode cX3_signOf 86 = .ok (.bipush 71, 2) := dk_16 71 (dk_at dksX3_signOf_3 15 rfl rfl)
theorem dX3_signOf_88 : decode cX3_signOf 88 = .ok (.irem, 1) := dk_112 (dk_at dksX3_signOf_3 17 rfl rfl)
theorem dX3_signOf_89 : decode cX3_signOf 89 = .ok (.iconst 2, 1) := dk_5 (dk_at dksX3_signOf_3 18 rfl rfl)
theorem dX3_signOf_90 : decode cX3_signOf 90 = .ok (.irem, 1) := dk_112 (dk_at dksX3_signOf_3 19 rfl rfl)
theorem dX3_signOf_91 : decode cX3_signOf 91 = .ok (.ifCond .ne 7, 3) := dk_154 0 7 (dk_at dksX3_signOf_3 20 rfl rfl)
theorem dX3_signOf_94 : decode cX3_signOf 94 = .ok (.iconst 1, 1) := dk_4 (dk_at dksX3_signOf_3 23 rfl rfl)
theorem dX3_signOf_95 : decode cX3_signOf 95 = .ok (.goto 4, 3) := dk_167 0 4 (dk_at dksX3_signOf_4 0 rfl rfl)
theorem dX3_signOf_98 : decode cX3_signOf 98 = .ok (.iconst (-1), 1) := dk_2 (dk_at dksX3_signOf_4 3 rfl rfl)
theorem dX3_signOf_99 : decode cX3_signOf 99 = .ok (.ireturn, 1) := dk_172 (dk_at dksX3_signOf_4 4 rfl rfl)
abbrev cX3_signedCell : ByteArray := prog_9_method_45_code
def yX3_signedCell : MethodName := ⟨RX3, "signedCell", "(III)I"⟩
def dkwX3_signedCell_2 : List UInt8 := [42, 27, 28, 29, 182, 0, 119, 167, 0, 4, 3, 172]
abbrev dktX3_signedCell_2 : List UInt8 := dkwX3_signedCell_2 ++ []
def dkwX3_signedCell_1 : List UInt8 := [4, 167, 0, 4, 3, 54, 4, 42, 21, 4, 153, 0, 7, 3, 167, 0, 4, 4, 182, 0, 84, 153, 0, 13]
abbrev dktX3_signedCell_1 : List UInt8 := dkwX3_signedCell_1 ++ dktX3_signedCell_2
def dkwX3_signedCell_0 : List UInt8 := [27, 184, 0, 79, 153, 0, 24, 28, 8, 184, 0, 39, 153, 0, 16, 29, 16, 8, 184, 0, 39, 153, 0, 7]
abbrev dktX3_signedCell_0 : List UInt8 := dkwX3_signedCell_0 ++ dktX3_signedCell_1
theorem dksX3_signedCell_0 : cX3_signedCell.data.toList.drop 0 = dktX3_signedCell_0 := by decide +kernel
theorem dksX3_signedCell_1 : cX3_signedCell.data.toList.drop 24 = dktX3_signedCell_1 := dk_seg dksX3_signedCell_0 24 rfl rfl
theorem dksX3_signedCell_2 : cX3_signedCell.data.toList.drop 48 = dktX3_signedCell_2 := dk_seg dksX3_signedCell_1 24 rfl rfl
theorem dX3_signedCell_0 : decode cX3_signedCell 0 = .ok (.iload_n 1, 1) := dk_27 (dk_at dksX3_signedCell_0 0 rfl rfl)
theorem dX3_signedCell_1 : decode cX3_signedCell 1 = .ok (.invokestatic 79, 3) := dk_184 0 79 (dk_at dksX3_signedCell_0 1 rfl rfl)
theorem dX3_signedCell_4 : decode cX3_signedCell 4 = .ok (.ifCond .eq 24, 3) := dk_153 0 24 (dk_at dksX3_signedCell_0 4 rfl rfl)
theorem dX3_signedCell_7 : decode cX3_signedCell 7 = .ok (.iload_n 2, 1) := dk_28 (dk_at dksX3_signedCell_0 7 rfl rfl)
theorem dX3_signedCell_8 : decode cX3_signedCell 8 = .ok (.iconst 5, 1) := dk_8 (dk_at dksX3_signedCell_0 8 rfl rfl)
theorem dX3_signedCell_9 : decode cX3_signedCell 9 = .ok (.invokestatic 39, 3) := dk_184 0 39 (dk_at dksX3_signedCell_0 9 rfl rfl)
theorem dX3_signedCell_12 : decode cX3_signedCell 12 = .ok (.ifCond .eq 16, 3) := dk_153 0 16 (dk_at dksX3_signedCell_0 12 rfl rfl)
theorem dX3_signedCell_15 : decode cX3_signedCell 15 = .ok (.iload_n 3, 1) := dk_29 (dk_at dksX3_signedCell_0 15 rfl rfl)
theorem dX3_signedCell_16 : decode cX3_signedCell 16 = .ok (.bipush 8, 2) := dk_16 8 (dk_at dksX3_signedCell_0 16 rfl rfl)
theorem dX3_signedCell_18 : decode cX3_signedCell 18 = .ok (.invokestatic 39, 3) := dk_184 0 39 (dk_at dksX3_signedCell_0 18 rfl rfl)
theorem dX3_signedCell_21 : decode cX3_signedCell 21 = .ok (.ifCond .eq 7, 3) := dk_153 0 7 (dk_at dksX3_signedCell_0 21 rfl rfl)
theorem dX3_signedCell_24 : decode cX3_signedCell 24 = .ok (.iconst 1, 1) := dk_4 (dk_at dksX3_signedCell_1 0 rfl rfl)
theorem dX3_signedCell_25 : decode cX3_signedCell 25 = .ok (.goto 4, 3) := dk_167 0 4 (dk_at dksX3_signedCell_1 1 rfl rfl)
theorem dX3_signedCell_28 : decode cX3_signedCell 28 = .ok (.iconst 0, 1) := dk_3 (dk_at dksX3_signedCell_1 4 rfl rfl)
theorem dX3_signedCell_29 : decode cX3_signedCell 29 = .ok (.istore 4, 2) := dk_54 4 (dk_at dksX3_signedCell_1 5 rfl rfl)
theorem dX3_signedCell_31 : decode cX3_signedCell 31 = .ok (.aload_n 0, 1) := dk_42 (dk_at dksX3_signedCell_1 7 rfl rfl)
theorem dX3_signedCell_32 : decode cX3_signedCell 32 = .ok (.iload 4, 2) := dk_21 4 (dk_at dksX3_signedCell_1 8 rfl rfl)
theorem dX3_signedCell_34 : decode cX3_signedCell 34 = .ok (.ifCond .eq 7, 3) := dk_153 0 7 (dk_at dksX3_signedCell_1 10 rfl rfl)
theorem dX3_signedCell_37 : decode cX3_signedCell 37 = .ok (.iconst 0, 1) := dk_3 (dk_at dksX3_signedCell_1 13 rfl rfl)
theorem dX3_signedCell_38 : decode cX3_signedCell 38 = .ok (.goto 4, 3) := dk_167 0 4 (dk_at dksX3_signedCell_1 14 rfl rfl)
theorem dX3_signedCell_41 : decode cX3_signedCell 41 = .ok (.iconst 1, 1) := dk_4 (dk_at dksX3_signedCell_1 17 rfl rfl)
theorem dX3_signedCell_42 : decode cX3_signedCell 42 = .ok (.invokevirtual 84, 3) := dk_182 0 84 (dk_at dksX3_signedCell_1 18 rfl rfl)
theorem dX3_signedCell_45 : decode cX3_signedCell 45 = .ok (.ifCond .eq 13, 3) := dk_153 0 13 (dk_at dksX3_signedCell_1 21 rfl rfl)
theorem dX3_signedCell_48 : decode cX3_signedCell 48 = .ok (.aload_n 0, 1) := dk_42 (dk_at dksX3_signedCell_2 0 rfl rfl)
theorem dX3_signedCell_49 : decode cX3_signedCell 49 = .ok (.iload_n 1, 1) := dk_27 (dk_at dksX3_signedCell_2 1 rfl rfl)
theorem dX3_signedCell_50 : decode cX3_signedCell 50 = .ok (.iload_n 2, 1) := dk_28 (dk_at dksX3_signedCell_2 2 rfl rfl)
theorem dX3_signedCell_51 : decode cX3_signedCell 51 = .ok (.iload_n 3, 1) := dk_29 (dk_at dksX3_signedCell_2 3 rfl rfl)
theorem dX3_signedCell_52 : decode cX3_signedCell 52 = .ok (.invokevirtual 119, 3) := dk_182 0 119 (dk_at dksX3_signedCell_2 4 rfl rfl)
theorem dX3_signedCell_55 : decode cX3_signedCell 55 = .ok (.goto 4, 3) := dk_167 0 4 (dk_at dksX3_signedCell_2 7 rfl rfl)
theorem dX3_signedCell_58 : decode cX3_signedCell 58 = .ok (.iconst 0, 1) := dk_3 (dk_at dksX3_signedCell_2 10 rfl rfl)
theorem dX3_signedCell_59 : decode cX3_signedCell 59 = .ok (.ireturn, 1) := dk_172 (dk_at dksX3_signedCell_2 11 rfl rfl)
abbrev cX3_signedCellOf : ByteArray := prog_9_method_44_code
def yX3_signedCellOf : MethodName := ⟨RX3, "signedCellOf", "(III)I"⟩
def dkwX3_signedCellOf_2 : List UInt8 := [167, 0, 4, 3, 96, 54, 4, 132, 5, 1, 167, 255, 208, 21, 4, 172]
abbrev dktX3_signedCellOf_2 : List UInt8 := dkwX3_signedCellOf_2 ++ []
def dkwX3_signedCellOf_1 : List UInt8 := [160, 0, 25, 28, 21, 5, 184, 0, 116, 42, 180, 0, 7, 16, 64, 27, 104, 21, 5, 96, 46, 104]
abbrev dktX3_signedCellOf_1 : List UInt8 := dkwX3_signedCellOf_1 ++ dktX3_signedCellOf_2
def dkwX3_signedCellOf_0 : List UInt8 := [3, 54, 4, 3, 54, 5, 21, 5, 16, 64, 162, 0, 47, 21, 4, 28, 21, 5, 184, 0, 113, 29]
abbrev dktX3_signedCellOf_0 : List UInt8 := dkwX3_signedCellOf_0 ++ dktX3_signedCellOf_1
theorem dksX3_signedCellOf_0 : cX3_signedCellOf.data.toList.drop 0 = dktX3_signedCellOf_0 := by decide +kernel
theorem dksX3_signedCellOf_1 : cX3_signedCellOf.data.toList.drop 22 = dktX3_signedCellOf_1 := dk_seg dksX3_signedCellOf_0 22 rfl rfl
theorem dksX3_signedCellOf_2 : cX3_signedCellOf.data.toList.drop 44 = dktX3_signedCellOf_2 := dk_seg dksX3_signedCellOf_1 22 rfl rfl
theorem dX3_signedCellOf_0 : decode cX3_signedCellOf 0 = .ok (.iconst 0, 1) := dk_3 (dk_at dksX3_signedCellOf_0 0 rfl rfl)
theorem dX3_signedCellOf_1 : decode cX3_signedCellOf 1 = .ok (.istore 4, 2) := dk_54 4 (dk_at dksX3_signedCellOf_0 1 rfl rfl)
theorem dX3_signedCellOf_3 : decode cX3_signedCellOf 3 = .ok (.iconst 0, 1) := dk_3 (dk_at dksX3_signedCellOf_0 3 rfl rfl)
theorem dX3_signedCellOf_4 : decode cX3_signedCellOf 4 = .ok (.istore 5, 2) := dk_54 5 (dk_at dksX3_signedCellOf_0 4 rfl rfl)
theorem dX3_signedCellOf_6 : decode cX3_signedCellOf 6 = .ok (.iload 5, 2) := dk_21 5 (dk_at dksX3_signedCellOf_0 6 rfl rfl)
theorem dX3_signedCellOf_8 : decode cX3_signedCellOf 8 = .ok (.bipush 64, 2) := dk_16 64 (dk_at dksX3_signedCellOf_0 8 rfl rfl)
theorem dX3_signedCellOf_10 : decode cX3_signedCellOf 10 = .ok (.if_icmp .ge 47, 3) := dk_162 0 47 (dk_at dksX3_signedCellOf_0 10 rfl rfl)
theorem dX3_signedCellOf_13 : decode cX3_signedCellOf 13 = .ok (.iload 4, 2) := dk_21 4 (dk_at dksX3_signedCellOf_0 13 rfl rfl)
theorem dX3_signedCellOf_15 : decode cX3_signedCellOf 15 = .ok (.iload_n 2, 1) := dk_28 (dk_at dksX3_signedCellOf_0 15 rfl rfl)
theorem dX3_signedCellOf_16 : decode cX3_signedCellOf 16 = .ok (.iload 5, 2) := dk_21 5 (dk_at dksX3_signedCellOf_0 16 rfl rfl)
theorem dX3_signedCellOf_18 : decode cX3_signedCellOf 18 = .ok (.invokestatic 113, 3) := dk_184 0 113 (dk_at dksX3_signedCellOf_0 18 rfl rfl)
theorem dX3_signedCellOf_21 : decode cX3_signedCellOf 21 = .ok (.iload_n 3, 1) := dk_29 (dk_at dksX3_signedCellOf_0 21 rfl rfl)
theorem dX3_signedCellOf_22 : decode cX3_signedCellOf 22 = .ok (.if_icmp .ne 25, 3) := dk_160 0 25 (dk_at dksX3_signedCellOf_1 0 rfl rfl)
theorem dX3_signedCellOf_25 : decode cX3_signedCellOf 25 = .ok (.iload_n 2, 1) := dk_28 (dk_at dksX3_signedCellOf_1 3 rfl rfl)
theorem dX3_signedCellOf_26 : decode cX3_signedCellOf 26 = .ok (.iload 5, 2) := dk_21 5 (dk_at dksX3_signedCellOf_1 4 rfl rfl)
theorem dX3_signedCellOf_28 : decode cX3_signedCellOf 28 = .ok (.invokestatic 116, 3) := dk_184 0 116 (dk_at dksX3_signedCellOf_1 6 rfl rfl)
theorem dX3_signedCellOf_31 : decode cX3_signedCellOf 31 = .ok (.aload_n 0, 1) := dk_42 (dk_at dksX3_signedCellOf_1 9 rfl rfl)
theorem dX3_signedCellOf_32 : decode cX3_signedCellOf 32 = .ok (.getfield 7, 3) := dk_180 0 7 (dk_at dksX3_signedCellOf_1 10 rfl rfl)
theorem dX3_signedCellOf_35 : decode cX3_signedCellOf 35 = .ok (.bipush 64, 2) := dk_16 64 (dk_at dksX3_signedCellOf_1 13 rfl rfl)
theorem dX3_signedCellOf_37 : decode cX3_signedCellOf 37 = .ok (.iload_n 1, 1) := dk_27 (dk_at dksX3_signedCellOf_1 15 rfl rfl)
theorem dX3_signedCellOf_38 : decode cX3_signedCellOf 38 = .ok (.imul, 1) := dk_104 (dk_at dksX3_signedCellOf_1 16 rfl rfl)
theorem dX3_signedCellOf_39 : decode cX3_signedCellOf 39 = .ok (.iload 5, 2) := dk_21 5 (dk_at dksX3_signedCellOf_1 17 rfl rfl)
theorem dX3_signedCellOf_41 : decode cX3_signedCellOf 41 = .ok (.iadd, 1) := dk_96 (dk_at dksX3_signedCellOf_1 19 rfl rfl)
theorem dX3_signedCellOf_42 : decode cX3_signedCellOf 42 = .ok (.iaload, 1) := dk_46 (dk_at dksX3_signedCellOf_1 20 rfl rfl)
theorem dX3_signedCellOf_43 : decode cX3_signedCellOf 43 = .ok (.imul, 1) := dk_104 (dk_at dksX3_signedCellOf_1 21 rfl rfl)
theorem dX3_signedCellOf_44 : decode cX3_signedCellOf 44 = .ok (.goto 4, 3) := dk_167 0 4 (dk_at dksX3_signedCellOf_2 0 rfl rfl)
theorem dX3_signedCellOf_47 : decode cX3_signedCellOf 47 = .ok (.iconst 0, 1) := dk_3 (dk_at dksX3_signedCellOf_2 3 rfl rfl)
theorem dX3_signedCellOf_48 : decode cX3_signedCellOf 48 = .ok (.iadd, 1) := dk_96 (dk_at dksX3_signedCellOf_2 4 rfl rfl)
theorem dX3_signedCellOf_49 : decode cX3_signedCellOf 49 = .ok (.istore 4, 2) := dk_54 4 (dk_at dksX3_signedCellOf_2 5 rfl rfl)
theorem dX3_signedCellOf_51 : decode cX3_signedCellOf 51 = .ok (.iinc 5 1, 3) := dk_132 5 1 (dk_at dksX3_signedCellOf_2 7 rfl rfl)
theorem dX3_signedCellOf_54 : decode cX3_signedCellOf 54 = .ok (.goto (-48), 3) := dk_167 255 208 (dk_at dksX3_signedCellOf_2 10 rfl rfl)
theorem dX3_signedCellOf_57 : decode cX3_signedCellOf 57 = .ok (.iload 4, 2) := dk_21 4 (dk_at dksX3_signedCellOf_2 13 rfl rfl)
theorem dX3_signedCellOf_59 : decode cX3_signedCellOf 59 = .ok (.ireturn, 1) := dk_172 (dk_at dksX3_signedCellOf_2 15 rfl rfl)
abbrev cX3_signedEstimate : ByteArray := prog_9_method_47_code
def yX3_signedEstimate : MethodName := ⟨RX3, "signedEstimate", "(II)I"⟩
def dkwX3_signedEstimate_2 : List UInt8 := [167, 255, 223, 42, 182, 0, 122, 136, 172]
abbrev dktX3_signedEstimate_2 : List UInt8 := dkwX3_signedEstimate_2 ++ []
def dkwX3_signedEstimate_1 : List UInt8 := [28, 184, 0, 116, 133, 42, 27, 29, 29, 28, 184, 0, 113, 182, 0, 119, 133, 105, 80, 132, 3, 1]
abbrev dktX3_signedEstimate_1 : List UInt8 := dkwX3_signedEstimate_1 ++ dktX3_signedEstimate_2
def dkwX3_signedEstimate_0 : List UInt8 := [42, 27, 28, 182, 0, 96, 154, 0, 5, 3, 172, 3, 62, 29, 8, 162, 0, 34, 42, 180, 0, 31, 29, 29]
abbrev dktX3_signedEstimate_0 : List UInt8 := dkwX3_signedEstimate_0 ++ dktX3_signedEstimate_1
theorem dksX3_signedEstimate_0 : cX3_signedEstimate.data.toList.drop 0 = dktX3_signedEstimate_0 := by decide +kernel
theorem dksX3_signedEstimate_1 : cX3_signedEstimate.data.toList.drop 24 = dktX3_signedEstimate_1 := dk_seg dksX3_signedEstimate_0 24 rfl rfl
theorem dksX3_signedEstimate_2 : cX3_signedEstimate.data.toList.drop 46 = dktX3_signedEstimate_2 := dk_seg dksX3_signedEstimate_1 22 rfl rfl
theorem dX3_signedEstimate_0 : decode cX3_signedEstimate 0 = .ok (.aload_n 0, 1) := dk_42 (dk_at dksX3_signedEstimate_0 0 rfl rfl)
theorem dX3_signedEstimate_1 : decode cX3_signedEstimate 1 = .ok (.iload_n 1, 1) := dk_27 (dk_at dksX3_signedEstimate_0 1 rfl rfl)
theorem dX3_signedEstimate_2 : decode cX3_signedEstimate 2 = .ok (.iload_n 2, 1) := dk_28 (dk_at dksX3_signedEstimate_0 2 rfl rfl)
theorem dX3_signedEstimate_3 : decode cX3_signedEstimate 3 = .ok (.invokevirtual 96, 3) := dk_182 0 96 (dk_at dksX3_signedEstimate_0 3 rfl rfl)
theorem dX3_signedEstimate_6 : decode cX3_signedEstimate 6 = .ok (.ifCond .ne 5, 3) := dk_154 0 5 (dk_at dksX3_signedEstimate_0 6 rfl rfl)
theorem dX3_signedEstimate_9 : decode cX3_signedEstimate 9 = .ok (.iconst 0, 1) := dk_3 (dk_at dksX3_signedEstimate_0 9 rfl rfl)
theorem dX3_signedEstimate_10 : decode cX3_signedEstimate 10 = .ok (.ireturn, 1) := dk_172 (dk_at dksX3_signedEstimate_0 10 rfl rfl)
theorem dX3_signedEstimate_11 : decode cX3_signedEstimate 11 = .ok (.iconst 0, 1) := dk_3 (dk_at dksX3_signedEstimate_0 11 rfl rfl)
theorem dX3_signedEstimate_12 : decode cX3_signedEstimate 12 = .ok (.istore_n 3, 1) := dk_62 (dk_at dksX3_signedEstimate_0 12 rfl rfl)
theorem dX3_signedEstimate_13 : decode cX3_signedEstimate 13 = .ok (.iload_n 3, 1) := dk_29 (dk_at dksX3_signedEstimate_0 13 rfl rfl)
theorem dX3_signedEstimate_14 : decode cX3_signedEstimate 14 = .ok (.iconst 5, 1) := dk_8 (dk_at dksX3_signedEstimate_0 14 rfl rfl)
theorem dX3_signedEstimate_15 : decode cX3_signedEstimate 15 = .ok (.if_icmp .ge 34, 3) := dk_162 0 34 (dk_at dksX3_signedEstimate_0 15 rfl rfl)
theorem dX3_signedEstimate_18 : decode cX3_signedEstimate 18 = .ok (.aload_n 0, 1) := dk_42 (dk_at dksX3_signedEstimate_0 18 rfl rfl)
theorem dX3_signedEstimate_19 : decode cX3_signedEstimate 19 = .ok (.getfield 31, 3) := dk_180 0 31 (dk_at dksX3_signedEstimate_0 19 rfl rfl)
theorem dX3_signedEstimate_22 : decode cX3_signedEstimate 22 = .ok (.iload_n 3, 1) := dk_29 (dk_at dksX3_signedEstimate_0 22 rfl rfl)
theorem dX3_signedEstimate_23 : decode cX3_signedEstimate 23 = .ok (.iload_n 3, 1) := dk_29 (dk_at dksX3_signedEstimate_0 23 rfl rfl)
theorem dX3_signedEstimate_24 : decode cX3_signedEstimate 24 = .ok (.iload_n 2, 1) := dk_28 (dk_at dksX3_signedEstimate_1 0 rfl rfl)
theorem dX3_signedEstimate_25 : decode cX3_signedEstimate 25 = .ok (.invokestatic 116, 3) := dk_184 0 116 (dk_at dksX3_signedEstimate_1 1 rfl rfl)
theorem dX3_signedEstimate_28 : decode cX3_signedEstimate 28 = .ok (.i2l, 1) := dk_133 (dk_at dksX3_signedEstimate_1 4 rfl rfl)
theorem dX3_signedEstimate_29 : decode cX3_signedEstimate 29 = .ok (.aload_n 0, 1) := dk_42 (dk_at dksX3_signedEstimate_1 5 rfl rfl)
theorem dX3_signedEstimate_30 : decode cX3_signedEstimate 30 = .ok (.iload_n 1, 1) := dk_27 (dk_at dksX3_signedEstimate_1 6 rfl rfl)
theorem dX3_signedEstimate_31 : decode cX3_signedEstimate 31 = .ok (.iload_n 3, 1) := dk_29 (dk_at dksX3_signedEstimate_1 7 rfl rfl)
theorem dX3_signedEstimate_32 : decode cX3_signedEstimate 32 = .ok (.iload_n 3, 1) := dk_29 (dk_at dksX3_signedEstimate_1 8 rfl rfl)
theorem dX3_signedEstimate_33 : decode cX3_signedEstimate 33 = .ok (.iload_n 2, 1) := dk_28 (dk_at dksX3_signedEstimate_1 9 rfl rfl)
theorem dX3_signedEstimate_34 : decode cX3_signedEstimate 34 = .ok (.invokestatic 113, 3) := dk_184 0 113 (dk_at dksX3_signedEstimate_1 10 rfl rfl)
theorem dX3_signedEstimate_37 : decode cX3_signedEstimate 37 = .ok (.invokevirtual 119, 3) := dk_182 0 119 (dk_at dksX3_signedEstimate_1 13 rfl rfl)
theorem dX3_signedEstimate_40 : decode cX3_signedEstimate 40 = .ok (.i2l, 1) := dk_133 (dk_at dksX3_signedEstimate_1 16 rfl rfl)
theorem dX3_signedEstimate_41 : decode cX3_signedEstimate 41 = .ok (.lmul, 1) := dk_105 (dk_at dksX3_signedEstimate_1 17 rfl rfl)
theorem dX3_signedEstimate_42 : decode cX3_signedEstimate 42 = .ok (.lastore, 1) := dk_80 (dk_at dksX3_signedEstimate_1 18 rfl rfl)
theorem dX3_signedEstimate_43 : decode cX3_signedEstimate 43 = .ok (.iinc 3 1, 3) := dk_132 3 1 (dk_at dksX3_signedEstimate_1 19 rfl rfl)
theorem dX3_signedEstimate_46 : decode cX3_signedEstimate 46 = .ok (.goto (-33), 3) := dk_167 255 223 (dk_at dksX3_signedEstimate_2 0 rfl rfl)
theorem dX3_signedEstimate_49 : decode cX3_signedEstimate 49 = .ok (.aload_n 0, 1) := dk_42 (dk_at dksX3_signedEstimate_2 3 rfl rfl)
theorem dX3_signedEstimate_50 : decode cX3_signedEstimate 50 = .ok (.invokevirtual 122, 3) := dk_182 0 122 (dk_at dksX3_signedEstimate_2 4 rfl rfl)
theorem dX3_signedEstimate_53 : decode cX3_signedEstimate 53 = .ok (.l2i, 1) := dk_136 (dk_at dksX3_signedEstimate_2 7 rfl rfl)
theorem dX3_signedEstimate_54 : decode cX3_signedEstimate 54 = .ok (.ireturn, 1) := dk_172 (dk_at dksX3_signedEstimate_2 8 rfl rfl)
abbrev cX3_middle : ByteArray := prog_9_method_46_code
def yX3_middle : MethodName := ⟨RX3, "middle", "()J"⟩
def dkwX3_middle_4 : List UInt8 := [163, 0, 12, 42, 180, 0, 31, 29, 47, 167, 0, 4, 31, 64, 132, 3, 1, 167, 255, 150, 31, 173]
abbrev dktX3_middle_4 : List UInt8 := dkwX3_middle_4 ++ []
def dkwX3_middle_3 : List UInt8 := [167, 0, 4, 3, 96, 54, 5, 132, 6, 1, 167, 255, 193, 21, 4, 5, 163, 0, 18, 21, 5, 5]
abbrev dktX3_middle_3 : List UInt8 := dkwX3_middle_3 ++ dktX3_middle_4
def dkwX3_middle_2 : List UInt8 := [96, 54, 4, 21, 5, 42, 180, 0, 31, 21, 6, 47, 42, 180, 0, 31, 29, 47, 148, 158, 0, 7, 4]
abbrev dktX3_middle_2 : List UInt8 := dkwX3_middle_2 ++ dktX3_middle_3
def dkwX3_middle_1 : List UInt8 := [21, 4, 42, 180, 0, 31, 21, 6, 47, 42, 180, 0, 31, 29, 47, 148, 156, 0, 7, 4, 167, 0, 4, 3]
abbrev dktX3_middle_1 : List UInt8 := dkwX3_middle_1 ++ dktX3_middle_2
def dkwX3_middle_0 : List UInt8 := [9, 64, 3, 62, 29, 8, 162, 0, 107, 3, 54, 4, 3, 54, 5, 3, 54, 6, 21, 6, 8, 162, 0, 63]
abbrev dktX3_middle_0 : List UInt8 := dkwX3_middle_0 ++ dktX3_middle_1
theorem dksX3_middle_0 : cX3_middle.data.toList.drop 0 = dktX3_middle_0 := by decide +kernel
theorem dksX3_middle_1 : cX3_middle.data.toList.drop 24 = dktX3_middle_1 := dk_seg dksX3_middle_0 24 rfl rfl
theorem dksX3_middle_2 : cX3_middle.data.toList.drop 48 = dktX3_middle_2 := dk_seg dksX3_middle_1 24 rfl rfl
theorem dksX3_middle_3 : cX3_middle.data.toList.drop 71 = dktX3_middle_3 := dk_seg dksX3_middle_2 23 rfl rfl
theorem dksX3_middle_4 : cX3_middle.data.toList.drop 93 = dktX3_middle_4 := dk_seg dksX3_middle_3 22 rfl rfl
theorem dX3_middle_0 : decode cX3_middle 0 = .ok (.lconst 0, 1) := dk_9 (dk_at dksX3_middle_0 0 rfl rfl)
theorem dX3_middle_1 : decode cX3_middle 1 = .ok (.lstore_n 1, 1) := dk_64 (dk_at dksX3_middle_0 1 rfl rfl)
theorem dX3_middle_2 : decode cX3_middle 2 = .ok (.iconst 0, 1) := dk_3 (dk_at dksX3_middle_0 2 rfl rfl)
theorem dX3_middle_3 : decode cX3_middle 3 = .ok (.istore_n 3, 1) := dk_62 (dk_at dksX3_middle_0 3 rfl rfl)
theorem dX3_middle_4 : decode cX3_middle 4 = .ok (.iload_n 3, 1) := dk_29 (dk_at dksX3_middle_0 4 rfl rfl)
theorem dX3_middle_5 : decode cX3_middle 5 = .ok (.iconst 5, 1) := dk_8 (dk_at dksX3_middle_0 5 rfl rfl)
theorem dX3_middle_6 : decode cX3_middle 6 = .ok (.if_icmp .ge 107, 3) := dk_162 0 107 (dk_at dksX3_middle_0 6 rfl rfl)
theorem dX3_middle_9 : decode cX3_middle 9 = .ok (.iconst 0, 1) := dk_3 (dk_at dksX3_middle_0 9 rfl rfl)
theorem dX3_middle_10 : decode cX3_middle 10 = .ok (.istore 4, 2) := dk_54 4 (dk_at dksX3_middle_0 10 rfl rfl)
theorem dX3_middle_12 : decode cX3_middle 12 = .ok (.iconst 0, 1) := dk_3 (dk_at dksX3_middle_0 12 rfl rfl)
theorem dX3_middle_13 : decode cX3_middle 13 = .ok (.istore 5, 2) := dk_54 5 (dk_at dksX3_middle_0 13 rfl rfl)
theorem dX3_middle_15 : decode cX3_middle 15 = .ok (.iconst 0, 1) := dk_3 (dk_at dksX3_middle_0 15 rfl rfl)
theorem dX3_middle_16 : decode cX3_middle 16 = .ok (.istore 6, 2) := dk_54 6 (dk_at dksX3_middle_0 16 rfl rfl)
theorem dX3_middle_18 : decode cX3_middle 18 = .ok (.iload 6, 2) := dk_21 6 (dk_at dksX3_middle_0 18 rfl rfl)
theorem dX3_middle_20 : decode cX3_middle 20 = .ok (.iconst 5, 1) := dk_8 (dk_at dksX3_middle_0 20 rfl rfl)
theorem dX3_middle_21 : decode cX3_middle 21 = .ok (.if_icmp .ge 63, 3) := dk_162 0 63 (dk_at dksX3_middle_0 21 rfl rfl)
theorem dX3_middle_24 : decode cX3_middle 24 = .ok (.iload 4, 2) := dk_21 4 (dk_at dksX3_middle_1 0 rfl rfl)
theorem dX3_middle_26 : decode cX3_middle 26 = .ok (.aload_n 0, 1) := dk_42 (dk_at dksX3_middle_1 2 rfl rfl)
theorem dX3_middle_27 : decode cX3_middle 27 = .ok (.getfield 31, 3) := dk_180 0 31 (dk_at dksX3_middle_1 3 rfl rfl)
theorem dX3_middle_30 : decode cX3_middle 30 = .ok (.iload 6, 2) := dk_21 6 (dk_at dksX3_middle_1 6 rfl rfl)
theorem dX3_middle_32 : decode cX3_middle 32 = .ok (.laload, 1) := dk_47 (dk_at dksX3_middle_1 8 rfl rfl)
theorem dX3_middle_33 : decode cX3_middle 33 = .ok (.aload_n 0, 1) := dk_42 (dk_at dksX3_middle_1 9 rfl rfl)
theorem dX3_middle_34 : decode cX3_middle 34 = .ok (.getfield 31, 3) := dk_180 0 31 (dk_at dksX3_middle_1 10 rfl rfl)
theorem dX3_middle_37 : decode cX3_middle 37 = .ok (.iload_n 3, 1) := dk_29 (dk_at dksX3_middle_1 13 rfl rfl)
theorem dX3_middle_38 : decode cX3_middle 38 = .ok (.laload, 1) := dk_47 (dk_at dksX3_middle_1 14 rfl rfl)
theorem dX3_middle_39 : decode cX3_middle 39 = .ok (.lcmp, 1) := dk_148 (dk_at dksX3_middle_1 15 rfl rfl)
theorem dX3_middle_40 : decode cX3_middle 40 = .ok (.ifCond .ge 7, 3) := dk_156 0 7 (dk_at dksX3_middle_1 16 rfl rfl)
theorem dX3_middle_43 : decode cX3_middle 43 = .ok (.iconst 1, 1) := dk_4 (dk_at dksX3_middle_1 19 rfl rfl)
theorem dX3_middle_44 : decode cX3_middle 44 = .ok (.goto 4, 3) := dk_167 0 4 (dk_at dksX3_middle_1 20 rfl rfl)
theorem dX3_middle_47 : decode cX3_middle 47 = .ok (.iconst 0, 1) := dk_3 (dk_at dksX3_middle_1 23 rfl rfl)
theorem dX3_middle_48 : decode cX3_middle 48 = .ok (.iadd, 1) := dk_96 (dk_at dksX3_middle_2 0 rfl rfl)
theorem dX3_middle_49 : decode cX3_middle 49 = .ok (.istore 4, 2) := dk_54 4 (dk_at dksX3_middle_2 1 rfl rfl)
theorem dX3_middle_51 : decode cX3_middle 51 = .ok (.iload 5, 2) := dk_21 5 (dk_at dksX3_middle_2 3 rfl rfl)
theorem dX3_middle_53 : decode cX3_middle 53 = .ok (.aload_n 0, 1) := dk_42 (dk_at dksX3_middle_2 5 rfl rfl)
theorem dX3_middle_54 : decode cX3_middle 54 = .ok (.getfield 31, 3) := dk_180 0 31 (dk_at dksX3_middle_2 6 rfl rfl)
theorem dX3_middle_57 : decode cX3_middle 57 = .ok (.iload 6, 2) := dk_21 6 (dk_at dksX3_middle_2 9 rfl rfl)
theorem dX3_middle_59 : decode cX3_middle 59 = .ok (.laload, 1) := dk_47 (dk_at dksX3_middle_2 11 rfl rfl)
theorem dX3_middle_60 : decode cX3_middle 60 = .ok (.aload_n 0, 1) := dk_42 (dk_at dksX3_middle_2 12 rfl rfl)
theorem dX3_middle_61 : decode cX3_middle 61 = .ok (.getfield 31, 3) := dk_180 0 31 (dk_at dksX3_middle_2 13 rfl rfl)
theorem dX3_middle_64 : decode cX3_middle 64 = .ok (.iload_n 3, 1) := dk_29 (dk_at dksX3_middle_2 16 rfl rfl)
theorem dX3_middle_65 : decode cX3_middle 65 = .ok (.laload, 1) := dk_47 (dk_at dksX3_middle_2 17 rfl rfl)
theorem dX3_middle_66 : decode cX3_middle 66 = .ok (.lcmp, 1) := dk_148 (dk_at dksX3_middle_2 18 rfl rfl)
theorem dX3_middle_67 : decode cX3_middle 67 = .ok (.ifCond .le 7, 3) := dk_158 0 7 (dk_at dksX3_middle_2 19 rfl rfl)
theorem dX3_middle_70 : decode cX3_middle 70 = .ok (.iconst 1, 1) := dk_4 (dk_at dksX3_middle_2 22 rfl rfl)
theorem dX3_middle_71 : decode cX3_middle 71 = .ok (.goto 4, 3) := dk_167 0 4 (dk_at dksX3_middle_3 0 rfl rfl)
theorem dX3_middle_74 : decode cX3_middle 74 = .ok (.iconst 0, 1) := dk_3 (dk_at dksX3_middle_3 3 rfl rfl)
theorem dX3_middle_75 : decode cX3_middle 75 = .ok (.iadd, 1) := dk_96 (dk_at dksX3_middle_3 4 rfl rfl)
theorem dX3_middle_76 : decode cX3_middle 76 = .ok (.istore 5, 2) := dk_54 5 (dk_at dksX3_middle_3 5 rfl rfl)
theorem dX3_middle_78 : decode cX3_middle 78 = .ok (.iinc 6 1, 3) := dk_132 6 1 (dk_at dksX3_middle_3 7 rfl rfl)
theorem dX3_middle_81 : decode cX3_middle 81 = .ok (.goto (-63), 3) := dk_167 255 193 (dk_at dksX3_middle_3 10 rfl rfl)
theorem dX3_middle_84 : decode cX3_middle 84 = .ok (.iload 4, 2) := dk_21 4 (dk_at dksX3_middle_3 13 rfl rfl)
theorem dX3_middle_86 : decode cX3_middle 86 = .ok (.iconst 2, 1) := dk_5 (dk_at dksX3_middle_3 15 rfl rfl)
theorem dX3_middle_87 : decode cX3_middle 87 = .ok (.if_icmp .gt 18, 3) := dk_163 0 18 (dk_at dksX3_middle_3 16 rfl rfl)
theorem dX3_middle_90 : decode cX3_middle 90 = .ok (.iload 5, 2) := dk_21 5 (dk_at dksX3_middle_3 19 rfl rfl)
theorem dX3_middle_92 : decode cX3_middle 92 = .ok (.iconst 2, 1) := dk_5 (dk_at dksX3_middle_3 21 rfl rfl)
theorem dX3_middle_93 : decode cX3_middle 93 = .ok (.if_icmp .gt 12, 3) := dk_163 0 12 (dk_at dksX3_middle_4 0 rfl rfl)
theorem dX3_middle_96 : decode cX3_middle 96 = .ok (.aload_n 0, 1) := dk_42 (dk_at dksX3_middle_4 3 rfl rfl)
theorem dX3_middle_97 : decode cX3_middle 97 = .ok (.getfield 31, 3) := dk_180 0 31 (dk_at dksX3_middle_4 4 rfl rfl)
theorem dX3_middle_100 : decode cX3_middle 100 = .ok (.iload_n 3, 1) := dk_29 (dk_at dksX3_middle_4 7 rfl rfl)
theorem dX3_middle_101 : decode cX3_middle 101 = .ok (.laload, 1) := dk_47 (dk_at dksX3_middle_4 8 rfl rfl)
theorem dX3_middle_102 : decode cX3_middle 102 = .ok (.goto 4, 3) := dk_167 0 4 (dk_at dksX3_middle_4 9 rfl rfl)
theorem dX3_middle_105 : decode cX3_middle 105 = .ok (.lload_n 1, 1) := dk_31 (dk_at dksX3_middle_4 12 rfl rfl)
theorem dX3_middle_106 : decode cX3_middle 106 = .ok (.lstore_n 1, 1) := dk_64 (dk_at dksX3_middle_4 13 rfl rfl)
theorem dX3_middle_107 : decode cX3_middle 107 = .ok (.iinc 3 1, 3) := dk_132 3 1 (dk_at dksX3_middle_4 14 rfl rfl)
theorem dX3_middle_110 : decode cX3_middle 110 = .ok (.goto (-106), 3) := dk_167 255 150 (dk_at dksX3_middle_4 17 rfl rfl)
theorem dX3_middle_113 : decode cX3_middle 113 = .ok (.lload_n 1, 1) := dk_31 (dk_at dksX3_middle_4 20 rfl rfl)
theorem dX3_middle_114 : decode cX3_middle 114 = .ok (.lreturn, 1) := dk_173 (dk_at dksX3_middle_4 21 rfl rfl)
abbrev cX3_signedProduct : ByteArray := prog_9_method_48_code
def yX3_signedProduct : MethodName := ⟨RX3, "signedProduct", "(II)J"⟩
def dkwX3_signedProduct_4 : List UInt8 := [182, 0, 122, 173]
abbrev dktX3_signedProduct_4 : List UInt8 := dkwX3_signedProduct_4 ++ []
def dkwX3_signedProduct_3 : List UInt8 := [21, 4, 182, 0, 119, 133, 105, 97, 80, 132, 4, 1, 167, 255, 218, 132, 3, 1, 167, 255, 197, 42]
abbrev dktX3_signedProduct_3 : List UInt8 := dkwX3_signedProduct_3 ++ dktX3_signedProduct_4
def dkwX3_signedProduct_2 : List UInt8 := [16, 8, 162, 0, 37, 42, 180, 0, 31, 29, 92, 47, 42, 27, 29, 21, 4, 182, 0, 119, 133, 42, 28, 29]
abbrev dktX3_signedProduct_2 : List UInt8 := dkwX3_signedProduct_2 ++ dktX3_signedProduct_3
def dkwX3_signedProduct_1 : List UInt8 := [154, 0, 5, 9, 173, 3, 62, 29, 8, 162, 0, 60, 42, 180, 0, 31, 29, 9, 80, 3, 54, 4, 21, 4]
abbrev dktX3_signedProduct_1 : List UInt8 := dkwX3_signedProduct_1 ++ dktX3_signedProduct_2
def dkwX3_signedProduct_0 : List UInt8 := [42, 27, 184, 0, 79, 153, 0, 14, 28, 184, 0, 79, 153, 0, 7, 3, 167, 0, 4, 4, 182, 0, 84]
abbrev dktX3_signedProduct_0 : List UInt8 := dkwX3_signedProduct_0 ++ dktX3_signedProduct_1
theorem dksX3_signedProduct_0 : cX3_signedProduct.data.toList.drop 0 = dktX3_signedProduct_0 := by decide +kernel
theorem dksX3_signedProduct_1 : cX3_signedProduct.data.toList.drop 23 = dktX3_signedProduct_1 := dk_seg dksX3_signedProduct_0 23 rfl rfl
theorem dksX3_signedProduct_2 : cX3_signedProduct.data.toList.drop 47 = dktX3_signedProduct_2 := dk_seg dksX3_signedProduct_1 24 rfl rfl
theorem dksX3_signedProduct_3 : cX3_signedProduct.data.toList.drop 71 = dktX3_signedProduct_3 := dk_seg dksX3_signedProduct_2 24 rfl rfl
theorem dksX3_signedProduct_4 : cX3_signedProduct.data.toList.drop 93 = dktX3_signedProduct_4 := dk_seg dksX3_signedProduct_3 22 rfl rfl
theorem dX3_signedProduct_0 : decode cX3_signedProduct 0 = .ok (.aload_n 0, 1) := dk_42 (dk_at dksX3_signedProduct_0 0 rfl rfl)
theorem dX3_signedProduct_1 : decode cX3_signedProduct 1 = .ok (.iload_n 1, 1) := dk_27 (dk_at dksX3_signedProduct_0 1 rfl rfl)
theorem dX3_signedProduct_2 : decode cX3_signedProduct 2 = .ok (.invokestatic 79, 3) := dk_184 0 79 (dk_at dksX3_signedProduct_0 2 rfl rfl)
theorem dX3_signedProduct_5 : decode cX3_signedProduct 5 = .ok (.ifCond .eq 14, 3) := dk_153 0 14 (dk_at dksX3_signedProduct_0 5 rfl rfl)
theorem dX3_signedProduct_8 : decode cX3_signedProduct 8 = .ok (.iload_n 2, 1) := dk_28 (dk_at dksX3_signedProduct_0 8 rfl rfl)
theorem dX3_signedProduct_9 : decode cX3_signedProduct 9 = .ok (.invokestatic 79, 3) := dk_184 0 79 (dk_at dksX3_signedProduct_0 9 rfl rfl)
theorem dX3_signedProduct_12 : decode cX3_signedProduct 12 = .ok (.ifCond .eq 7, 3) := dk_153 0 7 (dk_at dksX3_signedProduct_0 12 rfl rfl)
theorem dX3_signedProduct_15 : decode cX3_signedProduct 15 = .ok (.iconst 0, 1) := dk_3 (dk_at dksX3_signedProduct_0 15 rfl rfl)
theorem dX3_signedProduct_16 : decode cX3_signedProduct 16 = .ok (.goto 4, 3) := dk_167 0 4 (dk_at dksX3_signedProduct_0 16 rfl rfl)
theorem dX3_signedProduct_19 : decode cX3_signedProduct 19 = .ok (.iconst 1, 1) := dk_4 (dk_at dksX3_signedProduct_0 19 rfl rfl)
theorem dX3_signedProduct_20 : decode cX3_signedProduct 20 = .ok (.invokevirtual 84, 3) := dk_182 0 84 (dk_at dksX3_signedProduct_0 20 rfl rfl)
theorem dX3_signedProduct_23 : decode cX3_signedProduct 23 = .ok (.ifCond .ne 5, 3) := dk_154 0 5 (dk_at dksX3_signedProduct_1 0 rfl rfl)
theorem dX3_signedProduct_26 : decode cX3_signedProduct 26 = .ok (.lconst 0, 1) := dk_9 (dk_at dksX3_signedProduct_1 3 rfl rfl)
theorem dX3_signedProduct_27 : decode cX3_signedProduct 27 = .ok (.lreturn, 1) := dk_173 (dk_at dksX3_signedProduct_1 4 rfl rfl)
theorem dX3_signedProduct_28 : decode cX3_signedProduct 28 = .ok (.iconst 0, 1) := dk_3 (dk_at dksX3_signedProduct_1 5 rfl rfl)
theorem dX3_signedProduct_29 : decode cX3_signedProduct 29 = .ok (.istore_n 3, 1) := dk_62 (dk_at dksX3_signedProduct_1 6 rfl rfl)
theorem dX3_signedProduct_30 : decode cX3_signedProduct 30 = .ok (.iload_n 3, 1) := dk_29 (dk_at dksX3_signedProduct_1 7 rfl rfl)
theorem dX3_signedProduct_31 : decode cX3_signedProduct 31 = .ok (.iconst 5, 1) := dk_8 (dk_at dksX3_signedProduct_1 8 rfl rfl)
theorem dX3_signedProduct_32 : decode cX3_signedProduct 32 = .ok (.if_icmp .ge 60, 3) := dk_162 0 60 (dk_at dksX3_signedProduct_1 9 rfl rfl)
theorem dX3_signedProduct_35 : decode cX3_signedProduct 35 = .ok (.aload_n 0, 1) := dk_42 (dk_at dksX3_signedProduct_1 12 rfl rfl)
theorem dX3_signedProduct_36 : decode cX3_signedProduct 36 = .ok (.getfield 31, 3) := dk_180 0 31 (dk_at dksX3_signedProduct_1 13 rfl rfl)
theorem dX3_signedProduct_39 : decode cX3_signedProduct 39 = .ok (.iload_n 3, 1) := dk_29 (dk_at dksX3_signedProduct_1 16 rfl rfl)
theorem dX3_signedProduct_40 : decode cX3_signedProduct 40 = .ok (.lconst 0, 1) := dk_9 (dk_at dksX3_signedProduct_1 17 rfl rfl)
theorem dX3_signedProduct_41 : decode cX3_signedProduct 41 = .ok (.lastore, 1) := dk_80 (dk_at dksX3_signedProduct_1 18 rfl rfl)
theorem dX3_signedProduct_42 : decode cX3_signedProduct 42 = .ok (.iconst 0, 1) := dk_3 (dk_at dksX3_signedProduct_1 19 rfl rfl)
theorem dX3_signedProduct_43 : decode cX3_signedProduct 43 = .ok (.istore 4, 2) := dk_54 4 (dk_at dksX3_signedProduct_1 20 rfl rfl)
theorem dX3_signedProduct_45 : decode cX3_signedProduct 45 = .ok (.iload 4, 2) := dk_21 4 (dk_at dksX3_signedProduct_1 22 rfl rfl)
theorem dX3_signedProduct_47 : decode cX3_signedProduct 47 = .ok (.bipush 8, 2) := dk_16 8 (dk_at dksX3_signedProduct_2 0 rfl rfl)
theorem dX3_signedProduct_49 : decode cX3_signedProduct 49 = .ok (.if_icmp .ge 37, 3) := dk_162 0 37 (dk_at dksX3_signedProduct_2 2 rfl rfl)
theorem dX3_signedProduct_52 : decode cX3_signedProduct 52 = .ok (.aload_n 0, 1) := dk_42 (dk_at dksX3_signedProduct_2 5 rfl rfl)
theorem dX3_signedProduct_53 : decode cX3_signedProduct 53 = .ok (.getfield 31, 3) := dk_180 0 31 (dk_at dksX3_signedProduct_2 6 rfl rfl)
theorem dX3_signedProduct_56 : decode cX3_signedProduct 56 = .ok (.iload_n 3, 1) := dk_29 (dk_at dksX3_signedProduct_2 9 rfl rfl)
theorem dX3_signedProduct_57 : decode cX3_signedProduct 57 = .ok (.dup2, 1) := dk_92 (dk_at dksX3_signedProduct_2 10 rfl rfl)
theorem dX3_signedProduct_58 : decode cX3_signedProduct 58 = .ok (.laload, 1) := dk_47 (dk_at dksX3_signedProduct_2 11 rfl rfl)
theorem dX3_signedProduct_59 : decode cX3_signedProduct 59 = .ok (.aload_n 0, 1) := dk_42 (dk_at dksX3_signedProduct_2 12 rfl rfl)
theorem dX3_signedProduct_60 : decode cX3_signedProduct 60 = .ok (.iload_n 1, 1) := dk_27 (dk_at dksX3_signedProduct_2 13 rfl rfl)
theorem dX3_signedProduct_61 : decode cX3_signedProduct 61 = .ok (.iload_n 3, 1) := dk_29 (dk_at dksX3_signedProduct_2 14 rfl rfl)
theorem dX3_signedProduct_62 : decode cX3_signedProduct 62 = .ok (.iload 4, 2) := dk_21 4 (dk_at dksX3_signedProduct_2 15 rfl rfl)
theorem dX3_signedProduct_64 : decode cX3_signedProduct 64 = .ok (.invokevirtual 119, 3) := dk_182 0 119 (dk_at dksX3_signedProduct_2 17 rfl rfl)
theorem dX3_signedProduct_67 : decode cX3_signedProduct 67 = .ok (.i2l, 1) := dk_133 (dk_at dksX3_signedProduct_2 20 rfl rfl)
theorem dX3_signedProduct_68 : decode cX3_signedProduct 68 = .ok (.aload_n 0, 1) := dk_42 (dk_at dksX3_signedProduct_2 21 rfl rfl)
theorem dX3_signedProduct_69 : decode cX3_signedProduct 69 = .ok (.iload_n 2, 1) := dk_28 (dk_at dksX3_signedProduct_2 22 rfl rfl)
theorem dX3_signedProduct_70 : decode cX3_signedProduct 70 = .ok (.iload_n 3, 1) := dk_29 (dk_at dksX3_signedProduct_2 23 rfl rfl)
theorem dX3_signedProduct_71 : decode cX3_signedProduct 71 = .ok (.iload 4, 2) := dk_21 4 (dk_at dksX3_signedProduct_3 0 rfl rfl)
theorem dX3_signedProduct_73 : decode cX3_signedProduct 73 = .ok (.invokevirtual 119, 3) := dk_182 0 119 (dk_at dksX3_signedProduct_3 2 rfl rfl)
theorem dX3_signedProduct_76 : decode cX3_signedProduct 76 = .ok (.i2l, 1) := dk_133 (dk_at dksX3_signedProduct_3 5 rfl rfl)
theorem dX3_signedProduct_77 : decode cX3_signedProduct 77 = .ok (.lmul, 1) := dk_105 (dk_at dksX3_signedProduct_3 6 rfl rfl)
theorem dX3_signedProduct_78 : decode cX3_signedProduct 78 = .ok (.ladd, 1) := dk_97 (dk_at dksX3_signedProduct_3 7 rfl rfl)
theorem dX3_signedProduct_79 : decode cX3_signedProduct 79 = .ok (.lastore, 1) := dk_80 (dk_at dksX3_signedProduct_3 8 rfl rfl)
theorem dX3_signedProduct_80 : decode cX3_signedProduct 80 = .ok (.iinc 4 1, 3) := dk_132 4 1 (dk_at dksX3_signedProduct_3 9 rfl rfl)
theorem dX3_signedProduct_83 : decode cX3_signedProduct 83 = .ok (.goto (-38), 3) := dk_167 255 218 (dk_at dksX3_signedProduct_3 12 rfl rfl)
theorem dX3_signedProduct_86 : decode cX3_signedProduct 86 = .ok (.iinc 3 1, 3) := dk_132 3 1 (dk_at dksX3_signedProduct_3 15 rfl rfl)
theorem dX3_signedProduct_89 : decode cX3_signedProduct 89 = .ok (.goto (-59), 3) := dk_167 255 197 (dk_at dksX3_signedProduct_3 18 rfl rfl)
theorem dX3_signedProduct_92 : decode cX3_signedProduct 92 = .ok (.aload_n 0, 1) := dk_42 (dk_at dksX3_signedProduct_3 21 rfl rfl)
theorem dX3_signedProduct_93 : decode cX3_signedProduct 93 = .ok (.invokevirtual 122, 3) := dk_182 0 122 (dk_at dksX3_signedProduct_4 0 rfl rfl)
theorem dX3_signedProduct_96 : decode cX3_signedProduct 96 = .ok (.lreturn, 1) := dk_173 (dk_at dksX3_signedProduct_4 3 rfl rfl)
abbrev cX3_counters : ByteArray := prog_9_method_49_code
def yX3_counters : MethodName := ⟨RX3, "counters", "(I)I"⟩
def dkwX3_counters_1 : List UInt8 := [46, 167, 0, 4, 3, 172]
abbrev dktX3_counters_1 : List UInt8 := dkwX3_counters_1 ++ []
def dkwX3_counters_0 : List UInt8 := [42, 27, 184, 0, 79, 153, 0, 7, 3, 167, 0, 4, 4, 182, 0, 84, 153, 0, 12, 42, 180, 0, 19, 27]
abbrev dktX3_counters_0 : List UInt8 := dkwX3_counters_0 ++ dktX3_counters_1
theorem dksX3_counters_0 : cX3_counters.data.toList.drop 0 = dktX3_counters_0 := by decide +kernel
theorem dksX3_counters_1 : cX3_counters.data.toList.drop 24 = dktX3_counters_1 := dk_seg dksX3_counters_0 24 rfl rfl
theorem dX3_counters_0 : decode cX3_counters 0 = .ok (.aload_n 0, 1) := dk_42 (dk_at dksX3_counters_0 0 rfl rfl)
theorem dX3_counters_1 : decode cX3_counters 1 = .ok (.iload_n 1, 1) := dk_27 (dk_at dksX3_counters_0 1 rfl rfl)
theorem dX3_counters_2 : decode cX3_counters 2 = .ok (.invokestatic 79, 3) := dk_184 0 79 (dk_at dksX3_counters_0 2 rfl rfl)
theorem dX3_counters_5 : decode cX3_counters 5 = .ok (.ifCond .eq 7, 3) := dk_153 0 7 (dk_at dksX3_counters_0 5 rfl rfl)
theorem dX3_counters_8 : decode cX3_counters 8 = .ok (.iconst 0, 1) := dk_3 (dk_at dksX3_counters_0 8 rfl rfl)
theorem dX3_counters_9 : decode cX3_counters 9 = .ok (.goto 4, 3) := dk_167 0 4 (dk_at dksX3_counters_0 9 rfl rfl)
theorem dX3_counters_12 : decode cX3_counters 12 = .ok (.iconst 1, 1) := dk_4 (dk_at dksX3_counters_0 12 rfl rfl)
theorem dX3_counters_13 : decode cX3_counters 13 = .ok (.invokevirtual 84, 3) := dk_182 0 84 (dk_at dksX3_counters_0 13 rfl rfl)
theorem dX3_counters_16 : decode cX3_counters 16 = .ok (.ifCond .eq 12, 3) := dk_153 0 12 (dk_at dksX3_counters_0 16 rfl rfl)
theorem dX3_counters_19 : decode cX3_counters 19 = .ok (.aload_n 0, 1) := dk_42 (dk_at dksX3_counters_0 19 rfl rfl)
theorem dX3_counters_20 : decode cX3_counters 20 = .ok (.getfield 19, 3) := dk_180 0 19 (dk_at dksX3_counters_0 20 rfl rfl)
theorem dX3_counters_23 : decode cX3_counters 23 = .ok (.iload_n 1, 1) := dk_27 (dk_at dksX3_counters_0 23 rfl rfl)
theorem dX3_counters_24 : decode cX3_counters 24 = .ok (.iaload, 1) := dk_46 (dk_at dksX3_counters_1 0 rfl rfl)
theorem dX3_counters_25 : decode cX3_counters 25 = .ok (.goto 4, 3) := dk_167 0 4 (dk_at dksX3_counters_1 1 rfl rfl)
theorem dX3_counters_28 : decode cX3_counters 28 = .ok (.iconst 0, 1) := dk_3 (dk_at dksX3_counters_1 4 rfl rfl)
theorem dX3_counters_29 : decode cX3_counters 29 = .ok (.ireturn, 1) := dk_172 (dk_at dksX3_counters_1 5 rfl rfl)
abbrev cX3_counterItem : ByteArray := prog_9_method_50_code
def yX3_counterItem : MethodName := ⟨RX3, "counterItem", "(II)I"⟩
def dkwX3_counterItem_2 : List UInt8 := [180, 0, 22, 16, 8, 27, 104, 28, 96, 46, 167, 0, 4, 3, 172]
abbrev dktX3_counterItem_2 : List UInt8 := dkwX3_counterItem_2 ++ []
def dkwX3_counterItem_1 : List UInt8 := [167, 0, 4, 3, 62, 42, 29, 153, 0, 7, 3, 167, 0, 4, 4, 182, 0, 84, 153, 0, 17, 42]
abbrev dktX3_counterItem_1 : List UInt8 := dkwX3_counterItem_1 ++ dktX3_counterItem_2
def dkwX3_counterItem_0 : List UInt8 := [27, 184, 0, 79, 153, 0, 21, 28, 155, 0, 17, 28, 42, 180, 0, 19, 27, 46, 162, 0, 7, 4]
abbrev dktX3_counterItem_0 : List UInt8 := dkwX3_counterItem_0 ++ dktX3_counterItem_1
theorem dksX3_counterItem_0 : cX3_counterItem.data.toList.drop 0 = dktX3_counterItem_0 := by decide +kernel
theorem dksX3_counterItem_1 : cX3_counterItem.data.toList.drop 22 = dktX3_counterItem_1 := dk_seg dksX3_counterItem_0 22 rfl rfl
theorem dksX3_counterItem_2 : cX3_counterItem.data.toList.drop 44 = dktX3_counterItem_2 := dk_seg dksX3_counterItem_1 22 rfl rfl
theorem dX3_counterItem_0 : decode cX3_counterItem 0 = .ok (.iload_n 1, 1) := dk_27 (dk_at dksX3_counterItem_0 0 rfl rfl)
theorem dX3_counterItem_1 : decode cX3_counterItem 1 = .ok (.invokestatic 79, 3) := dk_184 0 79 (dk_at dksX3_counterItem_0 1 rfl rfl)
theorem dX3_counterItem_4 : decode cX3_counterItem 4 = .ok (.ifCond .eq 21, 3) := dk_153 0 21 (dk_at dksX3_counterItem_0 4 rfl rfl)
theorem dX3_counterItem_7 : decode cX3_counterItem 7 = .ok (.iload_n 2, 1) := dk_28 (dk_at dksX3_counterItem_0 7 rfl rfl)
theorem dX3_counterItem_8 : decode cX3_counterItem 8 = .ok (.ifCond .lt 17, 3) := dk_155 0 17 (dk_at dksX3_counterItem_0 8 rfl rfl)
theorem dX3_counterItem_11 : decode cX3_counterItem 11 = .ok (.iload_n 2, 1) := dk_28 (dk_at dksX3_counterItem_0 11 rfl rfl)
theorem dX3_counterItem_12 : decode cX3_counterItem 12 = .ok (.aload_n 0, 1) := dk_42 (dk_at dksX3_counterItem_0 12 rfl rfl)
theorem dX3_counterItem_13 : decode cX3_counterItem 13 = .ok (.getfield 19, 3) := dk_180 0 19 (dk_at dksX3_counterItem_0 13 rfl rfl)
theorem dX3_counterItem_16 : decode cX3_counterItem 16 = .ok (.iload_n 1, 1) := dk_27 (dk_at dksX3_counterItem_0 16 rfl rfl)
theorem dX3_counterItem_17 : decode cX3_counterItem 17 = .ok (.iaload, 1) := dk_46 (dk_at dksX3_counterItem_0 17 rfl rfl)
theorem dX3_counterItem_18 : decode cX3_counterItem 18 = .ok (.if_icmp .ge 7, 3) := dk_162 0 7 (dk_at dksX3_counterItem_0 18 rfl rfl)
theorem dX3_counterItem_21 : decode cX3_counterItem 21 = .ok (.iconst 1, 1) := dk_4 (dk_at dksX3_counterItem_0 21 rfl rfl)
theorem dX3_counterItem_22 : decode cX3_counterItem 22 = .ok (.goto 4, 3) := dk_167 0 4 (dk_at dksX3_counterItem_1 0 rfl rfl)
theorem dX3_counterItem_25 : decode cX3_counterItem 25 = .ok (.iconst 0, 1) := dk_3 (dk_at dksX3_counterItem_1 3 rfl rfl)
theorem dX3_counterItem_26 : decode cX3_counterItem 26 = .ok (.istore_n 3, 1) := dk_62 (dk_at dksX3_counterItem_1 4 rfl rfl)
theorem dX3_counterItem_27 : decode cX3_counterItem 27 = .ok (.aload_n 0, 1) := dk_42 (dk_at dksX3_counterItem_1 5 rfl rfl)
theorem dX3_counterItem_28 : decode cX3_counterItem 28 = .ok (.iload_n 3, 1) := dk_29 (dk_at dksX3_counterItem_1 6 rfl rfl)
theorem dX3_counterItem_29 : decode cX3_counterItem 29 = .ok (.ifCond .eq 7, 3) := dk_153 0 7 (dk_at dksX3_counterItem_1 7 rfl rfl)
theorem dX3_counterItem_32 : decode cX3_counterItem 32 = .ok (.iconst 0, 1) := dk_3 (dk_at dksX3_counterItem_1 10 rfl rfl)
theorem dX3_counterItem_33 : decode cX3_counterItem 33 = .ok (.goto 4, 3) := dk_167 0 4 (dk_at dksX3_counterItem_1 11 rfl rfl)
theorem dX3_counterItem_36 : decode cX3_counterItem 36 = .ok (.iconst 1, 1) := dk_4 (dk_at dksX3_counterItem_1 14 rfl rfl)
theorem dX3_counterItem_37 : decode cX3_counterItem 37 = .ok (.invokevirtual 84, 3) := dk_182 0 84 (dk_at dksX3_counterItem_1 15 rfl rfl)
theorem dX3_counterItem_40 : decode cX3_counterItem 40 = .ok (.ifCond .eq 17, 3) := dk_153 0 17 (dk_at dksX3_counterItem_1 18 rfl rfl)
theorem dX3_counterItem_43 : decode cX3_counterItem 43 = .ok (.aload_n 0, 1) := dk_42 (dk_at dksX3_counterItem_1 21 rfl rfl)
theorem dX3_counterItem_44 : decode cX3_counterItem 44 = .ok (.getfield 22, 3) := dk_180 0 22 (dk_at dksX3_counterItem_2 0 rfl rfl)
theorem dX3_counterItem_47 : decode cX3_counterItem 47 = .ok (.bipush 8, 2) := dk_16 8 (dk_at dksX3_counterItem_2 3 rfl rfl)
theorem dX3_counterItem_49 : decode cX3_counterItem 49 = .ok (.iload_n 1, 1) := dk_27 (dk_at dksX3_counterItem_2 5 rfl rfl)
theorem dX3_counterItem_50 : decode cX3_counterItem 50 = .ok (.imul, 1) := dk_104 (dk_at dksX3_counterItem_2 6 rfl rfl)
theorem dX3_counterItem_51 : decode cX3_counterItem 51 = .ok (.iload_n 2, 1) := dk_28 (dk_at dksX3_counterItem_2 7 rfl rfl)
theorem dX3_counterItem_52 : decode cX3_counterItem 52 = .ok (.iadd, 1) := dk_96 (dk_at dksX3_counterItem_2 8 rfl rfl)
theorem dX3_counterItem_53 : decode cX3_counterItem 53 = .ok (.iaload, 1) := dk_46 (dk_at dksX3_counterItem_2 9 rfl rfl)
theorem dX3_counterItem_54 : decode cX3_counterItem 54 = .ok (.goto 4, 3) := dk_167 0 4 (dk_at dksX3_counterItem_2 10 rfl rfl)
theorem dX3_counterItem_57 : decode cX3_counterItem 57 = .ok (.iconst 0, 1) := dk_3 (dk_at dksX3_counterItem_2 13 rfl rfl)
theorem dX3_counterItem_58 : decode cX3_counterItem 58 = .ok (.ireturn, 1) := dk_172 (dk_at dksX3_counterItem_2 14 rfl rfl)
abbrev cX3_counterOf : ByteArray := prog_9_method_51_code
def yX3_counterOf : MethodName := ⟨RX3, "counterOf", "(II)I"⟩
def dkwX3_counterOf_1 : List UInt8 := [167, 0, 14, 42, 180, 0, 25, 16, 8, 27, 104, 29, 96, 46, 172]
abbrev dktX3_counterOf_1 : List UInt8 := dkwX3_counterOf_1 ++ []
def dkwX3_counterOf_0 : List UInt8 := [42, 27, 28, 182, 0, 96, 154, 0, 5, 3, 172, 42, 27, 28, 182, 0, 65, 62, 29, 2, 160, 0, 7, 3]
abbrev dktX3_counterOf_0 : List UInt8 := dkwX3_counterOf_0 ++ dktX3_counterOf_1
theorem dksX3_counterOf_0 : cX3_counterOf.data.toList.drop 0 = dktX3_counterOf_0 := by decide +kernel
theorem dksX3_counterOf_1 : cX3_counterOf.data.toList.drop 24 = dktX3_counterOf_1 := dk_seg dksX3_counterOf_0 24 rfl rfl
theorem dX3_counterOf_0 : decode cX3_counterOf 0 = .ok (.aload_n 0, 1) := dk_42 (dk_at dksX3_counterOf_0 0 rfl rfl)
theorem dX3_counterOf_1 : decode cX3_counterOf 1 = .ok (.iload_n 1, 1) := dk_27 (dk_at dksX3_counterOf_0 1 rfl rfl)
theorem dX3_counterOf_2 : decode cX3_counterOf 2 = .ok (.iload_n 2, 1) := dk_28 (dk_at dksX3_counterOf_0 2 rfl rfl)
theorem dX3_counterOf_3 : decode cX3_counterOf 3 = .ok (.invokevirtual 96, 3) := dk_182 0 96 (dk_at dksX3_counterOf_0 3 rfl rfl)
theorem dX3_counterOf_6 : decode cX3_counterOf 6 = .ok (.ifCond .ne 5, 3) := dk_154 0 5 (dk_at dksX3_counterOf_0 6 rfl rfl)
theorem dX3_counterOf_9 : decode cX3_counterOf 9 = .ok (.iconst 0, 1) := dk_3 (dk_at dksX3_counterOf_0 9 rfl rfl)
theorem dX3_counterOf_10 : decode cX3_counterOf 10 = .ok (.ireturn, 1) := dk_172 (dk_at dksX3_counterOf_0 10 rfl rfl)
theorem dX3_counterOf_11 : decode cX3_counterOf 11 = .ok (.aload_n 0, 1) := dk_42 (dk_at dksX3_counterOf_0 11 rfl rfl)
theorem dX3_counterOf_12 : decode cX3_counterOf 12 = .ok (.iload_n 1, 1) := dk_27 (dk_at dksX3_counterOf_0 12 rfl rfl)
theorem dX3_counterOf_13 : decode cX3_counterOf 13 = .ok (.iload_n 2, 1) := dk_28 (dk_at dksX3_counterOf_0 13 rfl rfl)
theorem dX3_counterOf_14 : decode cX3_counterOf 14 = .ok (.invokevirtual 65, 3) := dk_182 0 65 (dk_at dksX3_counterOf_0 14 rfl rfl)
theorem dX3_counterOf_17 : decode cX3_counterOf 17 = .ok (.istore_n 3, 1) := dk_62 (dk_at dksX3_counterOf_0 17 rfl rfl)
theorem dX3_counterOf_18 : decode cX3_counterOf 18 = .ok (.iload_n 3, 1) := dk_29 (dk_at dksX3_counterOf_0 18 rfl rfl)
theorem dX3_counterOf_19 : decode cX3_counterOf 19 = .ok (.iconst (-1), 1) := dk_2 (dk_at dksX3_counterOf_0 19 rfl rfl)
theorem dX3_counterOf_20 : decode cX3_counterOf 20 = .ok (.if_icmp .ne 7, 3) := dk_160 0 7 (dk_at dksX3_counterOf_0 20 rfl rfl)
theorem dX3_counterOf_23 : decode cX3_counterOf 23 = .ok (.iconst 0, 1) := dk_3 (dk_at dksX3_counterOf_0 23 rfl rfl)
theorem dX3_counterOf_24 : decode cX3_counterOf 24 = .ok (.goto 14, 3) := dk_167 0 14 (dk_at dksX3_counterOf_1 0 rfl rfl)
theorem dX3_counterOf_27 : decode cX3_counterOf 27 = .ok (.aload_n 0, 1) := dk_42 (dk_at dksX3_counterOf_1 3 rfl rfl)
theorem dX3_counterOf_28 : decode cX3_counterOf 28 = .ok (.getfield 25, 3) := dk_180 0 25 (dk_at dksX3_counterOf_1 4 rfl rfl)
theorem dX3_counterOf_31 : decode cX3_counterOf 31 = .ok (.bipush 8, 2) := dk_16 8 (dk_at dksX3_counterOf_1 7 rfl rfl)
theorem dX3_counterOf_33 : decode cX3_counterOf 33 = .ok (.iload_n 1, 1) := dk_27 (dk_at dksX3_counterOf_1 9 rfl rfl)
theorem dX3_counterOf_34 : decode cX3_counterOf 34 = .ok (.imul, 1) := dk_104 (dk_at dksX3_counterOf_1 10 rfl rfl)
theorem dX3_counterOf_35 : decode cX3_counterOf 35 = .ok (.iload_n 3, 1) := dk_29 (dk_at dksX3_counterOf_1 11 rfl rfl)
theorem dX3_counterOf_36 : decode cX3_counterOf 36 = .ok (.iadd, 1) := dk_96 (dk_at dksX3_counterOf_1 12 rfl rfl)
theorem dX3_counterOf_37 : decode cX3_counterOf 37 = .ok (.iaload, 1) := dk_46 (dk_at dksX3_counterOf_1 13 rfl rfl)
theorem dX3_counterOf_38 : decode cX3_counterOf 38 = .ok (.ireturn, 1) := dk_172 (dk_at dksX3_counterOf_1 14 rfl rfl)
abbrev cX3_taken : ByteArray := prog_9_method_52_code
def yX3_taken : MethodName := ⟨RX3, "taken", "(I)I"⟩
def dkwX3_taken_1 : List UInt8 := [46, 167, 0, 4, 3, 172]
abbrev dktX3_taken_1 : List UInt8 := dkwX3_taken_1 ++ []
def dkwX3_taken_0 : List UInt8 := [42, 27, 184, 0, 79, 153, 0, 7, 3, 167, 0, 4, 4, 182, 0, 84, 153, 0, 12, 42, 180, 0, 28, 27]
abbrev dktX3_taken_0 : List UInt8 := dkwX3_taken_0 ++ dktX3_taken_1
theorem dksX3_taken_0 : cX3_taken.data.toList.drop 0 = dktX3_taken_0 := by decide +kernel
theorem dksX3_taken_1 : cX3_taken.data.toList.drop 24 = dktX3_taken_1 := dk_seg dksX3_taken_0 24 rfl rfl
theorem dX3_taken_0 : decode cX3_taken 0 = .ok (.aload_n 0, 1) := dk_42 (dk_at dksX3_taken_0 0 rfl rfl)
theorem dX3_taken_1 : decode cX3_taken 1 = .ok (.iload_n 1, 1) := dk_27 (dk_at dksX3_taken_0 1 rfl rfl)
theorem dX3_taken_2 : decode cX3_taken 2 = .ok (.invokestatic 79, 3) := dk_184 0 79 (dk_at dksX3_taken_0 2 rfl rfl)
theorem dX3_taken_5 : decode cX3_taken 5 = .ok (.ifCond .eq 7, 3) := dk_153 0 7 (dk_at dksX3_taken_0 5 rfl rfl)
theorem dX3_taken_8 : decode cX3_taken 8 = .ok (.iconst 0, 1) := dk_3 (dk_at dksX3_taken_0 8 rfl rfl)
theorem dX3_taken_9 : decode cX3_taken 9 = .ok (.goto 4, 3) := dk_167 0 4 (dk_at dksX3_taken_0 9 rfl rfl)
theorem dX3_taken_12 : decode cX3_taken 12 = .ok (.iconst 1, 1) := dk_4 (dk_at dksX3_taken_0 12 rfl rfl)
theorem dX3_taken_13 : decode cX3_taken 13 = .ok (.invokevirtual 84, 3) := dk_182 0 84 (dk_at dksX3_taken_0 13 rfl rfl)
theorem dX3_taken_16 : decode cX3_taken 16 = .ok (.ifCond .eq 12, 3) := dk_153 0 12 (dk_at dksX3_taken_0 16 rfl rfl)
theorem dX3_taken_19 : decode cX3_taken 19 = .ok (.aload_n 0, 1) := dk_42 (dk_at dksX3_taken_0 19 rfl rfl)
theorem dX3_taken_20 : decode cX3_taken 20 = .ok (.getfield 28, 3) := dk_180 0 28 (dk_at dksX3_taken_0 20 rfl rfl)
theorem dX3_taken_23 : decode cX3_taken 23 = .ok (.iload_n 1, 1) := dk_27 (dk_at dksX3_taken_0 23 rfl rfl)
theorem dX3_taken_24 : decode cX3_taken 24 = .ok (.iaload, 1) := dk_46 (dk_at dksX3_taken_1 0 rfl rfl)
theorem dX3_taken_25 : decode cX3_taken 25 = .ok (.goto 4, 3) := dk_167 0 4 (dk_at dksX3_taken_1 1 rfl rfl)
theorem dX3_taken_28 : decode cX3_taken 28 = .ok (.iconst 0, 1) := dk_3 (dk_at dksX3_taken_1 4 rfl rfl)
theorem dX3_taken_29 : decode cX3_taken 29 = .ok (.ireturn, 1) := dk_172 (dk_at dksX3_taken_1 5 rfl rfl)
theorem q33 : (Jvm.Cond.initialized "CountcoteModel") ∈ lw_all := lw_g (lw_at lw_m1 6 rfl) rfl
theorem q444 : (Jvm.Cond.selects "CountcoteModel" ({ cls := "java/lang/Object", name := "getClass", desc := "()Ljava/lang/Class;" } : Jvm.MethodName) ({ cls := "java/lang/Object", name := "getClass", desc := "()Ljava/lang/Class;" } : Jvm.MethodName)) ∈ lw_all := lw_g (lw_at lw_m2 177 rfl) rfl
theorem q790 : (Jvm.Cond.instantiable "CountcoteModel" (9 : Nat)) ∈ lw_all := lw_g (lw_at lw_m4 43 rfl) rfl
theorem q792 : (Jvm.Cond.instanceMethod ({ cls := "CountcoteModel", name := "<init>", desc := "()V" } : Jvm.MethodName)) ∈ lw_all := lw_g (lw_at lw_m4 45 rfl) rfl
theorem q793 : (Jvm.Cond.code ({ cls := "CountcoteModel", name := "<init>", desc := "()V" } : Jvm.MethodName) prog_9_method_1_code (1 : Nat) (Option.none : Option Jvm.ClassFile.FieldType)) ∈ lw_all := lw_g (lw_at lw_m4 46 rfl) rfl
theorem q794 : (Jvm.Cond.methodLink "CountcoteModel" (1 : Nat) ({ cls := "java/lang/Object", name := "<init>", desc := "()V" } : Jvm.MethodName)) ∈ lw_all := lw_g (lw_at lw_m4 47 rfl) rfl
theorem q795 : (Jvm.Cond.fieldLink "CountcoteModel" (35 : Nat) "CountcoteModel" "thrown" "I") ∈ lw_all := lw_g (lw_at lw_m4 48 rfl) rfl
theorem q796 : (Jvm.Cond.fieldLink "CountcoteModel" (7 : Nat) "CountcoteModel" "counts" "[I") ∈ lw_all := lw_g (lw_at lw_m4 49 rfl) rfl
theorem q797 : (Jvm.Cond.fieldLink "CountcoteModel" (13 : Nat) "CountcoteModel" "totals" "[I") ∈ lw_all := lw_g (lw_at lw_m4 50 rfl) rfl
theorem q798 : (Jvm.Cond.fieldLink "CountcoteModel" (16 : Nat) "CountcoteModel" "cells" "[I") ∈ lw_all := lw_g (lw_at lw_m4 51 rfl) rfl
theorem q799 : (Jvm.Cond.fieldLink "CountcoteModel" (19 : Nat) "CountcoteModel" "counters" "[I") ∈ lw_all := lw_g (lw_at lw_m4 52 rfl) rfl
theorem q800 : (Jvm.Cond.fieldLink "CountcoteModel" (22 : Nat) "CountcoteModel" "items" "[I") ∈ lw_all := lw_g (lw_at lw_m4 53 rfl) rfl
theorem q801 : (Jvm.Cond.fieldLink "CountcoteModel" (25 : Nat) "CountcoteModel" "weights" "[I") ∈ lw_all := lw_g (lw_at lw_m4 54 rfl) rfl
theorem q802 : (Jvm.Cond.fieldLink "CountcoteModel" (28 : Nat) "CountcoteModel" "taken" "[I") ∈ lw_all := lw_g (lw_at lw_m4 55 rfl) rfl
theorem q803 : (Jvm.Cond.fieldLink "CountcoteModel" (31 : Nat) "CountcoteModel" "five" "[J") ∈ lw_all := lw_g (lw_at lw_m4 56 rfl) rfl
theorem q804 : (Jvm.Cond.lays "CountcoteModel" "CountcoteModel" "thrown" "I") ∈ lw_all := lw_g (lw_at lw_m4 57 rfl) rfl
theorem q805 : (Jvm.Cond.soleField "CountcoteModel" "thrown") ∈ lw_all := lw_g (lw_at lw_m4 58 rfl) rfl
theorem q806 : (Jvm.Cond.laysFinal "CountcoteModel" "CountcoteModel" "counts" "[I") ∈ lw_all := lw_g (lw_at lw_m4 59 rfl) rfl
theorem q807 : (Jvm.Cond.soleField "CountcoteModel" "counts") ∈ lw_all := lw_g (lw_at lw_m4 60 rfl) rfl
theorem q808 : (Jvm.Cond.laysFinal "CountcoteModel" "CountcoteModel" "totals" "[I") ∈ lw_all := lw_g (lw_at lw_m4 61 rfl) rfl
theorem q809 : (Jvm.Cond.soleField "CountcoteModel" "totals") ∈ lw_all := lw_g (lw_at lw_m4 62 rfl) rfl
theorem q810 : (Jvm.Cond.laysFinal "CountcoteModel" "CountcoteModel" "cells" "[I") ∈ lw_all := lw_g (lw_at lw_m4 63 rfl) rfl
theorem q811 : (Jvm.Cond.soleField "CountcoteModel" "cells") ∈ lw_all := lw_g (lw_at lw_m4 64 rfl) rfl
theorem q812 : (Jvm.Cond.laysFinal "CountcoteModel" "CountcoteModel" "counters" "[I") ∈ lw_all := lw_g (lw_at lw_m4 65 rfl) rfl
theorem q813 : (Jvm.Cond.soleField "CountcoteModel" "counters") ∈ lw_all := lw_g (lw_at lw_m4 66 rfl) rfl
theorem q814 : (Jvm.Cond.laysFinal "CountcoteModel" "CountcoteModel" "items" "[I") ∈ lw_all := lw_g (lw_at lw_m4 67 rfl) rfl
theorem q815 : (Jvm.Cond.soleField "CountcoteModel" "items") ∈ lw_all := lw_g (lw_at lw_m4 68 rfl) rfl
theorem q816 : (Jvm.Cond.laysFinal "CountcoteModel" "CountcoteModel" "weights" "[I") ∈ lw_all := lw_g (lw_at lw_m4 69 rfl) rfl
theorem q817 : (Jvm.Cond.soleField "CountcoteModel" "weights") ∈ lw_all := lw_g (lw_at lw_m4 70 rfl) rfl
theorem q818 : (Jvm.Cond.laysFinal "CountcoteModel" "CountcoteModel" "taken" "[I") ∈ lw_all := lw_g (lw_at lw_m4 71 rfl) rfl
theorem q819 : (Jvm.Cond.soleField "CountcoteModel" "taken") ∈ lw_all := lw_g (lw_at lw_m4 72 rfl) rfl
theorem q820 : (Jvm.Cond.laysFinal "CountcoteModel" "CountcoteModel" "five" "[J") ∈ lw_all := lw_g (lw_at lw_m4 73 rfl) rfl
theorem q821 : (Jvm.Cond.soleField "CountcoteModel" "five") ∈ lw_all := lw_g (lw_at lw_m4 74 rfl) rfl
theorem q822 : (Jvm.Cond.superclass "CountcoteModel" "java/lang/Object") ∈ lw_all := lw_g (lw_at lw_m4 75 rfl) rfl
theorem q824 : (Jvm.Cond.instanceMethod ({ cls := "CountcoteModel", name := "thrown", desc := "()I" } : Jvm.MethodName)) ∈ lw_all := lw_g (lw_at lw_m4 77 rfl) rfl
theorem q825 : (Jvm.Cond.selects "CountcoteModel" ({ cls := "CountcoteModel", name := "thrown", desc := "()I" } : Jvm.MethodName) ({ cls := "CountcoteModel", name := "thrown", desc := "()I" } : Jvm.MethodName)) ∈ lw_all := lw_g (lw_at lw_m4 78 rfl) rfl
theorem q826 : (Jvm.Cond.code ({ cls := "CountcoteModel", name := "thrown", desc := "()I" } : Jvm.MethodName) prog_9_method_2_code (1 : Nat) (Option.some Jvm.ClassFile.FieldType.int)) ∈ lw_all := lw_g (lw_at lw_m4 79 rfl) rfl
theorem q828 : (Jvm.Cond.instanceMethod ({ cls := "CountcoteModel", name := "add", desc := "(III)I" } : Jvm.MethodName)) ∈ lw_all := lw_g (lw_at lw_m4 81 rfl) rfl
theorem q829 : (Jvm.Cond.selects "CountcoteModel" ({ cls := "CountcoteModel", name := "add", desc := "(III)I" } : Jvm.MethodName) ({ cls := "CountcoteModel", name := "add", desc := "(III)I" } : Jvm.MethodName)) ∈ lw_all := lw_g (lw_at lw_m4 82 rfl) rfl
theorem q830 : (Jvm.Cond.code ({ cls := "CountcoteModel", name := "add", desc := "(III)I" } : Jvm.MethodName) prog_9_method_21_code (5 : Nat) (Option.some Jvm.ClassFile.FieldType.int)) ∈ lw_all := lw_g (lw_at lw_m4 83 rfl) rfl
theorem q831 : (Jvm.Cond.methodLink "CountcoteModel" (79 : Nat) ({ cls := "CountcoteModel", name := "isStream", desc := "(I)Z" } : Jvm.MethodName)) ∈ lw_all := lw_g (lw_at lw_m4 84 rfl) rfl
theorem q832 : (Jvm.Cond.static ({ cls := "CountcoteModel", name := "isStream", desc := "(I)Z" } : Jvm.MethodName)) ∈ lw_all := lw_g (lw_at lw_m4 85 rfl) rfl
theorem q833 : (Jvm.Cond.code ({ cls := "CountcoteModel", name := "isStream", desc := "(I)Z" } : Jvm.MethodName) prog_9_method_5_code (1 : Nat) (Option.some Jvm.ClassFile.FieldType.boolean)) ∈ lw_all := lw_g (lw_at lw_m4 86 rfl) rfl
theorem q834 : (Jvm.Cond.methodLink "CountcoteModel" (39 : Nat) ({ cls := "CountcoteModel", name := "isIn", desc := "(II)Z" } : Jvm.MethodName)) ∈ lw_all := lw_g (lw_at lw_m4 87 rfl) rfl
theorem q835 : (Jvm.Cond.static ({ cls := "CountcoteModel", name := "isIn", desc := "(II)Z" } : Jvm.MethodName)) ∈ lw_all := lw_g (lw_at lw_m4 88 rfl) rfl
theorem q836 : (Jvm.Cond.code ({ cls := "CountcoteModel", name := "isIn", desc := "(II)Z" } : Jvm.MethodName) prog_9_method_4_code (2 : Nat) (Option.some Jvm.ClassFile.FieldType.boolean)) ∈ lw_all := lw_g (lw_at lw_m4 89 rfl) rfl
theorem q837 : (Jvm.Cond.constant "CountcoteModel" (83 : Nat) (1000000 : Int32)) ∈ lw_all := lw_g (lw_at lw_m4 90 rfl) rfl
theorem q838 : (Jvm.Cond.methodLink "CountcoteModel" (84 : Nat) ({ cls := "CountcoteModel", name := "holds", desc := "(I)Z" } : Jvm.MethodName)) ∈ lw_all := lw_g (lw_at lw_m4 91 rfl) rfl
theorem q839 : (Jvm.Cond.privateMethod ({ cls := "CountcoteModel", name := "holds", desc := "(I)Z" } : Jvm.MethodName)) ∈ lw_tbl := lw_at lw_m4 92 rfl
theorem q840 : (Jvm.Cond.instanceMethod ({ cls := "CountcoteModel", name := "holds", desc := "(I)Z" } : Jvm.MethodName)) ∈ lw_all := lw_g (lw_at lw_m4 93 rfl) rfl
theorem q841 : (Jvm.Cond.code ({ cls := "CountcoteModel", name := "holds", desc := "(I)Z" } : Jvm.MethodName) prog_9_method_3_code (2 : Nat) (Option.some Jvm.ClassFile.FieldType.boolean)) ∈ lw_all := lw_g (lw_at lw_m4 94 rfl) rfl
theorem q842 : (Jvm.Cond.methodLink "CountcoteModel" (87 : Nat) ({ cls := "CountcoteModel", name := "addsCarefully", desc := "(III)V" } : Jvm.MethodName)) ∈ lw_all := lw_g (lw_at lw_m4 95 rfl) rfl
theorem q843 : (Jvm.Cond.privateMethod ({ cls := "CountcoteModel", name := "addsCarefully", desc := "(III)V" } : Jvm.MethodName)) ∈ lw_tbl := lw_at lw_m4 96 rfl
theorem q844 : (Jvm.Cond.instanceMethod ({ cls := "CountcoteModel", name := "addsCarefully", desc := "(III)V" } : Jvm.MethodName)) ∈ lw_all := lw_g (lw_at lw_m4 97 rfl) rfl
theorem q845 : (Jvm.Cond.code ({ cls := "CountcoteModel", name := "addsCarefully", desc := "(III)V" } : Jvm.MethodName) prog_9_method_14_code (9 : Nat) (Option.none : Option Jvm.ClassFile.FieldType)) ∈ lw_all := lw_g (lw_at lw_m4 98 rfl) rfl
theorem q846 : (Jvm.Cond.methodLink "CountcoteModel" (62 : Nat) ({ cls := "CountcoteModel", name := "estimateOf", desc := "(III)I" } : Jvm.MethodName)) ∈ lw_all := lw_g (lw_at lw_m4 99 rfl) rfl
theorem q847 : (Jvm.Cond.privateMethod ({ cls := "CountcoteModel", name := "estimateOf", desc := "(III)I" } : Jvm.MethodName)) ∈ lw_tbl := lw_at lw_m4 100 rfl
theorem q848 : (Jvm.Cond.instanceMethod ({ cls := "CountcoteModel", name := "estimateOf", desc := "(III)I" } : Jvm.MethodName)) ∈ lw_all := lw_g (lw_at lw_m4 101 rfl) rfl
theorem q849 : (Jvm.Cond.code ({ cls := "CountcoteModel", name := "estimateOf", desc := "(III)I" } : Jvm.MethodName) prog_9_method_13_code (7 : Nat) (Option.some Jvm.ClassFile.FieldType.int)) ∈ lw_all := lw_g (lw_at lw_m4 102 rfl) rfl
theorem q850 : (Jvm.Cond.methodLink "CountcoteModel" (50 : Nat) ({ cls := "CountcoteModel", name := "sum", desc := "(III)I" } : Jvm.MethodName)) ∈ lw_all := lw_g (lw_at lw_m4 103 rfl) rfl
theorem q851 : (Jvm.Cond.privateMethod ({ cls := "CountcoteModel", name := "sum", desc := "(III)I" } : Jvm.MethodName)) ∈ lw_tbl := lw_at lw_m4 104 rfl
theorem q852 : (Jvm.Cond.instanceMethod ({ cls := "CountcoteModel", name := "sum", desc := "(III)I" } : Jvm.MethodName)) ∈ lw_all := lw_g (lw_at lw_m4 105 rfl) rfl
theorem q853 : (Jvm.Cond.code ({ cls := "CountcoteModel", name := "sum", desc := "(III)I" } : Jvm.MethodName) prog_9_method_12_code (6 : Nat) (Option.some Jvm.ClassFile.FieldType.int)) ∈ lw_all := lw_g (lw_at lw_m4 106 rfl) rfl
theorem q854 : (Jvm.Cond.methodLink "CountcoteModel" (54 : Nat) ({ cls := "CountcoteModel", name := "columnOf", desc := "(II)I" } : Jvm.MethodName)) ∈ lw_all := lw_g (lw_at lw_m4 107 rfl) rfl
theorem q855 : (Jvm.Cond.static ({ cls := "CountcoteModel", name := "columnOf", desc := "(II)I" } : Jvm.MethodName)) ∈ lw_all := lw_g (lw_at lw_m4 108 rfl) rfl
theorem q856 : (Jvm.Cond.code ({ cls := "CountcoteModel", name := "columnOf", desc := "(II)I" } : Jvm.MethodName) prog_9_method_8_code (2 : Nat) (Option.some Jvm.ClassFile.FieldType.int)) ∈ lw_all := lw_g (lw_at lw_m4 109 rfl) rfl
theorem q857 : (Jvm.Cond.methodLink "CountcoteModel" (43 : Nat) ({ cls := "CountcoteModel", name := "multiplier", desc := "(I)I" } : Jvm.MethodName)) ∈ lw_all := lw_g (lw_at lw_m4 110 rfl) rfl
theorem q858 : (Jvm.Cond.static ({ cls := "CountcoteModel", name := "multiplier", desc := "(I)I" } : Jvm.MethodName)) ∈ lw_all := lw_g (lw_at lw_m4 111 rfl) rfl
theorem q859 : (Jvm.Cond.code ({ cls := "CountcoteModel", name := "multiplier", desc := "(I)I" } : Jvm.MethodName) prog_9_method_6_code (1 : Nat) (Option.some Jvm.ClassFile.FieldType.int)) ∈ lw_all := lw_g (lw_at lw_m4 112 rfl) rfl
theorem q860 : (Jvm.Cond.methodLink "CountcoteModel" (47 : Nat) ({ cls := "CountcoteModel", name := "shift", desc := "(I)I" } : Jvm.MethodName)) ∈ lw_all := lw_g (lw_at lw_m4 113 rfl) rfl
theorem q861 : (Jvm.Cond.static ({ cls := "CountcoteModel", name := "shift", desc := "(I)I" } : Jvm.MethodName)) ∈ lw_all := lw_g (lw_at lw_m4 114 rfl) rfl
theorem q862 : (Jvm.Cond.code ({ cls := "CountcoteModel", name := "shift", desc := "(I)I" } : Jvm.MethodName) prog_9_method_7_code (1 : Nat) (Option.some Jvm.ClassFile.FieldType.int)) ∈ lw_all := lw_g (lw_at lw_m4 115 rfl) rfl
theorem q863 : (Jvm.Cond.methodLink "CountcoteModel" (58 : Nat) ({ cls := "CountcoteModel", name := "placeOf", desc := "(IIII)I" } : Jvm.MethodName)) ∈ lw_all := lw_g (lw_at lw_m4 116 rfl) rfl
theorem q864 : (Jvm.Cond.static ({ cls := "CountcoteModel", name := "placeOf", desc := "(IIII)I" } : Jvm.MethodName)) ∈ lw_all := lw_g (lw_at lw_m4 117 rfl) rfl
theorem q865 : (Jvm.Cond.code ({ cls := "CountcoteModel", name := "placeOf", desc := "(IIII)I" } : Jvm.MethodName) prog_9_method_11_code (4 : Nat) (Option.some Jvm.ClassFile.FieldType.int)) ∈ lw_all := lw_g (lw_at lw_m4 118 rfl) rfl
theorem q866 : (Jvm.Cond.methodLink "CountcoteModel" (90 : Nat) ({ cls := "CountcoteModel", name := "addsToCounters", desc := "(III)V" } : Jvm.MethodName)) ∈ lw_all := lw_g (lw_at lw_m4 119 rfl) rfl
theorem q867 : (Jvm.Cond.privateMethod ({ cls := "CountcoteModel", name := "addsToCounters", desc := "(III)V" } : Jvm.MethodName)) ∈ lw_tbl := lw_at lw_m4 120 rfl
theorem q868 : (Jvm.Cond.instanceMethod ({ cls := "CountcoteModel", name := "addsToCounters", desc := "(III)V" } : Jvm.MethodName)) ∈ lw_all := lw_g (lw_at lw_m4 121 rfl) rfl
theorem q869 : (Jvm.Cond.code ({ cls := "CountcoteModel", name := "addsToCounters", desc := "(III)V" } : Jvm.MethodName) prog_9_method_18_code (8 : Nat) (Option.none : Option Jvm.ClassFile.FieldType)) ∈ lw_all := lw_g (lw_at lw_m4 122 rfl) rfl
theorem q870 : (Jvm.Cond.methodLink "CountcoteModel" (65 : Nat) ({ cls := "CountcoteModel", name := "placeOfCounter", desc := "(II)I" } : Jvm.MethodName)) ∈ lw_all := lw_g (lw_at lw_m4 123 rfl) rfl
theorem q871 : (Jvm.Cond.privateMethod ({ cls := "CountcoteModel", name := "placeOfCounter", desc := "(II)I" } : Jvm.MethodName)) ∈ lw_tbl := lw_at lw_m4 124 rfl
theorem q872 : (Jvm.Cond.instanceMethod ({ cls := "CountcoteModel", name := "placeOfCounter", desc := "(II)I" } : Jvm.MethodName)) ∈ lw_all := lw_g (lw_at lw_m4 125 rfl) rfl
theorem q873 : (Jvm.Cond.code ({ cls := "CountcoteModel", name := "placeOfCounter", desc := "(II)I" } : Jvm.MethodName) prog_9_method_15_code (5 : Nat) (Option.some Jvm.ClassFile.FieldType.int)) ∈ lw_all := lw_g (lw_at lw_m4 126 rfl) rfl
theorem q874 : (Jvm.Cond.methodLink "CountcoteModel" (68 : Nat) ({ cls := "CountcoteModel", name := "takes", desc := "(II)V" } : Jvm.MethodName)) ∈ lw_all := lw_g (lw_at lw_m4 127 rfl) rfl
theorem q875 : (Jvm.Cond.privateMethod ({ cls := "CountcoteModel", name := "takes", desc := "(II)V" } : Jvm.MethodName)) ∈ lw_tbl := lw_at lw_m4 128 rfl
theorem q876 : (Jvm.Cond.instanceMethod ({ cls := "CountcoteModel", name := "takes", desc := "(II)V" } : Jvm.MethodName)) ∈ lw_all := lw_g (lw_at lw_m4 129 rfl) rfl
theorem q877 : (Jvm.Cond.code ({ cls := "CountcoteModel", name := "takes", desc := "(II)V" } : Jvm.MethodName) prog_9_method_16_code (6 : Nat) (Option.none : Option Jvm.ClassFile.FieldType)) ∈ lw_all := lw_g (lw_at lw_m4 130 rfl) rfl
theorem q878 : (Jvm.Cond.methodLink "CountcoteModel" (72 : Nat) ({ cls := "CountcoteModel", name := "opens", desc := "(III)V" } : Jvm.MethodName)) ∈ lw_all := lw_g (lw_at lw_m4 131 rfl) rfl
theorem q879 : (Jvm.Cond.privateMethod ({ cls := "CountcoteModel", name := "opens", desc := "(III)V" } : Jvm.MethodName)) ∈ lw_tbl := lw_at lw_m4 132 rfl
theorem q880 : (Jvm.Cond.instanceMethod ({ cls := "CountcoteModel", name := "opens", desc := "(III)V" } : Jvm.MethodName)) ∈ lw_all := lw_g (lw_at lw_m4 133 rfl) rfl
theorem q881 : (Jvm.Cond.code ({ cls := "CountcoteModel", name := "opens", desc := "(III)V" } : Jvm.MethodName) prog_9_method_17_code (4 : Nat) (Option.none : Option Jvm.ClassFile.FieldType)) ∈ lw_all := lw_g (lw_at lw_m4 134 rfl) rfl
theorem q883 : (Jvm.Cond.instanceMethod ({ cls := "CountcoteModel", name := "merge", desc := "(II)I" } : Jvm.MethodName)) ∈ lw_all := lw_g (lw_at lw_m4 136 rfl) rfl
theorem q884 : (Jvm.Cond.selects "CountcoteModel" ({ cls := "CountcoteModel", name := "merge", desc := "(II)I" } : Jvm.MethodName) ({ cls := "CountcoteModel", name := "merge", desc := "(II)I" } : Jvm.MethodName)) ∈ lw_all := lw_g (lw_at lw_m4 137 rfl) rfl
theorem q885 : (Jvm.Cond.code ({ cls := "CountcoteModel", name := "merge", desc := "(II)I" } : Jvm.MethodName) prog_9_method_22_code (5 : Nat) (Option.some Jvm.ClassFile.FieldType.int)) ∈ lw_all := lw_g (lw_at lw_m4 138 rfl) rfl
theorem q886 : (Jvm.Cond.methodLink "CountcoteModel" (93 : Nat) ({ cls := "CountcoteModel", name := "mergesCounters", desc := "(II)V" } : Jvm.MethodName)) ∈ lw_all := lw_g (lw_at lw_m4 139 rfl) rfl
theorem q887 : (Jvm.Cond.privateMethod ({ cls := "CountcoteModel", name := "mergesCounters", desc := "(II)V" } : Jvm.MethodName)) ∈ lw_tbl := lw_at lw_m4 140 rfl
theorem q888 : (Jvm.Cond.instanceMethod ({ cls := "CountcoteModel", name := "mergesCounters", desc := "(II)V" } : Jvm.MethodName)) ∈ lw_all := lw_g (lw_at lw_m4 141 rfl) rfl
theorem q889 : (Jvm.Cond.code ({ cls := "CountcoteModel", name := "mergesCounters", desc := "(II)V" } : Jvm.MethodName) prog_9_method_20_code (6 : Nat) (Option.none : Option Jvm.ClassFile.FieldType)) ∈ lw_all := lw_g (lw_at lw_m4 142 rfl) rfl
theorem q890 : (Jvm.Cond.methodLink "CountcoteModel" (76 : Nat) ({ cls := "CountcoteModel", name := "fifth", desc := "(I)I" } : Jvm.MethodName)) ∈ lw_all := lw_g (lw_at lw_m4 143 rfl) rfl
theorem q891 : (Jvm.Cond.privateMethod ({ cls := "CountcoteModel", name := "fifth", desc := "(I)I" } : Jvm.MethodName)) ∈ lw_tbl := lw_at lw_m4 144 rfl
theorem q892 : (Jvm.Cond.instanceMethod ({ cls := "CountcoteModel", name := "fifth", desc := "(I)I" } : Jvm.MethodName)) ∈ lw_all := lw_g (lw_at lw_m4 145 rfl) rfl
theorem q893 : (Jvm.Cond.code ({ cls := "CountcoteModel", name := "fifth", desc := "(I)I" } : Jvm.MethodName) prog_9_method_19_code (8 : Nat) (Option.some Jvm.ClassFile.FieldType.int)) ∈ lw_all := lw_g (lw_at lw_m4 146 rfl) rfl
theorem q895 : (Jvm.Cond.instanceMethod ({ cls := "CountcoteModel", name := "clear", desc := "(I)I" } : Jvm.MethodName)) ∈ lw_all := lw_g (lw_at lw_m4 148 rfl) rfl
theorem q896 : (Jvm.Cond.selects "CountcoteModel" ({ cls := "CountcoteModel", name := "clear", desc := "(I)I" } : Jvm.MethodName) ({ cls := "CountcoteModel", name := "clear", desc := "(I)I" } : Jvm.MethodName)) ∈ lw_all := lw_g (lw_at lw_m4 149 rfl) rfl
theorem q897 : (Jvm.Cond.code ({ cls := "CountcoteModel", name := "clear", desc := "(I)I" } : Jvm.MethodName) prog_9_method_23_code (4 : Nat) (Option.some Jvm.ClassFile.FieldType.int)) ∈ lw_all := lw_g (lw_at lw_m4 150 rfl) rfl
theorem q899 : (Jvm.Cond.instanceMethod ({ cls := "CountcoteModel", name := "total", desc := "(I)I" } : Jvm.MethodName)) ∈ lw_all := lw_g (lw_at lw_m4 152 rfl) rfl
theorem q900 : (Jvm.Cond.selects "CountcoteModel" ({ cls := "CountcoteModel", name := "total", desc := "(I)I" } : Jvm.MethodName) ({ cls := "CountcoteModel", name := "total", desc := "(I)I" } : Jvm.MethodName)) ∈ lw_all := lw_g (lw_at lw_m4 153 rfl) rfl
theorem q901 : (Jvm.Cond.code ({ cls := "CountcoteModel", name := "total", desc := "(I)I" } : Jvm.MethodName) prog_9_method_24_code (2 : Nat) (Option.some Jvm.ClassFile.FieldType.int)) ∈ lw_all := lw_g (lw_at lw_m4 154 rfl) rfl
theorem q903 : (Jvm.Cond.instanceMethod ({ cls := "CountcoteModel", name := "count", desc := "(II)I" } : Jvm.MethodName)) ∈ lw_all := lw_g (lw_at lw_m4 156 rfl) rfl
theorem q904 : (Jvm.Cond.selects "CountcoteModel" ({ cls := "CountcoteModel", name := "count", desc := "(II)I" } : Jvm.MethodName) ({ cls := "CountcoteModel", name := "count", desc := "(II)I" } : Jvm.MethodName)) ∈ lw_all := lw_g (lw_at lw_m4 157 rfl) rfl
theorem q905 : (Jvm.Cond.code ({ cls := "CountcoteModel", name := "count", desc := "(II)I" } : Jvm.MethodName) prog_9_method_26_code (3 : Nat) (Option.some Jvm.ClassFile.FieldType.int)) ∈ lw_all := lw_g (lw_at lw_m4 158 rfl) rfl
theorem q906 : (Jvm.Cond.methodLink "CountcoteModel" (96 : Nat) ({ cls := "CountcoteModel", name := "isItem", desc := "(II)Z" } : Jvm.MethodName)) ∈ lw_all := lw_g (lw_at lw_m4 159 rfl) rfl
theorem q907 : (Jvm.Cond.privateMethod ({ cls := "CountcoteModel", name := "isItem", desc := "(II)Z" } : Jvm.MethodName)) ∈ lw_tbl := lw_at lw_m4 160 rfl
theorem q908 : (Jvm.Cond.instanceMethod ({ cls := "CountcoteModel", name := "isItem", desc := "(II)Z" } : Jvm.MethodName)) ∈ lw_all := lw_g (lw_at lw_m4 161 rfl) rfl
theorem q909 : (Jvm.Cond.code ({ cls := "CountcoteModel", name := "isItem", desc := "(II)Z" } : Jvm.MethodName) prog_9_method_25_code (3 : Nat) (Option.some Jvm.ClassFile.FieldType.boolean)) ∈ lw_all := lw_g (lw_at lw_m4 162 rfl) rfl
theorem q911 : (Jvm.Cond.instanceMethod ({ cls := "CountcoteModel", name := "countOfRange", desc := "(III)I" } : Jvm.MethodName)) ∈ lw_all := lw_g (lw_at lw_m4 164 rfl) rfl
theorem q912 : (Jvm.Cond.selects "CountcoteModel" ({ cls := "CountcoteModel", name := "countOfRange", desc := "(III)I" } : Jvm.MethodName) ({ cls := "CountcoteModel", name := "countOfRange", desc := "(III)I" } : Jvm.MethodName)) ∈ lw_all := lw_g (lw_at lw_m4 165 rfl) rfl
theorem q913 : (Jvm.Cond.code ({ cls := "CountcoteModel", name := "countOfRange", desc := "(III)I" } : Jvm.MethodName) prog_9_method_28_code (4 : Nat) (Option.some Jvm.ClassFile.FieldType.int)) ∈ lw_all := lw_g (lw_at lw_m4 166 rfl) rfl
theorem q914 : (Jvm.Cond.methodLink "CountcoteModel" (99 : Nat) ({ cls := "CountcoteModel", name := "isRange", desc := "(ZII)Z" } : Jvm.MethodName)) ∈ lw_all := lw_g (lw_at lw_m4 167 rfl) rfl
theorem q915 : (Jvm.Cond.privateMethod ({ cls := "CountcoteModel", name := "isRange", desc := "(ZII)Z" } : Jvm.MethodName)) ∈ lw_tbl := lw_at lw_m4 168 rfl
theorem q916 : (Jvm.Cond.instanceMethod ({ cls := "CountcoteModel", name := "isRange", desc := "(ZII)Z" } : Jvm.MethodName)) ∈ lw_all := lw_g (lw_at lw_m4 169 rfl) rfl
theorem q917 : (Jvm.Cond.code ({ cls := "CountcoteModel", name := "isRange", desc := "(ZII)Z" } : Jvm.MethodName) prog_9_method_27_code (5 : Nat) (Option.some Jvm.ClassFile.FieldType.boolean)) ∈ lw_all := lw_g (lw_at lw_m4 170 rfl) rfl
theorem q919 : (Jvm.Cond.instanceMethod ({ cls := "CountcoteModel", name := "product", desc := "(II)J" } : Jvm.MethodName)) ∈ lw_all := lw_g (lw_at lw_m4 172 rfl) rfl
theorem q920 : (Jvm.Cond.selects "CountcoteModel" ({ cls := "CountcoteModel", name := "product", desc := "(II)J" } : Jvm.MethodName) ({ cls := "CountcoteModel", name := "product", desc := "(II)J" } : Jvm.MethodName)) ∈ lw_all := lw_g (lw_at lw_m4 173 rfl) rfl
theorem q921 : (Jvm.Cond.code ({ cls := "CountcoteModel", name := "product", desc := "(II)J" } : Jvm.MethodName) prog_9_method_29_code (6 : Nat) (Option.some Jvm.ClassFile.FieldType.long)) ∈ lw_all := lw_g (lw_at lw_m4 174 rfl) rfl
theorem q923 : (Jvm.Cond.instanceMethod ({ cls := "CountcoteModel", name := "column", desc := "(II)I" } : Jvm.MethodName)) ∈ lw_all := lw_g (lw_at lw_m4 176 rfl) rfl
theorem q924 : (Jvm.Cond.selects "CountcoteModel" ({ cls := "CountcoteModel", name := "column", desc := "(II)I" } : Jvm.MethodName) ({ cls := "CountcoteModel", name := "column", desc := "(II)I" } : Jvm.MethodName)) ∈ lw_all := lw_g (lw_at lw_m4 177 rfl) rfl
theorem q925 : (Jvm.Cond.code ({ cls := "CountcoteModel", name := "column", desc := "(II)I" } : Jvm.MethodName) prog_9_method_30_code (3 : Nat) (Option.some Jvm.ClassFile.FieldType.int)) ∈ lw_all := lw_g (lw_at lw_m4 178 rfl) rfl
theorem q927 : (Jvm.Cond.instanceMethod ({ cls := "CountcoteModel", name := "cell", desc := "(IIII)I" } : Jvm.MethodName)) ∈ lw_all := lw_g (lw_at lw_m4 180 rfl) rfl
theorem q928 : (Jvm.Cond.selects "CountcoteModel" ({ cls := "CountcoteModel", name := "cell", desc := "(IIII)I" } : Jvm.MethodName) ({ cls := "CountcoteModel", name := "cell", desc := "(IIII)I" } : Jvm.MethodName)) ∈ lw_all := lw_g (lw_at lw_m4 181 rfl) rfl
theorem q929 : (Jvm.Cond.code ({ cls := "CountcoteModel", name := "cell", desc := "(IIII)I" } : Jvm.MethodName) prog_9_method_31_code (6 : Nat) (Option.some Jvm.ClassFile.FieldType.int)) ∈ lw_all := lw_g (lw_at lw_m4 182 rfl) rfl
theorem q931 : (Jvm.Cond.instanceMethod ({ cls := "CountcoteModel", name := "estimate", desc := "(III)I" } : Jvm.MethodName)) ∈ lw_all := lw_g (lw_at lw_m4 184 rfl) rfl
theorem q932 : (Jvm.Cond.selects "CountcoteModel" ({ cls := "CountcoteModel", name := "estimate", desc := "(III)I" } : Jvm.MethodName) ({ cls := "CountcoteModel", name := "estimate", desc := "(III)I" } : Jvm.MethodName)) ∈ lw_all := lw_g (lw_at lw_m4 185 rfl) rfl
theorem q933 : (Jvm.Cond.code ({ cls := "CountcoteModel", name := "estimate", desc := "(III)I" } : Jvm.MethodName) prog_9_method_32_code (5 : Nat) (Option.some Jvm.ClassFile.FieldType.int)) ∈ lw_all := lw_g (lw_at lw_m4 186 rfl) rfl
theorem q935 : (Jvm.Cond.instanceMethod ({ cls := "CountcoteModel", name := "share", desc := "(II)D" } : Jvm.MethodName)) ∈ lw_all := lw_g (lw_at lw_m4 188 rfl) rfl
theorem q936 : (Jvm.Cond.selects "CountcoteModel" ({ cls := "CountcoteModel", name := "share", desc := "(II)D" } : Jvm.MethodName) ({ cls := "CountcoteModel", name := "share", desc := "(II)D" } : Jvm.MethodName)) ∈ lw_all := lw_g (lw_at lw_m4 189 rfl) rfl
theorem q937 : (Jvm.Cond.code ({ cls := "CountcoteModel", name := "share", desc := "(II)D" } : Jvm.MethodName) prog_9_method_33_code (3 : Nat) (Option.some Jvm.ClassFile.FieldType.double)) ∈ lw_all := lw_g (lw_at lw_m4 190 rfl) rfl
theorem q939 : (Jvm.Cond.instanceMethod ({ cls := "CountcoteModel", name := "parts", desc := "(II)I" } : Jvm.MethodName)) ∈ lw_all := lw_g (lw_at lw_m4 192 rfl) rfl
theorem q940 : (Jvm.Cond.selects "CountcoteModel" ({ cls := "CountcoteModel", name := "parts", desc := "(II)I" } : Jvm.MethodName) ({ cls := "CountcoteModel", name := "parts", desc := "(II)I" } : Jvm.MethodName)) ∈ lw_all := lw_g (lw_at lw_m4 193 rfl) rfl
theorem q941 : (Jvm.Cond.code ({ cls := "CountcoteModel", name := "parts", desc := "(II)I" } : Jvm.MethodName) prog_9_method_35_code (5 : Nat) (Option.some Jvm.ClassFile.FieldType.int)) ∈ lw_all := lw_g (lw_at lw_m4 194 rfl) rfl
theorem q942 : (Jvm.Cond.methodLink "CountcoteModel" (103 : Nat) ({ cls := "CountcoteModel", name := "levelAt", desc := "(II)I" } : Jvm.MethodName)) ∈ lw_all := lw_g (lw_at lw_m4 195 rfl) rfl
theorem q943 : (Jvm.Cond.static ({ cls := "CountcoteModel", name := "levelAt", desc := "(II)I" } : Jvm.MethodName)) ∈ lw_all := lw_g (lw_at lw_m4 196 rfl) rfl
theorem q944 : (Jvm.Cond.code ({ cls := "CountcoteModel", name := "levelAt", desc := "(II)I" } : Jvm.MethodName) prog_9_method_34_code (3 : Nat) (Option.some Jvm.ClassFile.FieldType.int)) ∈ lw_all := lw_g (lw_at lw_m4 197 rfl) rfl
theorem q946 : (Jvm.Cond.instanceMethod ({ cls := "CountcoteModel", name := "estimateOfRange", desc := "(III)I" } : Jvm.MethodName)) ∈ lw_all := lw_g (lw_at lw_m4 199 rfl) rfl
theorem q947 : (Jvm.Cond.selects "CountcoteModel" ({ cls := "CountcoteModel", name := "estimateOfRange", desc := "(III)I" } : Jvm.MethodName) ({ cls := "CountcoteModel", name := "estimateOfRange", desc := "(III)I" } : Jvm.MethodName)) ∈ lw_all := lw_g (lw_at lw_m4 200 rfl) rfl
theorem q948 : (Jvm.Cond.code ({ cls := "CountcoteModel", name := "estimateOfRange", desc := "(III)I" } : Jvm.MethodName) prog_9_method_36_code (7 : Nat) (Option.some Jvm.ClassFile.FieldType.int)) ∈ lw_all := lw_g (lw_at lw_m4 201 rfl) rfl
theorem q950 : (Jvm.Cond.instanceMethod ({ cls := "CountcoteModel", name := "frequent", desc := "(II)I" } : Jvm.MethodName)) ∈ lw_all := lw_g (lw_at lw_m4 203 rfl) rfl
theorem q951 : (Jvm.Cond.selects "CountcoteModel" ({ cls := "CountcoteModel", name := "frequent", desc := "(II)I" } : Jvm.MethodName) ({ cls := "CountcoteModel", name := "frequent", desc := "(II)I" } : Jvm.MethodName)) ∈ lw_all := lw_g (lw_at lw_m4 204 rfl) rfl
theorem q952 : (Jvm.Cond.code ({ cls := "CountcoteModel", name := "frequent", desc := "(II)I" } : Jvm.MethodName) prog_9_method_39_code (5 : Nat) (Option.some Jvm.ClassFile.FieldType.int)) ∈ lw_all := lw_g (lw_at lw_m4 205 rfl) rfl
theorem q953 : (Jvm.Cond.methodLink "CountcoteModel" (106 : Nat) ({ cls := "CountcoteModel", name := "isLeast", desc := "(II)Z" } : Jvm.MethodName)) ∈ lw_all := lw_g (lw_at lw_m4 206 rfl) rfl
theorem q954 : (Jvm.Cond.privateMethod ({ cls := "CountcoteModel", name := "isLeast", desc := "(II)Z" } : Jvm.MethodName)) ∈ lw_tbl := lw_at lw_m4 207 rfl
theorem q955 : (Jvm.Cond.instanceMethod ({ cls := "CountcoteModel", name := "isLeast", desc := "(II)Z" } : Jvm.MethodName)) ∈ lw_all := lw_g (lw_at lw_m4 208 rfl) rfl
theorem q956 : (Jvm.Cond.code ({ cls := "CountcoteModel", name := "isLeast", desc := "(II)Z" } : Jvm.MethodName) prog_9_method_38_code (3 : Nat) (Option.some Jvm.ClassFile.FieldType.boolean)) ∈ lw_all := lw_g (lw_at lw_m4 209 rfl) rfl
theorem q957 : (Jvm.Cond.methodLink "CountcoteModel" (109 : Nat) ({ cls := "CountcoteModel", name := "isFrequent", desc := "(III)Z" } : Jvm.MethodName)) ∈ lw_all := lw_g (lw_at lw_m4 210 rfl) rfl
theorem q958 : (Jvm.Cond.privateMethod ({ cls := "CountcoteModel", name := "isFrequent", desc := "(III)Z" } : Jvm.MethodName)) ∈ lw_tbl := lw_at lw_m4 211 rfl
theorem q959 : (Jvm.Cond.instanceMethod ({ cls := "CountcoteModel", name := "isFrequent", desc := "(III)Z" } : Jvm.MethodName)) ∈ lw_all := lw_g (lw_at lw_m4 212 rfl) rfl
theorem q960 : (Jvm.Cond.code ({ cls := "CountcoteModel", name := "isFrequent", desc := "(III)Z" } : Jvm.MethodName) prog_9_method_37_code (6 : Nat) (Option.some Jvm.ClassFile.FieldType.boolean)) ∈ lw_all := lw_g (lw_at lw_m4 213 rfl) rfl
theorem q962 : (Jvm.Cond.instanceMethod ({ cls := "CountcoteModel", name := "frequentAt", desc := "(III)I" } : Jvm.MethodName)) ∈ lw_all := lw_g (lw_at lw_m4 215 rfl) rfl
theorem q963 : (Jvm.Cond.selects "CountcoteModel" ({ cls := "CountcoteModel", name := "frequentAt", desc := "(III)I" } : Jvm.MethodName) ({ cls := "CountcoteModel", name := "frequentAt", desc := "(III)I" } : Jvm.MethodName)) ∈ lw_all := lw_g (lw_at lw_m4 216 rfl) rfl
theorem q964 : (Jvm.Cond.code ({ cls := "CountcoteModel", name := "frequentAt", desc := "(III)I" } : Jvm.MethodName) prog_9_method_40_code (7 : Nat) (Option.some Jvm.ClassFile.FieldType.int)) ∈ lw_all := lw_g (lw_at lw_m4 217 rfl) rfl
theorem q966 : (Jvm.Cond.instanceMethod ({ cls := "CountcoteModel", name := "itemOfRank", desc := "(II)I" } : Jvm.MethodName)) ∈ lw_all := lw_g (lw_at lw_m4 219 rfl) rfl
theorem q967 : (Jvm.Cond.selects "CountcoteModel" ({ cls := "CountcoteModel", name := "itemOfRank", desc := "(II)I" } : Jvm.MethodName) ({ cls := "CountcoteModel", name := "itemOfRank", desc := "(II)I" } : Jvm.MethodName)) ∈ lw_all := lw_g (lw_at lw_m4 220 rfl) rfl
theorem q968 : (Jvm.Cond.code ({ cls := "CountcoteModel", name := "itemOfRank", desc := "(II)I" } : Jvm.MethodName) prog_9_method_41_code (8 : Nat) (Option.some Jvm.ClassFile.FieldType.int)) ∈ lw_all := lw_g (lw_at lw_m4 221 rfl) rfl
theorem q970 : (Jvm.Cond.instanceMethod ({ cls := "CountcoteModel", name := "signedColumn", desc := "(II)I" } : Jvm.MethodName)) ∈ lw_all := lw_g (lw_at lw_m4 223 rfl) rfl
theorem q971 : (Jvm.Cond.selects "CountcoteModel" ({ cls := "CountcoteModel", name := "signedColumn", desc := "(II)I" } : Jvm.MethodName) ({ cls := "CountcoteModel", name := "signedColumn", desc := "(II)I" } : Jvm.MethodName)) ∈ lw_all := lw_g (lw_at lw_m4 224 rfl) rfl
theorem q972 : (Jvm.Cond.code ({ cls := "CountcoteModel", name := "signedColumn", desc := "(II)I" } : Jvm.MethodName) prog_9_method_42_code (3 : Nat) (Option.some Jvm.ClassFile.FieldType.int)) ∈ lw_all := lw_g (lw_at lw_m4 225 rfl) rfl
theorem q973 : (Jvm.Cond.methodLink "CountcoteModel" (113 : Nat) ({ cls := "CountcoteModel", name := "signedColumnOf", desc := "(II)I" } : Jvm.MethodName)) ∈ lw_all := lw_g (lw_at lw_m4 226 rfl) rfl
theorem q974 : (Jvm.Cond.static ({ cls := "CountcoteModel", name := "signedColumnOf", desc := "(II)I" } : Jvm.MethodName)) ∈ lw_all := lw_g (lw_at lw_m4 227 rfl) rfl
theorem q975 : (Jvm.Cond.code ({ cls := "CountcoteModel", name := "signedColumnOf", desc := "(II)I" } : Jvm.MethodName) prog_9_method_9_code (4 : Nat) (Option.some Jvm.ClassFile.FieldType.int)) ∈ lw_all := lw_g (lw_at lw_m4 228 rfl) rfl
theorem q977 : (Jvm.Cond.instanceMethod ({ cls := "CountcoteModel", name := "sign", desc := "(II)I" } : Jvm.MethodName)) ∈ lw_all := lw_g (lw_at lw_m4 230 rfl) rfl
theorem q978 : (Jvm.Cond.selects "CountcoteModel" ({ cls := "CountcoteModel", name := "sign", desc := "(II)I" } : Jvm.MethodName) ({ cls := "CountcoteModel", name := "sign", desc := "(II)I" } : Jvm.MethodName)) ∈ lw_all := lw_g (lw_at lw_m4 231 rfl) rfl
theorem q979 : (Jvm.Cond.code ({ cls := "CountcoteModel", name := "sign", desc := "(II)I" } : Jvm.MethodName) prog_9_method_43_code (3 : Nat) (Option.some Jvm.ClassFile.FieldType.int)) ∈ lw_all := lw_g (lw_at lw_m4 232 rfl) rfl
theorem q980 : (Jvm.Cond.methodLink "CountcoteModel" (116 : Nat) ({ cls := "CountcoteModel", name := "signOf", desc := "(II)I" } : Jvm.MethodName)) ∈ lw_all := lw_g (lw_at lw_m4 233 rfl) rfl
theorem q981 : (Jvm.Cond.static ({ cls := "CountcoteModel", name := "signOf", desc := "(II)I" } : Jvm.MethodName)) ∈ lw_all := lw_g (lw_at lw_m4 234 rfl) rfl
theorem q982 : (Jvm.Cond.code ({ cls := "CountcoteModel", name := "signOf", desc := "(II)I" } : Jvm.MethodName) prog_9_method_10_code (4 : Nat) (Option.some Jvm.ClassFile.FieldType.int)) ∈ lw_all := lw_g (lw_at lw_m4 235 rfl) rfl
theorem q984 : (Jvm.Cond.instanceMethod ({ cls := "CountcoteModel", name := "signedCell", desc := "(III)I" } : Jvm.MethodName)) ∈ lw_all := lw_g (lw_at lw_m4 237 rfl) rfl
theorem q985 : (Jvm.Cond.selects "CountcoteModel" ({ cls := "CountcoteModel", name := "signedCell", desc := "(III)I" } : Jvm.MethodName) ({ cls := "CountcoteModel", name := "signedCell", desc := "(III)I" } : Jvm.MethodName)) ∈ lw_all := lw_g (lw_at lw_m4 238 rfl) rfl
theorem q986 : (Jvm.Cond.code ({ cls := "CountcoteModel", name := "signedCell", desc := "(III)I" } : Jvm.MethodName) prog_9_method_45_code (5 : Nat) (Option.some Jvm.ClassFile.FieldType.int)) ∈ lw_all := lw_g (lw_at lw_m4 239 rfl) rfl
theorem q987 : (Jvm.Cond.methodLink "CountcoteModel" (119 : Nat) ({ cls := "CountcoteModel", name := "signedCellOf", desc := "(III)I" } : Jvm.MethodName)) ∈ lw_all := lw_g (lw_at lw_m5 0 rfl) rfl
theorem q988 : (Jvm.Cond.privateMethod ({ cls := "CountcoteModel", name := "signedCellOf", desc := "(III)I" } : Jvm.MethodName)) ∈ lw_tbl := lw_at lw_m5 1 rfl
theorem q989 : (Jvm.Cond.instanceMethod ({ cls := "CountcoteModel", name := "signedCellOf", desc := "(III)I" } : Jvm.MethodName)) ∈ lw_all := lw_g (lw_at lw_m5 2 rfl) rfl
theorem q990 : (Jvm.Cond.code ({ cls := "CountcoteModel", name := "signedCellOf", desc := "(III)I" } : Jvm.MethodName) prog_9_method_44_code (6 : Nat) (Option.some Jvm.ClassFile.FieldType.int)) ∈ lw_all := lw_g (lw_at lw_m5 3 rfl) rfl
theorem q992 : (Jvm.Cond.instanceMethod ({ cls := "CountcoteModel", name := "signedEstimate", desc := "(II)I" } : Jvm.MethodName)) ∈ lw_all := lw_g (lw_at lw_m5 5 rfl) rfl
theorem q993 : (Jvm.Cond.selects "CountcoteModel" ({ cls := "CountcoteModel", name := "signedEstimate", desc := "(II)I" } : Jvm.MethodName) ({ cls := "CountcoteModel", name := "signedEstimate", desc := "(II)I" } : Jvm.MethodName)) ∈ lw_all := lw_g (lw_at lw_m5 6 rfl) rfl
theorem q994 : (Jvm.Cond.code ({ cls := "CountcoteModel", name := "signedEstimate", desc := "(II)I" } : Jvm.MethodName) prog_9_method_47_code (4 : Nat) (Option.some Jvm.ClassFile.FieldType.int)) ∈ lw_all := lw_g (lw_at lw_m5 7 rfl) rfl
theorem q995 : (Jvm.Cond.methodLink "CountcoteModel" (122 : Nat) ({ cls := "CountcoteModel", name := "middle", desc := "()J" } : Jvm.MethodName)) ∈ lw_all := lw_g (lw_at lw_m5 8 rfl) rfl
theorem q996 : (Jvm.Cond.privateMethod ({ cls := "CountcoteModel", name := "middle", desc := "()J" } : Jvm.MethodName)) ∈ lw_tbl := lw_at lw_m5 9 rfl
theorem q997 : (Jvm.Cond.instanceMethod ({ cls := "CountcoteModel", name := "middle", desc := "()J" } : Jvm.MethodName)) ∈ lw_all := lw_g (lw_at lw_m5 10 rfl) rfl
theorem q998 : (Jvm.Cond.code ({ cls := "CountcoteModel", name := "middle", desc := "()J" } : Jvm.MethodName) prog_9_method_46_code (7 : Nat) (Option.some Jvm.ClassFile.FieldType.long)) ∈ lw_all := lw_g (lw_at lw_m5 11 rfl) rfl
theorem q1000 : (Jvm.Cond.instanceMethod ({ cls := "CountcoteModel", name := "signedProduct", desc := "(II)J" } : Jvm.MethodName)) ∈ lw_all := lw_g (lw_at lw_m5 13 rfl) rfl
theorem q1001 : (Jvm.Cond.selects "CountcoteModel" ({ cls := "CountcoteModel", name := "signedProduct", desc := "(II)J" } : Jvm.MethodName) ({ cls := "CountcoteModel", name := "signedProduct", desc := "(II)J" } : Jvm.MethodName)) ∈ lw_all := lw_g (lw_at lw_m5 14 rfl) rfl
theorem q1002 : (Jvm.Cond.code ({ cls := "CountcoteModel", name := "signedProduct", desc := "(II)J" } : Jvm.MethodName) prog_9_method_48_code (5 : Nat) (Option.some Jvm.ClassFile.FieldType.long)) ∈ lw_all := lw_g (lw_at lw_m5 15 rfl) rfl
theorem q1004 : (Jvm.Cond.instanceMethod ({ cls := "CountcoteModel", name := "counters", desc := "(I)I" } : Jvm.MethodName)) ∈ lw_all := lw_g (lw_at lw_m5 17 rfl) rfl
theorem q1005 : (Jvm.Cond.selects "CountcoteModel" ({ cls := "CountcoteModel", name := "counters", desc := "(I)I" } : Jvm.MethodName) ({ cls := "CountcoteModel", name := "counters", desc := "(I)I" } : Jvm.MethodName)) ∈ lw_all := lw_g (lw_at lw_m5 18 rfl) rfl
theorem q1006 : (Jvm.Cond.code ({ cls := "CountcoteModel", name := "counters", desc := "(I)I" } : Jvm.MethodName) prog_9_method_49_code (2 : Nat) (Option.some Jvm.ClassFile.FieldType.int)) ∈ lw_all := lw_g (lw_at lw_m5 19 rfl) rfl
theorem q1008 : (Jvm.Cond.instanceMethod ({ cls := "CountcoteModel", name := "counterItem", desc := "(II)I" } : Jvm.MethodName)) ∈ lw_all := lw_g (lw_at lw_m5 21 rfl) rfl
theorem q1009 : (Jvm.Cond.selects "CountcoteModel" ({ cls := "CountcoteModel", name := "counterItem", desc := "(II)I" } : Jvm.MethodName) ({ cls := "CountcoteModel", name := "counterItem", desc := "(II)I" } : Jvm.MethodName)) ∈ lw_all := lw_g (lw_at lw_m5 22 rfl) rfl
theorem q1010 : (Jvm.Cond.code ({ cls := "CountcoteModel", name := "counterItem", desc := "(II)I" } : Jvm.MethodName) prog_9_method_50_code (4 : Nat) (Option.some Jvm.ClassFile.FieldType.int)) ∈ lw_all := lw_g (lw_at lw_m5 23 rfl) rfl
theorem q1012 : (Jvm.Cond.instanceMethod ({ cls := "CountcoteModel", name := "counterOf", desc := "(II)I" } : Jvm.MethodName)) ∈ lw_all := lw_g (lw_at lw_m5 25 rfl) rfl
theorem q1013 : (Jvm.Cond.selects "CountcoteModel" ({ cls := "CountcoteModel", name := "counterOf", desc := "(II)I" } : Jvm.MethodName) ({ cls := "CountcoteModel", name := "counterOf", desc := "(II)I" } : Jvm.MethodName)) ∈ lw_all := lw_g (lw_at lw_m5 26 rfl) rfl
theorem q1014 : (Jvm.Cond.code ({ cls := "CountcoteModel", name := "counterOf", desc := "(II)I" } : Jvm.MethodName) prog_9_method_51_code (4 : Nat) (Option.some Jvm.ClassFile.FieldType.int)) ∈ lw_all := lw_g (lw_at lw_m5 27 rfl) rfl
theorem q1016 : (Jvm.Cond.instanceMethod ({ cls := "CountcoteModel", name := "taken", desc := "(I)I" } : Jvm.MethodName)) ∈ lw_all := lw_g (lw_at lw_m5 29 rfl) rfl
theorem q1017 : (Jvm.Cond.selects "CountcoteModel" ({ cls := "CountcoteModel", name := "taken", desc := "(I)I" } : Jvm.MethodName) ({ cls := "CountcoteModel", name := "taken", desc := "(I)I" } : Jvm.MethodName)) ∈ lw_all := lw_g (lw_at lw_m5 30 rfl) rfl
theorem q1018 : (Jvm.Cond.code ({ cls := "CountcoteModel", name := "taken", desc := "(I)I" } : Jvm.MethodName) prog_9_method_52_code (2 : Nat) (Option.some Jvm.ClassFile.FieldType.int)) ∈ lw_all := lw_g (lw_at lw_m5 31 rfl) rfl
theorem q1028 : (Jvm.Cond.castable "CountcoteModel" "java/lang/Object") ∈ lw_tbl := lw_at lw_m5 41 rfl
theorem in_X3 : ∀ w ∈ wsX30, w ∈ lw_all := lw_in wsX30 [804, 806, 808, 810, 812, 814, 816, 818, 820] (by decide +kernel) (by decide +kernel)

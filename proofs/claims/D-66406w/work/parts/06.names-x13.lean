/-! PageBanksModel -/
set_option maxRecDepth 100000
def RX13 : String := "PageBanksModel"
def TX13 : u_T := fun k => match k with
  | 0 => ("PageBanksModel", "code", "I", false)
  | 1 => ("PageBanksModel", "owners", "[I", true)
  | 2 => ("PageBanksModel", "versions", "[I", true)
  | 3 => ("PageBanksModel", "runs", "[I", true)
  | 4 => ("PageBanksModel", "stamps", "[I", true)
  | 5 => ("PageBanksModel", "words", "[I", true)
  | 6 => ("PageBanksModel", "runCount", "I", false)
  | 7 => ("PageBanksModel", "stampCount", "I", false)
  | 8 => ("PageBanksModel", "there", "[Z", true)
  | 9 => ("PageBanksModel", "parents", "[I", true)
  | 10 => ("PageBanksModel", "limits", "[I", true)
  | 11 => ("PageBanksModel", "states", "[I", true)
  | 12 => ("PageBanksModel", "reserves", "[I", true)
  | _ => ("PageBanksModel", "refusedBy", "I", false)
def tyX13 : Nat → FieldType := fun k => match k with
  | 0 => .int
  | 1 => .array .int
  | 2 => .array .int
  | 3 => .array .int
  | 4 => .array .int
  | 5 => .array .int
  | 6 => .int
  | 7 => .int
  | 8 => .array .boolean
  | 9 => .array .int
  | 10 => .array .int
  | 11 => .array .int
  | 12 => .array .int
  | _ => .int
abbrev wsX130 : List Cond := u_ws RX13 TX13 14
set_option maxRecDepth 100000 in
theorem nmX13 : ∀ a, a < 14 → ∀ b, b < 14 → a ≠ b → (TX13 a).2.1 ≠ (TX13 b).2.1 := by decide +kernel
set_option maxRecDepth 100000 in
theorem tyX13_ok : ∀ k, k < 14 → parseFieldDescriptor (TX13 k).2.2.1 = some (tyX13 k) := by decide +kernel
abbrev cX13_init : ByteArray := prog_18_method_1_code
def yX13_init : MethodName := ⟨RX13, "<init>", "()V"⟩
def dkwX13_init_5 : List UInt8 := [180, 0, 25, 3, 4, 84, 42, 180, 0, 29, 3, 2, 79, 42, 180, 0, 32, 3, 17, 0, 192, 79, 177]
abbrev dktX13_init_5 : List UInt8 := dkwX13_init_5 ++ []
def dkwX13_init_4 : List UInt8 := [3, 60, 27, 17, 0, 192, 162, 0, 16, 42, 180, 0, 7, 27, 2, 79, 132, 1, 1, 167, 255, 239, 42]
abbrev dktX13_init_4 : List UInt8 := dkwX13_init_4 ++ dktX13_init_5
def dkwX13_init_3 : List UInt8 := [181, 0, 32, 42, 16, 40, 188, 10, 181, 0, 35, 42, 16, 40, 188, 10, 181, 0, 38, 42, 2, 181, 0, 41]
abbrev dktX13_init_3 : List UInt8 := dkwX13_init_3 ++ dktX13_init_4
def dkwX13_init_2 : List UInt8 := [181, 0, 22, 42, 16, 40, 188, 4, 181, 0, 25, 42, 16, 40, 188, 10, 181, 0, 29, 42, 16, 40, 188, 10]
abbrev dktX13_init_2 : List UInt8 := dkwX13_init_2 ++ dktX13_init_3
def dkwX13_init_1 : List UInt8 := [17, 0, 192, 188, 10, 181, 0, 16, 42, 17, 0, 192, 188, 10, 181, 0, 19, 42, 17, 3, 0, 188, 10]
abbrev dktX13_init_1 : List UInt8 := dkwX13_init_1 ++ dktX13_init_2
def dkwX13_init_0 : List UInt8 := [42, 183, 0, 1, 42, 17, 0, 192, 188, 10, 181, 0, 7, 42, 17, 0, 192, 188, 10, 181, 0, 13, 42]
abbrev dktX13_init_0 : List UInt8 := dkwX13_init_0 ++ dktX13_init_1
theorem dksX13_init_0 : cX13_init.data.toList.drop 0 = dktX13_init_0 := by decide +kernel
theorem dksX13_init_1 : cX13_init.data.toList.drop 23 = dktX13_init_1 := dk_seg dksX13_init_0 23 rfl rfl
theorem dksX13_init_2 : cX13_init.data.toList.drop 46 = dktX13_init_2 := dk_seg dksX13_init_1 23 rfl rfl
theorem dksX13_init_3 : cX13_init.data.toList.drop 70 = dktX13_init_3 := dk_seg dksX13_init_2 24 rfl rfl
theorem dksX13_init_4 : cX13_init.data.toList.drop 94 = dktX13_init_4 := dk_seg dksX13_init_3 24 rfl rfl
theorem dksX13_init_5 : cX13_init.data.toList.drop 117 = dktX13_init_5 := dk_seg dksX13_init_4 23 rfl rfl
theorem dX13_init_0 : decode cX13_init 0 = .ok (.aload_n 0, 1) := dk_42 (dk_at dksX13_init_0 0 rfl rfl)
theorem dX13_init_1 : decode cX13_init 1 = .ok (.invokespecial 1, 3) := dk_183 0 1 (dk_at dksX13_init_0 1 rfl rfl)
theorem dX13_init_4 : decode cX13_init 4 = .ok (.aload_n 0, 1) := dk_42 (dk_at dksX13_init_0 4 rfl rfl)
theorem dX13_init_5 : decode cX13_init 5 = .ok (.sipush 192, 3) := dk_17 0 192 (dk_at dksX13_init_0 5 rfl rfl)
theorem dX13_init_8 : decode cX13_init 8 = .ok (.newarray .int, 2) := dk_188_10 (dk_at dksX13_init_0 8 rfl rfl)
theorem dX13_init_10 : decode cX13_init 10 = .ok (.putfield 7, 3) := dk_181 0 7 (dk_at dksX13_init_0 10 rfl rfl)
theorem dX13_init_13 : decode cX13_init 13 = .ok (.aload_n 0, 1) := dk_42 (dk_at dksX13_init_0 13 rfl rfl)
theorem dX13_init_14 : decode cX13_init 14 = .ok (.sipush 192, 3) := dk_17 0 192 (dk_at dksX13_init_0 14 rfl rfl)
theorem dX13_init_17 : decode cX13_init 17 = .ok (.newarray .int, 2) := dk_188_10 (dk_at dksX13_init_0 17 rfl rfl)
theorem dX13_init_19 : decode cX13_init 19 = .ok (.putfield 13, 3) := dk_181 0 13 (dk_at dksX13_init_0 19 rfl rfl)
theorem dX13_init_22 : decode cX13_init 22 = .ok (.aload_n 0, 1) := dk_42 (dk_at dksX13_init_0 22 rfl rfl)
theorem dX13_init_23 : decode cX13_init 23 = .ok (.sipush 192, 3) := dk_17 0 192 (dk_at dksX13_init_1 0 rfl rfl)
theorem dX13_init_26 : decode cX13_init 26 = .ok (.newarray .int, 2) := dk_188_10 (dk_at dksX13_init_1 3 rfl rfl)
theorem dX13_init_28 : decode cX13_init 28 = .ok (.putfield 16, 3) := dk_181 0 16 (dk_at dksX13_init_1 5 rfl rfl)
theorem dX13_init_31 : decode cX13_init 31 = .ok (.aload_n 0, 1) := dk_42 (dk_at dksX13_init_1 8 rfl rfl)
theorem dX13_init_32 : decode cX13_init 32 = .ok (.sipush 192, 3) := dk_17 0 192 (dk_at dksX13_init_1 9 rfl rfl)
theorem dX13_init_35 : decode cX13_init 35 = .ok (.newarray .int, 2) := dk_188_10 (dk_at dksX13_init_1 12 rfl rfl)
theorem dX13_init_37 : decode cX13_init 37 = .ok (.putfield 19, 3) := dk_181 0 19 (dk_at dksX13_init_1 14 rfl rfl)
theorem dX13_init_40 : decode cX13_init 40 = .ok (.aload_n 0, 1) := dk_42 (dk_at dksX13_init_1 17 rfl rfl)
theorem dX13_init_41 : decode cX13_init 41 = .ok (.sipush 768, 3) := dk_17 3 0 (dk_at dksX13_init_1 18 rfl rfl)
theorem dX13_init_44 : decode cX13_init 44 = .ok (.newarray .int, 2) := dk_188_10 (dk_at dksX13_init_1 21 rfl rfl)
theorem dX13_init_46 : decode cX13_init 46 = .ok (.putfield 22, 3) := dk_181 0 22 (dk_at dksX13_init_2 0 rfl rfl)
theorem dX13_init_49 : decode cX13_init 49 = .ok (.aload_n 0, 1) := dk_42 (dk_at dksX13_init_2 3 rfl rfl)
theorem dX13_init_50 : decode cX13_init 50 = .ok (.bipush 40, 2) := dk_16 40 (dk_at dksX13_init_2 4 rfl rfl)
theorem dX13_init_52 : decode cX13_init 52 = .ok (.newarray .boolean, 2) := dk_188_4 (dk_at dksX13_init_2 6 rfl rfl)
theorem dX13_init_54 : decode cX13_init 54 = .ok (.putfield 25, 3) := dk_181 0 25 (dk_at dksX13_init_2 8 rfl rfl)
theorem dX13_init_57 : decode cX13_init 57 = .ok (.aload_n 0, 1) := dk_42 (dk_at dksX13_init_2 11 rfl rfl)
theorem dX13_init_58 : decode cX13_init 58 = .ok (.bipush 40, 2) := dk_16 40 (dk_at dksX13_init_2 12 rfl rfl)
theorem dX13_init_60 : decode cX13_init 60 = .ok (.newarray .int, 2) := dk_188_10 (dk_at dksX13_init_2 14 rfl rfl)
theorem dX13_init_62 : decode cX13_init 62 = .ok (.putfield 29, 3) := dk_181 0 29 (dk_at dksX13_init_2 16 rfl rfl)
theorem dX13_init_65 : decode cX13_init 65 = .ok (.aload_n 0, 1) := dk_42 (dk_at dksX13_init_2 19 rfl rfl)
theorem dX13_init_66 : decode cX13_init 66 = .ok (.bipush 40, 2) := dk_16 40 (dk_at dksX13_init_2 20 rfl rfl)
theorem dX13_init_68 : decode cX13_init 68 = .ok (.newarray .int, 2) := dk_188_10 (dk_at dksX13_init_2 22 rfl rfl)
theorem dX13_init_70 : decode cX13_init 70 = .ok (.putfield 32, 3) := dk_181 0 32 (dk_at dksX13_init_3 0 rfl rfl)
theorem dX13_init_73 : decode cX13_init 73 = .ok (.aload_n 0, 1) := dk_42 (dk_at dksX13_init_3 3 rfl rfl)
theorem dX13_init_74 : decode cX13_init 74 = .ok (.bipush 40, 2) := dk_16 40 (dk_at dksX13_init_3 4 rfl rfl)
theorem dX13_init_76 : decode cX13_init 76 = .ok (.newarray .int, 2) := dk_188_10 (dk_at dksX13_init_3 6 rfl rfl)
theorem dX13_init_78 : decode cX13_init 78 = .ok (.putfield 35, 3) := dk_181 0 35 (dk_at dksX13_init_3 8 rfl rfl)
theorem dX13_init_81 : decode cX13_init 81 = .ok (.aload_n 0, 1) := dk_42 (dk_at dksX13_init_3 11 rfl rfl)
theorem dX13_init_82 : decode cX13_init 82 = .ok (.bipush 40, 2) := dk_16 40 (dk_at dksX13_init_3 12 rfl rfl)
theorem dX13_init_84 : decode cX13_init 84 = .ok (.newarray .int, 2) := dk_188_10 (dk_at dksX13_init_3 14 rfl rfl)
theorem dX13_init_86 : decode cX13_init 86 = .ok (.putfield 38, 3) := dk_181 0 38 (dk_at dksX13_init_3 16 rfl rfl)
theorem dX13_init_89 : decode cX13_init 89 = .ok (.aload_n 0, 1) := dk_42 (dk_at dksX13_init_3 19 rfl rfl)
theorem dX13_init_90 : decode cX13_init 90 = .ok (.iconst (-1), 1) := dk_2 (dk_at dksX13_init_3 20 rfl rfl)
theorem dX13_init_91 : decode cX13_init 91 = .ok (.putfield 41, 3) := dk_181 0 41 (dk_at dksX13_init_3 21 rfl rfl)
theorem dX13_init_94 : decode cX13_init 94 = .ok (.iconst 0, 1) := dk_3 (dk_at dksX13_init_4 0 rfl rfl)
theorem dX13_init_95 : decode cX13_init 95 = .ok (.istore_n 1, 1) := dk_60 (dk_at dksX13_init_4 1 rfl rfl)
theorem dX13_init_96 : decode cX13_init 96 = .ok (.iload_n 1, 1) := dk_27 (dk_at dksX13_init_4 2 rfl rfl)
theorem dX13_init_97 : decode cX13_init 97 = .ok (.sipush 192, 3) := dk_17 0 192 (dk_at dksX13_init_4 3 rfl rfl)
theorem dX13_init_100 : decode cX13_init 100 = .ok (.if_icmp .ge 16, 3) := dk_162 0 16 (dk_at dksX13_init_4 6 rfl rfl)
theorem dX13_init_103 : decode cX13_init 103 = .ok (.aload_n 0, 1) := dk_42 (dk_at dksX13_init_4 9 rfl rfl)
theorem dX13_init_104 : decode cX13_init 104 = .ok (.getfield 7, 3) := dk_180 0 7 (dk_at dksX13_init_4 10 rfl rfl)
theorem dX13_init_107 : decode cX13_init 107 = .ok (.iload_n 1, 1) := dk_27 (dk_at dksX13_init_4 13 rfl rfl)
theorem dX13_init_108 : decode cX13_init 108 = .ok (.iconst (-1), 1) := dk_2 (dk_at dksX13_init_4 14 rfl rfl)
theorem dX13_init_109 : decode cX13_init 109 = .ok (.iastore, 1) := dk_79 (dk_at dksX13_init_4 15 rfl rfl)
theorem dX13_init_110 : decode cX13_init 110 = .ok (.iinc 1 1, 3) := dk_132 1 1 (dk_at dksX13_init_4 16 rfl rfl)
theorem dX13_init_113 : decode cX13_init 113 = .ok (.goto (-17), 3) := dk_167 255 239 (dk_at dksX13_init_4 19 rfl rfl)
theorem dX13_init_116 : decode cX13_init 116 = .ok (.aload_n 0, 1) := dk_42 (dk_at dksX13_init_4 22 rfl rfl)
theorem dX13_init_117 : decode cX13_init 117 = .ok (.getfield 25, 3) := dk_180 0 25 (dk_at dksX13_init_5 0 rfl rfl)
theorem dX13_init_120 : decode cX13_init 120 = .ok (.iconst 0, 1) := dk_3 (dk_at dksX13_init_5 3 rfl rfl)
theorem dX13_init_121 : decode cX13_init 121 = .ok (.iconst 1, 1) := dk_4 (dk_at dksX13_init_5 4 rfl rfl)
theorem dX13_init_122 : decode cX13_init 122 = .ok (.bastore, 1) := dk_84 (dk_at dksX13_init_5 5 rfl rfl)
theorem dX13_init_123 : decode cX13_init 123 = .ok (.aload_n 0, 1) := dk_42 (dk_at dksX13_init_5 6 rfl rfl)
theorem dX13_init_124 : decode cX13_init 124 = .ok (.getfield 29, 3) := dk_180 0 29 (dk_at dksX13_init_5 7 rfl rfl)
theorem dX13_init_127 : decode cX13_init 127 = .ok (.iconst 0, 1) := dk_3 (dk_at dksX13_init_5 10 rfl rfl)
theorem dX13_init_128 : decode cX13_init 128 = .ok (.iconst (-1), 1) := dk_2 (dk_at dksX13_init_5 11 rfl rfl)
theorem dX13_init_129 : decode cX13_init 129 = .ok (.iastore, 1) := dk_79 (dk_at dksX13_init_5 12 rfl rfl)
theorem dX13_init_130 : decode cX13_init 130 = .ok (.aload_n 0, 1) := dk_42 (dk_at dksX13_init_5 13 rfl rfl)
theorem dX13_init_131 : decode cX13_init 131 = .ok (.getfield 32, 3) := dk_180 0 32 (dk_at dksX13_init_5 14 rfl rfl)
theorem dX13_init_134 : decode cX13_init 134 = .ok (.iconst 0, 1) := dk_3 (dk_at dksX13_init_5 17 rfl rfl)
theorem dX13_init_135 : decode cX13_init 135 = .ok (.sipush 192, 3) := dk_17 0 192 (dk_at dksX13_init_5 18 rfl rfl)
theorem dX13_init_138 : decode cX13_init 138 = .ok (.iastore, 1) := dk_79 (dk_at dksX13_init_5 21 rfl rfl)
theorem dX13_init_139 : decode cX13_init 139 = .ok (.return_, 1) := dk_177 (dk_at dksX13_init_5 22 rfl rfl)
abbrev cX13_thrown : ByteArray := prog_18_method_2_code
def yX13_thrown : MethodName := ⟨RX13, "thrown", "()I"⟩
theorem dX13_thrown_0 : decode cX13_thrown 0 = .ok (.aload_n 0, 1) := by decide +kernel
theorem dX13_thrown_1 : decode cX13_thrown 1 = .ok (.getfield 45, 3) := by decide +kernel
theorem dX13_thrown_4 : decode cX13_thrown 4 = .ok (.ireturn, 1) := by decide +kernel
abbrev cX13_bank : ByteArray := prog_18_method_12_code
def yX13_bank : MethodName := ⟨RX13, "bank", "(II)I"⟩
def dkwX13_bank_5 : List UInt8 := [42, 180, 0, 32, 29, 28, 79, 42, 180, 0, 35, 29, 3, 79, 42, 180, 0, 38, 29, 3, 79, 29, 172]
abbrev dktX13_bank_5 : List UInt8 := dkwX13_bank_5 ++ []
def dkwX13_bank_4 : List UInt8 := [7, 2, 182, 0, 73, 181, 0, 45, 3, 172, 42, 180, 0, 25, 29, 4, 84, 42, 180, 0, 29, 29, 27, 79]
abbrev dktX13_bank_4 : List UInt8 := dkwX13_bank_4 ++ dktX13_bank_5
def dkwX13_bank_3 : List UInt8 := [132, 3, 1, 167, 255, 238, 42, 27, 182, 0, 70, 16, 6, 159, 0, 9, 29, 16, 40, 160, 0, 15, 42, 42]
abbrev dktX13_bank_3 : List UInt8 := dkwX13_bank_3 ++ dktX13_bank_4
def dkwX13_bank_2 : List UInt8 := [158, 0, 5, 3, 172, 4, 62, 29, 16, 40, 162, 0, 18, 42, 180, 0, 25, 29, 51, 153, 0, 9]
abbrev dktX13_bank_2 : List UInt8 := dkwX13_bank_2 ++ dktX13_bank_3
def dkwX13_bank_1 : List UInt8 := [5, 167, 0, 16, 42, 27, 182, 0, 67, 154, 0, 7, 6, 167, 0, 4, 3, 181, 0, 45, 42, 180, 0, 45]
abbrev dktX13_bank_1 : List UInt8 := dkwX13_bank_1 ++ dktX13_bank_2
def dkwX13_bank_0 : List UInt8 := [42, 42, 27, 182, 0, 63, 154, 0, 7, 4, 167, 0, 31, 28, 3, 17, 0, 192, 184, 0, 48, 154, 0, 7]
abbrev dktX13_bank_0 : List UInt8 := dkwX13_bank_0 ++ dktX13_bank_1
theorem dksX13_bank_0 : cX13_bank.data.toList.drop 0 = dktX13_bank_0 := by decide +kernel
theorem dksX13_bank_1 : cX13_bank.data.toList.drop 24 = dktX13_bank_1 := dk_seg dksX13_bank_0 24 rfl rfl
theorem dksX13_bank_2 : cX13_bank.data.toList.drop 48 = dktX13_bank_2 := dk_seg dksX13_bank_1 24 rfl rfl
theorem dksX13_bank_3 : cX13_bank.data.toList.drop 70 = dktX13_bank_3 := dk_seg dksX13_bank_2 22 rfl rfl
theorem dksX13_bank_4 : cX13_bank.data.toList.drop 94 = dktX13_bank_4 := dk_seg dksX13_bank_3 24 rfl rfl
theorem dksX13_bank_5 : cX13_bank.data.toList.drop 118 = dktX13_bank_5 := dk_seg dksX13_bank_4 24 rfl rfl
theorem dX13_bank_0 : decode cX13_bank 0 = .ok (.aload_n 0, 1) := dk_42 (dk_at dksX13_bank_0 0 rfl rfl)
theorem dX13_bank_1 : decode cX13_bank 1 = .ok (.aload_n 0, 1) := dk_42 (dk_at dksX13_bank_0 1 rfl rfl)
theorem dX13_bank_2 : decode cX13_bank 2 = .ok (.iload_n 1, 1) := dk_27 (dk_at dksX13_bank_0 2 rfl rfl)
theorem dX13_bank_3 : decode cX13_bank 3 = .ok (.invokevirtual 63, 3) := dk_182 0 63 (dk_at dksX13_bank_0 3 rfl rfl)
theorem dX13_bank_6 : decode cX13_bank 6 = .ok (.ifCond .ne 7, 3) := dk_154 0 7 (dk_at dksX13_bank_0 6 rfl rfl)
theorem dX13_bank_9 : decode cX13_bank 9 = .ok (.iconst 1, 1) := dk_4 (dk_at dksX13_bank_0 9 rfl rfl)
theorem dX13_bank_10 : decode cX13_bank 10 = .ok (.goto 31, 3) := dk_167 0 31 (dk_at dksX13_bank_0 10 rfl rfl)
theorem dX13_bank_13 : decode cX13_bank 13 = .ok (.iload_n 2, 1) := dk_28 (dk_at dksX13_bank_0 13 rfl rfl)
theorem dX13_bank_14 : decode cX13_bank 14 = .ok (.iconst 0, 1) := dk_3 (dk_at dksX13_bank_0 14 rfl rfl)
theorem dX13_bank_15 : decode cX13_bank 15 = .ok (.sipush 192, 3) := dk_17 0 192 (dk_at dksX13_bank_0 15 rfl rfl)
theorem dX13_bank_18 : decode cX13_bank 18 = .ok (.invokestatic 48, 3) := dk_184 0 48 (dk_at dksX13_bank_0 18 rfl rfl)
theorem dX13_bank_21 : decode cX13_bank 21 = .ok (.ifCond .ne 7, 3) := dk_154 0 7 (dk_at dksX13_bank_0 21 rfl rfl)
theorem dX13_bank_24 : decode cX13_bank 24 = .ok (.iconst 2, 1) := dk_5 (dk_at dksX13_bank_1 0 rfl rfl)
theorem dX13_bank_25 : decode cX13_bank 25 = .ok (.goto 16, 3) := dk_167 0 16 (dk_at dksX13_bank_1 1 rfl rfl)
theorem dX13_bank_28 : decode cX13_bank 28 = .ok (.aload_n 0, 1) := dk_42 (dk_at dksX13_bank_1 4 rfl rfl)
theorem dX13_bank_29 : decode cX13_bank 29 = .ok (.iload_n 1, 1) := dk_27 (dk_at dksX13_bank_1 5 rfl rfl)
theorem dX13_bank_30 : decode cX13_bank 30 = .ok (.invokevirtual 67, 3) := dk_182 0 67 (dk_at dksX13_bank_1 6 rfl rfl)
theorem dX13_bank_33 : decode cX13_bank 33 = .ok (.ifCond .ne 7, 3) := dk_154 0 7 (dk_at dksX13_bank_1 9 rfl rfl)
theorem dX13_bank_36 : decode cX13_bank 36 = .ok (.iconst 3, 1) := dk_6 (dk_at dksX13_bank_1 12 rfl rfl)
theorem dX13_bank_37 : decode cX13_bank 37 = .ok (.goto 4, 3) := dk_167 0 4 (dk_at dksX13_bank_1 13 rfl rfl)
theorem dX13_bank_40 : decode cX13_bank 40 = .ok (.iconst 0, 1) := dk_3 (dk_at dksX13_bank_1 16 rfl rfl)
theorem dX13_bank_41 : decode cX13_bank 41 = .ok (.putfield 45, 3) := dk_181 0 45 (dk_at dksX13_bank_1 17 rfl rfl)
theorem dX13_bank_44 : decode cX13_bank 44 = .ok (.aload_n 0, 1) := dk_42 (dk_at dksX13_bank_1 20 rfl rfl)
theorem dX13_bank_45 : decode cX13_bank 45 = .ok (.getfield 45, 3) := dk_180 0 45 (dk_at dksX13_bank_1 21 rfl rfl)
theorem dX13_bank_48 : decode cX13_bank 48 = .ok (.ifCond .le 5, 3) := dk_158 0 5 (dk_at dksX13_bank_2 0 rfl rfl)
theorem dX13_bank_51 : decode cX13_bank 51 = .ok (.iconst 0, 1) := dk_3 (dk_at dksX13_bank_2 3 rfl rfl)
theorem dX13_bank_52 : decode cX13_bank 52 = .ok (.ireturn, 1) := dk_172 (dk_at dksX13_bank_2 4 rfl rfl)
theorem dX13_bank_53 : decode cX13_bank 53 = .ok (.iconst 1, 1) := dk_4 (dk_at dksX13_bank_2 5 rfl rfl)
theorem dX13_bank_54 : decode cX13_bank 54 = .ok (.istore_n 3, 1) := dk_62 (dk_at dksX13_bank_2 6 rfl rfl)
theorem dX13_bank_55 : decode cX13_bank 55 = .ok (.iload_n 3, 1) := dk_29 (dk_at dksX13_bank_2 7 rfl rfl)
theorem dX13_bank_56 : decode cX13_bank 56 = .ok (.bipush 40, 2) := dk_16 40 (dk_at dksX13_bank_2 8 rfl rfl)
theorem dX13_bank_58 : decode cX13_bank 58 = .ok (.if_icmp .ge 18, 3) := dk_162 0 18 (dk_at dksX13_bank_2 10 rfl rfl)
theorem dX13_bank_61 : decode cX13_bank 61 = .ok (.aload_n 0, 1) := dk_42 (dk_at dksX13_bank_2 13 rfl rfl)
theorem dX13_bank_62 : decode cX13_bank 62 = .ok (.getfield 25, 3) := dk_180 0 25 (dk_at dksX13_bank_2 14 rfl rfl)
theorem dX13_bank_65 : decode cX13_bank 65 = .ok (.iload_n 3, 1) := dk_29 (dk_at dksX13_bank_2 17 rfl rfl)
theorem dX13_bank_66 : decode cX13_bank 66 = .ok (.baload, 1) := dk_51 (dk_at dksX13_bank_2 18 rfl rfl)
theorem dX13_bank_67 : decode cX13_bank 67 = .ok (.ifCond .eq 9, 3) := dk_153 0 9 (dk_at dksX13_bank_2 19 rfl rfl)
theorem dX13_bank_70 : decode cX13_bank 70 = .ok (.iinc 3 1, 3) := dk_132 3 1 (dk_at dksX13_bank_3 0 rfl rfl)
theorem dX13_bank_73 : decode cX13_bank 73 = .ok (.goto (-18), 3) := dk_167 255 238 (dk_at dksX13_bank_3 3 rfl rfl)
theorem dX13_bank_76 : decode cX13_bank 76 = .ok (.aload_n 0, 1) := dk_42 (dk_at dksX13_bank_3 6 rfl rfl)
theorem dX13_bank_77 : decode cX13_bank 77 = .ok (.iload_n 1, 1) := dk_27 (dk_at dksX13_bank_3 7 rfl rfl)
theorem dX13_bank_78 : decode cX13_bank 78 = .ok (.invokevirtual 70, 3) := dk_182 0 70 (dk_at dksX13_bank_3 8 rfl rfl)
theorem dX13_bank_81 : decode cX13_bank 81 = .ok (.bipush 6, 2) := dk_16 6 (dk_at dksX13_bank_3 11 rfl rfl)
theorem dX13_bank_83 : decode cX13_bank 83 = .ok (.if_icmp .eq 9, 3) := dk_159 0 9 (dk_at dksX13_bank_3 13 rfl rfl)
theorem dX13_bank_86 : decode cX13_bank 86 = .ok (.iload_n 3, 1) := dk_29 (dk_at dksX13_bank_3 16 rfl rfl)
theorem dX13_bank_87 : decode cX13_bank 87 = .ok (.bipush 40, 2) := dk_16 40 (dk_at dksX13_bank_3 17 rfl rfl)
theorem dX13_bank_89 : decode cX13_bank 89 = .ok (.if_icmp .ne 15, 3) := dk_160 0 15 (dk_at dksX13_bank_3 19 rfl rfl)
theorem dX13_bank_92 : decode cX13_bank 92 = .ok (.aload_n 0, 1) := dk_42 (dk_at dksX13_bank_3 22 rfl rfl)
theorem dX13_bank_93 : decode cX13_bank 93 = .ok (.aload_n 0, 1) := dk_42 (dk_at dksX13_bank_3 23 rfl rfl)
theorem dX13_bank_94 : decode cX13_bank 94 = .ok (.iconst 4, 1) := dk_7 (dk_at dksX13_bank_4 0 rfl rfl)
theorem dX13_bank_95 : decode cX13_bank 95 = .ok (.iconst (-1), 1) := dk_2 (dk_at dksX13_bank_4 1 rfl rfl)
theorem dX13_bank_96 : decode cX13_bank 96 = .ok (.invokevirtual 73, 3) := dk_182 0 73 (dk_at dksX13_bank_4 2 rfl rfl)
theorem dX13_bank_99 : decode cX13_bank 99 = .ok (.putfield 45, 3) := dk_181 0 45 (dk_at dksX13_bank_4 5 rfl rfl)
theorem dX13_bank_102 : decode cX13_bank 102 = .ok (.iconst 0, 1) := dk_3 (dk_at dksX13_bank_4 8 rfl rfl)
theorem dX13_bank_103 : decode cX13_bank 103 = .ok (.ireturn, 1) := dk_172 (dk_at dksX13_bank_4 9 rfl rfl)
theorem dX13_bank_104 : decode cX13_bank 104 = .ok (.aload_n 0, 1) := dk_42 (dk_at dksX13_bank_4 10 rfl rfl)
theorem dX13_bank_105 : decode cX13_bank 105 = .ok (.getfield 25, 3) := dk_180 0 25 (dk_at dksX13_bank_4 11 rfl rfl)
theorem dX13_bank_108 : decode cX13_bank 108 = .ok (.iload_n 3, 1) := dk_29 (dk_at dksX13_bank_4 14 rfl rfl)
theorem dX13_bank_109 : decode cX13_bank 109 = .ok (.iconst 1, 1) := dk_4 (dk_at dksX13_bank_4 15 rfl rfl)
theorem dX13_bank_110 : decode cX13_bank 110 = .ok (.bastore, 1) := dk_84 (dk_at dksX13_bank_4 16 rfl rfl)
theorem dX13_bank_111 : decode cX13_bank 111 = .ok (.aload_n 0, 1) := dk_42 (dk_at dksX13_bank_4 17 rfl rfl)
theorem dX13_bank_112 : decode cX13_bank 112 = .ok (.getfield 29, 3) := dk_180 0 29 (dk_at dksX13_bank_4 18 rfl rfl)
theorem dX13_bank_115 : decode cX13_bank 115 = .ok (.iload_n 3, 1) := dk_29 (dk_at dksX13_bank_4 21 rfl rfl)
theorem dX13_bank_116 : decode cX13_bank 116 = .ok (.iload_n 1, 1) := dk_27 (dk_at dksX13_bank_4 22 rfl rfl)
theorem dX13_bank_117 : decode cX13_bank 117 = .ok (.iastore, 1) := dk_79 (dk_at dksX13_bank_4 23 rfl rfl)
theorem dX13_bank_118 : decode cX13_bank 118 = .ok (.aload_n 0, 1) := dk_42 (dk_at dksX13_bank_5 0 rfl rfl)
theorem dX13_bank_119 : decode cX13_bank 119 = .ok (.getfield 32, 3) := dk_180 0 32 (dk_at dksX13_bank_5 1 rfl rfl)
theorem dX13_bank_122 : decode cX13_bank 122 = .ok (.iload_n 3, 1) := dk_29 (dk_at dksX13_bank_5 4 rfl rfl)
theorem dX13_bank_123 : decode cX13_bank 123 = .ok (.iload_n 2, 1) := dk_28 (dk_at dksX13_bank_5 5 rfl rfl)
theorem dX13_bank_124 : decode cX13_bank 124 = .ok (.iastore, 1) := dk_79 (dk_at dksX13_bank_5 6 rfl rfl)
theorem dX13_bank_125 : decode cX13_bank 125 = .ok (.aload_n 0, 1) := dk_42 (dk_at dksX13_bank_5 7 rfl rfl)
theorem dX13_bank_126 : decode cX13_bank 126 = .ok (.getfield 35, 3) := dk_180 0 35 (dk_at dksX13_bank_5 8 rfl rfl)
theorem dX13_bank_129 : decode cX13_bank 129 = .ok (.iload_n 3, 1) := dk_29 (dk_at dksX13_bank_5 11 rfl rfl)
theorem dX13_bank_130 : decode cX13_bank 130 = .ok (.iconst 0, 1) := dk_3 (dk_at dksX13_bank_5 12 rfl rfl)
theorem dX13_bank_131 : decode cX13_bank 131 = .ok (.iastore, 1) := dk_79 (dk_at dksX13_bank_5 13 rfl rfl)
theorem dX13_bank_132 : decode cX13_bank 132 = .ok (.aload_n 0, 1) := dk_42 (dk_at dksX13_bank_5 14 rfl rfl)
theorem dX13_bank_133 : decode cX13_bank 133 = .ok (.getfield 38, 3) := dk_180 0 38 (dk_at dksX13_bank_5 15 rfl rfl)
theorem dX13_bank_136 : decode cX13_bank 136 = .ok (.iload_n 3, 1) := dk_29 (dk_at dksX13_bank_5 18 rfl rfl)
theorem dX13_bank_137 : decode cX13_bank 137 = .ok (.iconst 0, 1) := dk_3 (dk_at dksX13_bank_5 19 rfl rfl)
theorem dX13_bank_138 : decode cX13_bank 138 = .ok (.iastore, 1) := dk_79 (dk_at dksX13_bank_5 20 rfl rfl)
theorem dX13_bank_139 : decode cX13_bank 139 = .ok (.iload_n 3, 1) := dk_29 (dk_at dksX13_bank_5 21 rfl rfl)
theorem dX13_bank_140 : decode cX13_bank 140 = .ok (.ireturn, 1) := dk_172 (dk_at dksX13_bank_5 22 rfl rfl)
abbrev cX13_isBank : ByteArray := prog_18_method_4_code
def yX13_isBank : MethodName := ⟨RX13, "isBank", "(I)Z"⟩
def dkwX13_isBank_1 : List UInt8 := [172]
abbrev dktX13_isBank_1 : List UInt8 := dkwX13_isBank_1 ++ []
def dkwX13_isBank_0 : List UInt8 := [27, 3, 16, 39, 184, 0, 48, 153, 0, 16, 42, 180, 0, 25, 27, 51, 153, 0, 7, 4, 167, 0, 4, 3]
abbrev dktX13_isBank_0 : List UInt8 := dkwX13_isBank_0 ++ dktX13_isBank_1
theorem dksX13_isBank_0 : cX13_isBank.data.toList.drop 0 = dktX13_isBank_0 := by decide +kernel
theorem dksX13_isBank_1 : cX13_isBank.data.toList.drop 24 = dktX13_isBank_1 := dk_seg dksX13_isBank_0 24 rfl rfl
theorem dX13_isBank_0 : decode cX13_isBank 0 = .ok (.iload_n 1, 1) := dk_27 (dk_at dksX13_isBank_0 0 rfl rfl)
theorem dX13_isBank_1 : decode cX13_isBank 1 = .ok (.iconst 0, 1) := dk_3 (dk_at dksX13_isBank_0 1 rfl rfl)
theorem dX13_isBank_2 : decode cX13_isBank 2 = .ok (.bipush 39, 2) := dk_16 39 (dk_at dksX13_isBank_0 2 rfl rfl)
theorem dX13_isBank_4 : decode cX13_isBank 4 = .ok (.invokestatic 48, 3) := dk_184 0 48 (dk_at dksX13_isBank_0 4 rfl rfl)
theorem dX13_isBank_7 : decode cX13_isBank 7 = .ok (.ifCond .eq 16, 3) := dk_153 0 16 (dk_at dksX13_isBank_0 7 rfl rfl)
theorem dX13_isBank_10 : decode cX13_isBank 10 = .ok (.aload_n 0, 1) := dk_42 (dk_at dksX13_isBank_0 10 rfl rfl)
theorem dX13_isBank_11 : decode cX13_isBank 11 = .ok (.getfield 25, 3) := dk_180 0 25 (dk_at dksX13_isBank_0 11 rfl rfl)
theorem dX13_isBank_14 : decode cX13_isBank 14 = .ok (.iload_n 1, 1) := dk_27 (dk_at dksX13_isBank_0 14 rfl rfl)
theorem dX13_isBank_15 : decode cX13_isBank 15 = .ok (.baload, 1) := dk_51 (dk_at dksX13_isBank_0 15 rfl rfl)
theorem dX13_isBank_16 : decode cX13_isBank 16 = .ok (.ifCond .eq 7, 3) := dk_153 0 7 (dk_at dksX13_isBank_0 16 rfl rfl)
theorem dX13_isBank_19 : decode cX13_isBank 19 = .ok (.iconst 1, 1) := dk_4 (dk_at dksX13_isBank_0 19 rfl rfl)
theorem dX13_isBank_20 : decode cX13_isBank 20 = .ok (.goto 4, 3) := dk_167 0 4 (dk_at dksX13_isBank_0 20 rfl rfl)
theorem dX13_isBank_23 : decode cX13_isBank 23 = .ok (.iconst 0, 1) := dk_3 (dk_at dksX13_isBank_0 23 rfl rfl)
theorem dX13_isBank_24 : decode cX13_isBank 24 = .ok (.ireturn, 1) := dk_172 (dk_at dksX13_isBank_1 0 rfl rfl)
abbrev cX13_in : ByteArray := prog_18_method_3_code
def yX13_in : MethodName := ⟨RX13, "in", "(III)Z"⟩
def dkwX13_in_0 : List UInt8 := [26, 27, 161, 0, 12, 26, 28, 163, 0, 7, 4, 167, 0, 4, 3, 172]
abbrev dktX13_in_0 : List UInt8 := dkwX13_in_0 ++ []
theorem dksX13_in_0 : cX13_in.data.toList.drop 0 = dktX13_in_0 := by decide +kernel
theorem dX13_in_0 : decode cX13_in 0 = .ok (.iload_n 0, 1) := dk_26 (dk_at dksX13_in_0 0 rfl rfl)
theorem dX13_in_1 : decode cX13_in 1 = .ok (.iload_n 1, 1) := dk_27 (dk_at dksX13_in_0 1 rfl rfl)
theorem dX13_in_2 : decode cX13_in 2 = .ok (.if_icmp .lt 12, 3) := dk_161 0 12 (dk_at dksX13_in_0 2 rfl rfl)
theorem dX13_in_5 : decode cX13_in 5 = .ok (.iload_n 0, 1) := dk_26 (dk_at dksX13_in_0 5 rfl rfl)
theorem dX13_in_6 : decode cX13_in 6 = .ok (.iload_n 2, 1) := dk_28 (dk_at dksX13_in_0 6 rfl rfl)
theorem dX13_in_7 : decode cX13_in 7 = .ok (.if_icmp .gt 7, 3) := dk_163 0 7 (dk_at dksX13_in_0 7 rfl rfl)
theorem dX13_in_10 : decode cX13_in 10 = .ok (.iconst 1, 1) := dk_4 (dk_at dksX13_in_0 10 rfl rfl)
theorem dX13_in_11 : decode cX13_in 11 = .ok (.goto 4, 3) := dk_167 0 4 (dk_at dksX13_in_0 11 rfl rfl)
theorem dX13_in_14 : decode cX13_in 14 = .ok (.iconst 0, 1) := dk_3 (dk_at dksX13_in_0 14 rfl rfl)
theorem dX13_in_15 : decode cX13_in 15 = .ok (.ireturn, 1) := dk_172 (dk_at dksX13_in_0 15 rfl rfl)
abbrev cX13_isOpen : ByteArray := prog_18_method_10_code
def yX13_isOpen : MethodName := ⟨RX13, "isOpen", "(I)Z"⟩
def dkwX13_isOpen_0 : List UInt8 := [42, 180, 0, 35, 27, 46, 154, 0, 7, 4, 167, 0, 4, 3, 172]
abbrev dktX13_isOpen_0 : List UInt8 := dkwX13_isOpen_0 ++ []
theorem dksX13_isOpen_0 : cX13_isOpen.data.toList.drop 0 = dktX13_isOpen_0 := by decide +kernel
theorem dX13_isOpen_0 : decode cX13_isOpen 0 = .ok (.aload_n 0, 1) := dk_42 (dk_at dksX13_isOpen_0 0 rfl rfl)
theorem dX13_isOpen_1 : decode cX13_isOpen 1 = .ok (.getfield 35, 3) := dk_180 0 35 (dk_at dksX13_isOpen_0 1 rfl rfl)
theorem dX13_isOpen_4 : decode cX13_isOpen 4 = .ok (.iload_n 1, 1) := dk_27 (dk_at dksX13_isOpen_0 4 rfl rfl)
theorem dX13_isOpen_5 : decode cX13_isOpen 5 = .ok (.iaload, 1) := dk_46 (dk_at dksX13_isOpen_0 5 rfl rfl)
theorem dX13_isOpen_6 : decode cX13_isOpen 6 = .ok (.ifCond .ne 7, 3) := dk_154 0 7 (dk_at dksX13_isOpen_0 6 rfl rfl)
theorem dX13_isOpen_9 : decode cX13_isOpen 9 = .ok (.iconst 1, 1) := dk_4 (dk_at dksX13_isOpen_0 9 rfl rfl)
theorem dX13_isOpen_10 : decode cX13_isOpen 10 = .ok (.goto 4, 3) := dk_167 0 4 (dk_at dksX13_isOpen_0 10 rfl rfl)
theorem dX13_isOpen_13 : decode cX13_isOpen 13 = .ok (.iconst 0, 1) := dk_3 (dk_at dksX13_isOpen_0 13 rfl rfl)
theorem dX13_isOpen_14 : decode cX13_isOpen 14 = .ok (.ireturn, 1) := dk_172 (dk_at dksX13_isOpen_0 14 rfl rfl)
abbrev cX13_depthOf : ByteArray := prog_18_method_6_code
def yX13_depthOf : MethodName := ⟨RX13, "depthOf", "(I)I"⟩
def dkwX13_depthOf_1 : List UInt8 := [167, 255, 242, 28, 172]
abbrev dktX13_depthOf_1 : List UInt8 := dkwX13_depthOf_1 ++ []
def dkwX13_depthOf_0 : List UInt8 := [3, 61, 42, 180, 0, 29, 27, 46, 62, 29, 155, 0, 16, 132, 2, 1, 42, 180, 0, 29, 29, 46, 62]
abbrev dktX13_depthOf_0 : List UInt8 := dkwX13_depthOf_0 ++ dktX13_depthOf_1
theorem dksX13_depthOf_0 : cX13_depthOf.data.toList.drop 0 = dktX13_depthOf_0 := by decide +kernel
theorem dksX13_depthOf_1 : cX13_depthOf.data.toList.drop 23 = dktX13_depthOf_1 := dk_seg dksX13_depthOf_0 23 rfl rfl
theorem dX13_depthOf_0 : decode cX13_depthOf 0 = .ok (.iconst 0, 1) := dk_3 (dk_at dksX13_depthOf_0 0 rfl rfl)
theorem dX13_depthOf_1 : decode cX13_depthOf 1 = .ok (.istore_n 2, 1) := dk_61 (dk_at dksX13_depthOf_0 1 rfl rfl)
theorem dX13_depthOf_2 : decode cX13_depthOf 2 = .ok (.aload_n 0, 1) := dk_42 (dk_at dksX13_depthOf_0 2 rfl rfl)
theorem dX13_depthOf_3 : decode cX13_depthOf 3 = .ok (.getfield 29, 3) := dk_180 0 29 (dk_at dksX13_depthOf_0 3 rfl rfl)
theorem dX13_depthOf_6 : decode cX13_depthOf 6 = .ok (.iload_n 1, 1) := dk_27 (dk_at dksX13_depthOf_0 6 rfl rfl)
theorem dX13_depthOf_7 : decode cX13_depthOf 7 = .ok (.iaload, 1) := dk_46 (dk_at dksX13_depthOf_0 7 rfl rfl)
theorem dX13_depthOf_8 : decode cX13_depthOf 8 = .ok (.istore_n 3, 1) := dk_62 (dk_at dksX13_depthOf_0 8 rfl rfl)
theorem dX13_depthOf_9 : decode cX13_depthOf 9 = .ok (.iload_n 3, 1) := dk_29 (dk_at dksX13_depthOf_0 9 rfl rfl)
theorem dX13_depthOf_10 : decode cX13_depthOf 10 = .ok (.ifCond .lt 16, 3) := dk_155 0 16 (dk_at dksX13_depthOf_0 10 rfl rfl)
theorem dX13_depthOf_13 : decode cX13_depthOf 13 = .ok (.iinc 2 1, 3) := dk_132 2 1 (dk_at dksX13_depthOf_0 13 rfl rfl)
theorem dX13_depthOf_16 : decode cX13_depthOf 16 = .ok (.aload_n 0, 1) := dk_42 (dk_at dksX13_depthOf_0 16 rfl rfl)
theorem dX13_depthOf_17 : decode cX13_depthOf 17 = .ok (.getfield 29, 3) := dk_180 0 29 (dk_at dksX13_depthOf_0 17 rfl rfl)
theorem dX13_depthOf_20 : decode cX13_depthOf 20 = .ok (.iload_n 3, 1) := dk_29 (dk_at dksX13_depthOf_0 20 rfl rfl)
theorem dX13_depthOf_21 : decode cX13_depthOf 21 = .ok (.iaload, 1) := dk_46 (dk_at dksX13_depthOf_0 21 rfl rfl)
theorem dX13_depthOf_22 : decode cX13_depthOf 22 = .ok (.istore_n 3, 1) := dk_62 (dk_at dksX13_depthOf_0 22 rfl rfl)
theorem dX13_depthOf_23 : decode cX13_depthOf 23 = .ok (.goto (-14), 3) := dk_167 255 242 (dk_at dksX13_depthOf_1 0 rfl rfl)
theorem dX13_depthOf_26 : decode cX13_depthOf 26 = .ok (.iload_n 2, 1) := dk_28 (dk_at dksX13_depthOf_1 3 rfl rfl)
theorem dX13_depthOf_27 : decode cX13_depthOf 27 = .ok (.ireturn, 1) := dk_172 (dk_at dksX13_depthOf_1 4 rfl rfl)
abbrev cX13_unsupported : ByteArray := prog_18_method_11_code
def yX13_unsupported : MethodName := ⟨RX13, "unsupported", "(II)I"⟩
def dkwX13_unsupported_0 : List UInt8 := [42, 28, 181, 0, 41, 27, 172]
abbrev dktX13_unsupported_0 : List UInt8 := dkwX13_unsupported_0 ++ []
theorem dksX13_unsupported_0 : cX13_unsupported.data.toList.drop 0 = dktX13_unsupported_0 := by decide +kernel
theorem dX13_unsupported_0 : decode cX13_unsupported 0 = .ok (.aload_n 0, 1) := dk_42 (dk_at dksX13_unsupported_0 0 rfl rfl)
theorem dX13_unsupported_1 : decode cX13_unsupported 1 = .ok (.iload_n 2, 1) := dk_28 (dk_at dksX13_unsupported_0 1 rfl rfl)
theorem dX13_unsupported_2 : decode cX13_unsupported 2 = .ok (.putfield 41, 3) := dk_181 0 41 (dk_at dksX13_unsupported_0 2 rfl rfl)
theorem dX13_unsupported_5 : decode cX13_unsupported 5 = .ok (.iload_n 1, 1) := dk_27 (dk_at dksX13_unsupported_0 5 rfl rfl)
theorem dX13_unsupported_6 : decode cX13_unsupported 6 = .ok (.ireturn, 1) := dk_172 (dk_at dksX13_unsupported_0 6 rfl rfl)
abbrev cX13_buy : ByteArray := prog_18_method_18_code
def yX13_buy : MethodName := ⟨RX13, "buy", "(I)I"⟩
def dkwX13_buy_1 : List UInt8 := [3, 167, 0, 10, 42, 27, 4, 5, 182, 0, 99, 172]
abbrev dktX13_buy_1 : List UInt8 := dkwX13_buy_1 ++ []
def dkwX13_buy_0 : List UInt8 := [42, 42, 27, 182, 0, 63, 153, 0, 7, 3, 167, 0, 4, 4, 181, 0, 45, 42, 180, 0, 45, 158, 0, 7]
abbrev dktX13_buy_0 : List UInt8 := dkwX13_buy_0 ++ dktX13_buy_1
theorem dksX13_buy_0 : cX13_buy.data.toList.drop 0 = dktX13_buy_0 := by decide +kernel
theorem dksX13_buy_1 : cX13_buy.data.toList.drop 24 = dktX13_buy_1 := dk_seg dksX13_buy_0 24 rfl rfl
theorem dX13_buy_0 : decode cX13_buy 0 = .ok (.aload_n 0, 1) := dk_42 (dk_at dksX13_buy_0 0 rfl rfl)
theorem dX13_buy_1 : decode cX13_buy 1 = .ok (.aload_n 0, 1) := dk_42 (dk_at dksX13_buy_0 1 rfl rfl)
theorem dX13_buy_2 : decode cX13_buy 2 = .ok (.iload_n 1, 1) := dk_27 (dk_at dksX13_buy_0 2 rfl rfl)
theorem dX13_buy_3 : decode cX13_buy 3 = .ok (.invokevirtual 63, 3) := dk_182 0 63 (dk_at dksX13_buy_0 3 rfl rfl)
theorem dX13_buy_6 : decode cX13_buy 6 = .ok (.ifCond .eq 7, 3) := dk_153 0 7 (dk_at dksX13_buy_0 6 rfl rfl)
theorem dX13_buy_9 : decode cX13_buy 9 = .ok (.iconst 0, 1) := dk_3 (dk_at dksX13_buy_0 9 rfl rfl)
theorem dX13_buy_10 : decode cX13_buy 10 = .ok (.goto 4, 3) := dk_167 0 4 (dk_at dksX13_buy_0 10 rfl rfl)
theorem dX13_buy_13 : decode cX13_buy 13 = .ok (.iconst 1, 1) := dk_4 (dk_at dksX13_buy_0 13 rfl rfl)
theorem dX13_buy_14 : decode cX13_buy 14 = .ok (.putfield 45, 3) := dk_181 0 45 (dk_at dksX13_buy_0 14 rfl rfl)
theorem dX13_buy_17 : decode cX13_buy 17 = .ok (.aload_n 0, 1) := dk_42 (dk_at dksX13_buy_0 17 rfl rfl)
theorem dX13_buy_18 : decode cX13_buy 18 = .ok (.getfield 45, 3) := dk_180 0 45 (dk_at dksX13_buy_0 18 rfl rfl)
theorem dX13_buy_21 : decode cX13_buy 21 = .ok (.ifCond .le 7, 3) := dk_158 0 7 (dk_at dksX13_buy_0 21 rfl rfl)
theorem dX13_buy_24 : decode cX13_buy 24 = .ok (.iconst 0, 1) := dk_3 (dk_at dksX13_buy_1 0 rfl rfl)
theorem dX13_buy_25 : decode cX13_buy 25 = .ok (.goto 10, 3) := dk_167 0 10 (dk_at dksX13_buy_1 1 rfl rfl)
theorem dX13_buy_28 : decode cX13_buy 28 = .ok (.aload_n 0, 1) := dk_42 (dk_at dksX13_buy_1 4 rfl rfl)
theorem dX13_buy_29 : decode cX13_buy 29 = .ok (.iload_n 1, 1) := dk_27 (dk_at dksX13_buy_1 5 rfl rfl)
theorem dX13_buy_30 : decode cX13_buy 30 = .ok (.iconst 1, 1) := dk_4 (dk_at dksX13_buy_1 6 rfl rfl)
theorem dX13_buy_31 : decode cX13_buy 31 = .ok (.iconst 2, 1) := dk_5 (dk_at dksX13_buy_1 7 rfl rfl)
theorem dX13_buy_32 : decode cX13_buy 32 = .ok (.invokevirtual 99, 3) := dk_182 0 99 (dk_at dksX13_buy_1 8 rfl rfl)
theorem dX13_buy_35 : decode cX13_buy 35 = .ok (.ireturn, 1) := dk_172 (dk_at dksX13_buy_1 11 rfl rfl)
abbrev cX13_bought : ByteArray := prog_18_method_17_code
def yX13_bought : MethodName := ⟨RX13, "bought", "(III)I"⟩
def dkwX13_bought_9 : List UInt8 := [21, 6, 184, 0, 96, 172]
abbrev dktX13_bought_9 : List UInt8 := dkwX13_bought_9 ++ []
def dkwX13_bought_8 : List UInt8 := [132, 7, 1, 167, 255, 187, 42, 89, 180, 0, 89, 4, 96, 181, 0, 89, 42, 180, 0, 13, 21, 6, 46]
abbrev dktX13_bought_8 : List UInt8 := dkwX13_bought_8 ++ dktX13_bought_9
def dkwX13_bought_7 : List UInt8 := [162, 0, 22, 42, 180, 0, 22, 7, 21, 7, 104, 21, 8, 96, 3, 79, 132, 8, 1, 167, 255, 234]
abbrev dktX13_bought_7 : List UInt8 := dkwX13_bought_7 ++ dktX13_bought_8
def dkwX13_bought_6 : List UInt8 := [42, 180, 0, 16, 21, 7, 42, 180, 0, 89, 79, 42, 21, 7, 27, 182, 0, 92, 3, 54, 8, 21, 8, 7]
abbrev dktX13_bought_6 : List UInt8 := dkwX13_bought_6 ++ dktX13_bought_7
def dkwX13_bought_5 : List UInt8 := [21, 6, 54, 7, 21, 7, 21, 6, 28, 96, 162, 0, 66, 42, 180, 0, 13, 21, 7, 92, 46, 4, 96, 79]
abbrev dktX13_bought_5 : List UInt8 := dkwX13_bought_5 ++ dktX13_bought_6
def dkwX13_bought_4 : List UInt8 := [167, 0, 4, 2, 182, 0, 73, 181, 0, 45, 3, 172, 42, 180, 0, 38, 27, 92, 46, 21, 4, 100, 79]
abbrev dktX13_bought_4 : List UInt8 := dkwX13_bought_4 ++ dktX13_bought_5
def dkwX13_bought_3 : List UInt8 := [21, 5, 156, 0, 8, 21, 6, 156, 0, 28, 42, 42, 29, 4, 96, 21, 4, 28, 162, 0, 8, 21, 5]
abbrev dktX13_bought_3 : List UInt8 := dkwX13_bought_3 ++ dktX13_bought_4
def dkwX13_bought_2 : List UInt8 := [42, 27, 28, 21, 4, 100, 182, 0, 83, 54, 5, 42, 28, 182, 0, 86, 54, 6, 21, 4, 28, 162, 0, 8]
abbrev dktX13_bought_2 : List UInt8 := dkwX13_bought_2 ++ dktX13_bought_3
def dkwX13_bought_1 : List UInt8 := [3, 172, 42, 180, 0, 38, 27, 46, 28, 162, 0, 12, 42, 180, 0, 38, 27, 46, 167, 0, 4, 28, 54, 4]
abbrev dktX13_bought_1 : List UInt8 := dkwX13_bought_1 ++ dktX13_bought_2
def dkwX13_bought_0 : List UInt8 := [42, 42, 27, 182, 0, 67, 153, 0, 7, 3, 167, 0, 4, 29, 181, 0, 45, 42, 180, 0, 45, 158, 0, 5]
abbrev dktX13_bought_0 : List UInt8 := dkwX13_bought_0 ++ dktX13_bought_1
theorem dksX13_bought_0 : cX13_bought.data.toList.drop 0 = dktX13_bought_0 := by decide +kernel
theorem dksX13_bought_1 : cX13_bought.data.toList.drop 24 = dktX13_bought_1 := dk_seg dksX13_bought_0 24 rfl rfl
theorem dksX13_bought_2 : cX13_bought.data.toList.drop 48 = dktX13_bought_2 := dk_seg dksX13_bought_1 24 rfl rfl
theorem dksX13_bought_3 : cX13_bought.data.toList.drop 72 = dktX13_bought_3 := dk_seg dksX13_bought_2 24 rfl rfl
theorem dksX13_bought_4 : cX13_bought.data.toList.drop 95 = dktX13_bought_4 := dk_seg dksX13_bought_3 23 rfl rfl
theorem dksX13_bought_5 : cX13_bought.data.toList.drop 118 = dktX13_bought_5 := dk_seg dksX13_bought_4 23 rfl rfl
theorem dksX13_bought_6 : cX13_bought.data.toList.drop 142 = dktX13_bought_6 := dk_seg dksX13_bought_5 24 rfl rfl
theorem dksX13_bought_7 : cX13_bought.data.toList.drop 166 = dktX13_bought_7 := dk_seg dksX13_bought_6 24 rfl rfl
theorem dksX13_bought_8 : cX13_bought.data.toList.drop 188 = dktX13_bought_8 := dk_seg dksX13_bought_7 22 rfl rfl
theorem dksX13_bought_9 : cX13_bought.data.toList.drop 211 = dktX13_bought_9 := dk_seg dksX13_bought_8 23 rfl rfl
theorem dX13_bought_0 : decode cX13_bought 0 = .ok (.aload_n 0, 1) := dk_42 (dk_at dksX13_bought_0 0 rfl rfl)
theorem dX13_bought_1 : decode cX13_bought 1 = .ok (.aload_n 0, 1) := dk_42 (dk_at dksX13_bought_0 1 rfl rfl)
theorem dX13_bought_2 : decode cX13_bought 2 = .ok (.iload_n 1, 1) := dk_27 (dk_at dksX13_bought_0 2 rfl rfl)
theorem dX13_bought_3 : decode cX13_bought 3 = .ok (.invokevirtual 67, 3) := dk_182 0 67 (dk_at dksX13_bought_0 3 rfl rfl)
theorem dX13_bought_6 : decode cX13_bought 6 = .ok (.ifCond .eq 7, 3) := dk_153 0 7 (dk_at dksX13_bought_0 6 rfl rfl)
theorem dX13_bought_9 : decode cX13_bought 9 = .ok (.iconst 0, 1) := dk_3 (dk_at dksX13_bought_0 9 rfl rfl)
theorem dX13_bought_10 : decode cX13_bought 10 = .ok (.goto 4, 3) := dk_167 0 4 (dk_at dksX13_bought_0 10 rfl rfl)
theorem dX13_bought_13 : decode cX13_bought 13 = .ok (.iload_n 3, 1) := dk_29 (dk_at dksX13_bought_0 13 rfl rfl)
theorem dX13_bought_14 : decode cX13_bought 14 = .ok (.putfield 45, 3) := dk_181 0 45 (dk_at dksX13_bought_0 14 rfl rfl)
theorem dX13_bought_17 : decode cX13_bought 17 = .ok (.aload_n 0, 1) := dk_42 (dk_at dksX13_bought_0 17 rfl rfl)
theorem dX13_bought_18 : decode cX13_bought 18 = .ok (.getfield 45, 3) := dk_180 0 45 (dk_at dksX13_bought_0 18 rfl rfl)
theorem dX13_bought_21 : decode cX13_bought 21 = .ok (.ifCond .le 5, 3) := dk_158 0 5 (dk_at dksX13_bought_0 21 rfl rfl)
theorem dX13_bought_24 : decode cX13_bought 24 = .ok (.iconst 0, 1) := dk_3 (dk_at dksX13_bought_1 0 rfl rfl)
theorem dX13_bought_25 : decode cX13_bought 25 = .ok (.ireturn, 1) := dk_172 (dk_at dksX13_bought_1 1 rfl rfl)
theorem dX13_bought_26 : decode cX13_bought 26 = .ok (.aload_n 0, 1) := dk_42 (dk_at dksX13_bought_1 2 rfl rfl)
theorem dX13_bought_27 : decode cX13_bought 27 = .ok (.getfield 38, 3) := dk_180 0 38 (dk_at dksX13_bought_1 3 rfl rfl)
theorem dX13_bought_30 : decode cX13_bought 30 = .ok (.iload_n 1, 1) := dk_27 (dk_at dksX13_bought_1 6 rfl rfl)
theorem dX13_bought_31 : decode cX13_bought 31 = .ok (.iaload, 1) := dk_46 (dk_at dksX13_bought_1 7 rfl rfl)
theorem dX13_bought_32 : decode cX13_bought 32 = .ok (.iload_n 2, 1) := dk_28 (dk_at dksX13_bought_1 8 rfl rfl)
theorem dX13_bought_33 : decode cX13_bought 33 = .ok (.if_icmp .ge 12, 3) := dk_162 0 12 (dk_at dksX13_bought_1 9 rfl rfl)
theorem dX13_bought_36 : decode cX13_bought 36 = .ok (.aload_n 0, 1) := dk_42 (dk_at dksX13_bought_1 12 rfl rfl)
theorem dX13_bought_37 : decode cX13_bought 37 = .ok (.getfield 38, 3) := dk_180 0 38 (dk_at dksX13_bought_1 13 rfl rfl)
theorem dX13_bought_40 : decode cX13_bought 40 = .ok (.iload_n 1, 1) := dk_27 (dk_at dksX13_bought_1 16 rfl rfl)
theorem dX13_bought_41 : decode cX13_bought 41 = .ok (.iaload, 1) := dk_46 (dk_at dksX13_bought_1 17 rfl rfl)
theorem dX13_bought_42 : decode cX13_bought 42 = .ok (.goto 4, 3) := dk_167 0 4 (dk_at dksX13_bought_1 18 rfl rfl)
theorem dX13_bought_45 : decode cX13_bought 45 = .ok (.iload_n 2, 1) := dk_28 (dk_at dksX13_bought_1 21 rfl rfl)
theorem dX13_bought_46 : decode cX13_bought 46 = .ok (.istore 4, 2) := dk_54 4 (dk_at dksX13_bought_1 22 rfl rfl)
theorem dX13_bought_48 : decode cX13_bought 48 = .ok (.aload_n 0, 1) := dk_42 (dk_at dksX13_bought_2 0 rfl rfl)
theorem dX13_bought_49 : decode cX13_bought 49 = .ok (.iload_n 1, 1) := dk_27 (dk_at dksX13_bought_2 1 rfl rfl)
theorem dX13_bought_50 : decode cX13_bought 50 = .ok (.iload_n 2, 1) := dk_28 (dk_at dksX13_bought_2 2 rfl rfl)
theorem dX13_bought_51 : decode cX13_bought 51 = .ok (.iload 4, 2) := dk_21 4 (dk_at dksX13_bought_2 3 rfl rfl)
theorem dX13_bought_53 : decode cX13_bought 53 = .ok (.isub, 1) := dk_100 (dk_at dksX13_bought_2 5 rfl rfl)
theorem dX13_bought_54 : decode cX13_bought 54 = .ok (.invokevirtual 83, 3) := dk_182 0 83 (dk_at dksX13_bought_2 6 rfl rfl)
theorem dX13_bought_57 : decode cX13_bought 57 = .ok (.istore 5, 2) := dk_54 5 (dk_at dksX13_bought_2 9 rfl rfl)
theorem dX13_bought_59 : decode cX13_bought 59 = .ok (.aload_n 0, 1) := dk_42 (dk_at dksX13_bought_2 11 rfl rfl)
theorem dX13_bought_60 : decode cX13_bought 60 = .ok (.iload_n 2, 1) := dk_28 (dk_at dksX13_bought_2 12 rfl rfl)
theorem dX13_bought_61 : decode cX13_bought 61 = .ok (.invokevirtual 86, 3) := dk_182 0 86 (dk_at dksX13_bought_2 13 rfl rfl)
theorem dX13_bought_64 : decode cX13_bought 64 = .ok (.istore 6, 2) := dk_54 6 (dk_at dksX13_bought_2 16 rfl rfl)
theorem dX13_bought_66 : decode cX13_bought 66 = .ok (.iload 4, 2) := dk_21 4 (dk_at dksX13_bought_2 18 rfl rfl)
theorem dX13_bought_68 : decode cX13_bought 68 = .ok (.iload_n 2, 1) := dk_28 (dk_at dksX13_bought_2 20 rfl rfl)
theorem dX13_bought_69 : decode cX13_bought 69 = .ok (.if_icmp .ge 8, 3) := dk_162 0 8 (dk_at dksX13_bought_2 21 rfl rfl)
theorem dX13_bought_72 : decode cX13_bought 72 = .ok (.iload 5, 2) := dk_21 5 (dk_at dksX13_bought_3 0 rfl rfl)
theorem dX13_bought_74 : decode cX13_bought 74 = .ok (.ifCond .ge 8, 3) := dk_156 0 8 (dk_at dksX13_bought_3 2 rfl rfl)
theorem dX13_bought_77 : decode cX13_bought 77 = .ok (.iload 6, 2) := dk_21 6 (dk_at dksX13_bought_3 5 rfl rfl)
theorem dX13_bought_79 : decode cX13_bought 79 = .ok (.ifCond .ge 28, 3) := dk_156 0 28 (dk_at dksX13_bought_3 7 rfl rfl)
theorem dX13_bought_82 : decode cX13_bought 82 = .ok (.aload_n 0, 1) := dk_42 (dk_at dksX13_bought_3 10 rfl rfl)
theorem dX13_bought_83 : decode cX13_bought 83 = .ok (.aload_n 0, 1) := dk_42 (dk_at dksX13_bought_3 11 rfl rfl)
theorem dX13_bought_84 : decode cX13_bought 84 = .ok (.iload_n 3, 1) := dk_29 (dk_at dksX13_bought_3 12 rfl rfl)
theorem dX13_bought_85 : decode cX13_bought 85 = .ok (.iconst 1, 1) := dk_4 (dk_at dksX13_bought_3 13 rfl rfl)
theorem dX13_bought_86 : decode cX13_bought 86 = .ok (.iadd, 1) := dk_96 (dk_at dksX13_bought_3 14 rfl rfl)
theorem dX13_bought_87 : decode cX13_bought 87 = .ok (.iload 4, 2) := dk_21 4 (dk_at dksX13_bought_3 15 rfl rfl)
theorem dX13_bought_89 : decode cX13_bought 89 = .ok (.iload_n 2, 1) := dk_28 (dk_at dksX13_bought_3 17 rfl rfl)
theorem dX13_bought_90 : decode cX13_bought 90 = .ok (.if_icmp .ge 8, 3) := dk_162 0 8 (dk_at dksX13_bought_3 18 rfl rfl)
theorem dX13_bought_93 : decode cX13_bought 93 = .ok (.iload 5, 2) := dk_21 5 (dk_at dksX13_bought_3 21 rfl rfl)
theorem dX13_bought_95 : decode cX13_bought 95 = .ok (.goto 4, 3) := dk_167 0 4 (dk_at dksX13_bought_4 0 rfl rfl)
theorem dX13_bought_98 : decode cX13_bought 98 = .ok (.iconst (-1), 1) := dk_2 (dk_at dksX13_bought_4 3 rfl rfl)
theorem dX13_bought_99 : decode cX13_bought 99 = .ok (.invokevirtual 73, 3) := dk_182 0 73 (dk_at dksX13_bought_4 4 rfl rfl)
theorem dX13_bought_102 : decode cX13_bought 102 = .ok (.putfield 45, 3) := dk_181 0 45 (dk_at dksX13_bought_4 7 rfl rfl)
theorem dX13_bought_105 : decode cX13_bought 105 = .ok (.iconst 0, 1) := dk_3 (dk_at dksX13_bought_4 10 rfl rfl)
theorem dX13_bought_106 : decode cX13_bought 106 = .ok (.ireturn, 1) := dk_172 (dk_at dksX13_bought_4 11 rfl rfl)
theorem dX13_bought_107 : decode cX13_bought 107 = .ok (.aload_n 0, 1) := dk_42 (dk_at dksX13_bought_4 12 rfl rfl)
theorem dX13_bought_108 : decode cX13_bought 108 = .ok (.getfield 38, 3) := dk_180 0 38 (dk_at dksX13_bought_4 13 rfl rfl)
theorem dX13_bought_111 : decode cX13_bought 111 = .ok (.iload_n 1, 1) := dk_27 (dk_at dksX13_bought_4 16 rfl rfl)
theorem dX13_bought_112 : decode cX13_bought 112 = .ok (.dup2, 1) := dk_92 (dk_at dksX13_bought_4 17 rfl rfl)
theorem dX13_bought_113 : decode cX13_bought 113 = .ok (.iaload, 1) := dk_46 (dk_at dksX13_bought_4 18 rfl rfl)
theorem dX13_bought_114 : decode cX13_bought 114 = .ok (.iload 4, 2) := dk_21 4 (dk_at dksX13_bought_4 19 rfl rfl)
theorem dX13_bought_116 : decode cX13_bought 116 = .ok (.isub, 1) := dk_100 (dk_at dksX13_bought_4 21 rfl rfl)
theorem dX13_bought_117 : decode cX13_bought 117 = .ok (.iastore, 1) := dk_79 (dk_at dksX13_bought_4 22 rfl rfl)
theorem dX13_bought_118 : decode cX13_bought 118 = .ok (.iload 6, 2) := dk_21 6 (dk_at dksX13_bought_5 0 rfl rfl)
theorem dX13_bought_120 : decode cX13_bought 120 = .ok (.istore 7, 2) := dk_54 7 (dk_at dksX13_bought_5 2 rfl rfl)
theorem dX13_bought_122 : decode cX13_bought 122 = .ok (.iload 7, 2) := dk_21 7 (dk_at dksX13_bought_5 4 rfl rfl)
theorem dX13_bought_124 : decode cX13_bought 124 = .ok (.iload 6, 2) := dk_21 6 (dk_at dksX13_bought_5 6 rfl rfl)
theorem dX13_bought_126 : decode cX13_bought 126 = .ok (.iload_n 2, 1) := dk_28 (dk_at dksX13_bought_5 8 rfl rfl)
theorem dX13_bought_127 : decode cX13_bought 127 = .ok (.iadd, 1) := dk_96 (dk_at dksX13_bought_5 9 rfl rfl)
theorem dX13_bought_128 : decode cX13_bought 128 = .ok (.if_icmp .ge 66, 3) := dk_162 0 66 (dk_at dksX13_bought_5 10 rfl rfl)
theorem dX13_bought_131 : decode cX13_bought 131 = .ok (.aload_n 0, 1) := dk_42 (dk_at dksX13_bought_5 13 rfl rfl)
theorem dX13_bought_132 : decode cX13_bought 132 = .ok (.getfield 13, 3) := dk_180 0 13 (dk_at dksX13_bought_5 14 rfl rfl)
theorem dX13_bought_135 : decode cX13_bought 135 = .ok (.iload 7, 2) := dk_21 7 (dk_at dksX13_bought_5 17 rfl rfl)
theorem dX13_bought_137 : decode cX13_bought 137 = .ok (.dup2, 1) := dk_92 (dk_at dksX13_bought_5 19 rfl rfl)
theorem dX13_bought_138 : decode cX13_bought 138 = .ok (.iaload, 1) := dk_46 (dk_at dksX13_bought_5 20 rfl rfl)
theorem dX13_bought_139 : decode cX13_bought 139 = .ok (.iconst 1, 1) := dk_4 (dk_at dksX13_bought_5 21 rfl rfl)
theorem dX13_bought_140 : decode cX13_bought 140 = .ok (.iadd, 1) := dk_96 (dk_at dksX13_bought_5 22 rfl rfl)
theorem dX13_bought_141 : decode cX13_bought 141 = .ok (.iastore, 1) := dk_79 (dk_at dksX13_bought_5 23 rfl rfl)
theorem dX13_bought_142 : decode cX13_bought 142 = .ok (.aload_n 0, 1) := dk_42 (dk_at dksX13_bought_6 0 rfl rfl)
theorem dX13_bought_143 : decode cX13_bought 143 = .ok (.getfield 16, 3) := dk_180 0 16 (dk_at dksX13_bought_6 1 rfl rfl)
theorem dX13_bought_146 : decode cX13_bought 146 = .ok (.iload 7, 2) := dk_21 7 (dk_at dksX13_bought_6 4 rfl rfl)
theorem dX13_bought_148 : decode cX13_bought 148 = .ok (.aload_n 0, 1) := dk_42 (dk_at dksX13_bought_6 6 rfl rfl)
theorem dX13_bought_149 : decode cX13_bought 149 = .ok (.getfield 89, 3) := dk_180 0 89 (dk_at dksX13_bought_6 7 rfl rfl)
theorem dX13_bought_152 : decode cX13_bought 152 = .ok (.iastore, 1) := dk_79 (dk_at dksX13_bought_6 10 rfl rfl)
theorem dX13_bought_153 : decode cX13_bought 153 = .ok (.aload_n 0, 1) := dk_42 (dk_at dksX13_bought_6 11 rfl rfl)
theorem dX13_bought_154 : decode cX13_bought 154 = .ok (.iload 7, 2) := dk_21 7 (dk_at dksX13_bought_6 12 rfl rfl)
theorem dX13_bought_156 : decode cX13_bought 156 = .ok (.iload_n 1, 1) := dk_27 (dk_at dksX13_bought_6 14 rfl rfl)
theorem dX13_bought_157 : decode cX13_bought 157 = .ok (.invokevirtual 92, 3) := dk_182 0 92 (dk_at dksX13_bought_6 15 rfl rfl)
theorem dX13_bought_160 : decode cX13_bought 160 = .ok (.iconst 0, 1) := dk_3 (dk_at dksX13_bought_6 18 rfl rfl)
theorem dX13_bought_161 : decode cX13_bought 161 = .ok (.istore 8, 2) := dk_54 8 (dk_at dksX13_bought_6 19 rfl rfl)
theorem dX13_bought_163 : decode cX13_bought 163 = .ok (.iload 8, 2) := dk_21 8 (dk_at dksX13_bought_6 21 rfl rfl)
theorem dX13_bought_165 : decode cX13_bought 165 = .ok (.iconst 4, 1) := dk_7 (dk_at dksX13_bought_6 23 rfl rfl)
theorem dX13_bought_166 : decode cX13_bought 166 = .ok (.if_icmp .ge 22, 3) := dk_162 0 22 (dk_at dksX13_bought_7 0 rfl rfl)
theorem dX13_bought_169 : decode cX13_bought 169 = .ok (.aload_n 0, 1) := dk_42 (dk_at dksX13_bought_7 3 rfl rfl)
theorem dX13_bought_170 : decode cX13_bought 170 = .ok (.getfield 22, 3) := dk_180 0 22 (dk_at dksX13_bought_7 4 rfl rfl)
theorem dX13_bought_173 : decode cX13_bought 173 = .ok (.iconst 4, 1) := dk_7 (dk_at dksX13_bought_7 7 rfl rfl)
theorem dX13_bought_174 : decode cX13_bought 174 = .ok (.iload 7, 2) := dk_21 7 (dk_at dksX13_bought_7 8 rfl rfl)
theorem dX13_bought_176 : decode cX13_bought 176 = .ok (.imul, 1) := dk_104 (dk_at dksX13_bought_7 10 rfl rfl)
theorem dX13_bought_177 : decode cX13_bought 177 = .ok (.iload 8, 2) := dk_21 8 (dk_at dksX13_bought_7 11 rfl rfl)
theorem dX13_bought_179 : decode cX13_bought 179 = .ok (.iadd, 1) := dk_96 (dk_at dksX13_bought_7 13 rfl rfl)
theorem dX13_bought_180 : decode cX13_bought 180 = .ok (.iconst 0, 1) := dk_3 (dk_at dksX13_bought_7 14 rfl rfl)
theorem dX13_bought_181 : decode cX13_bought 181 = .ok (.iastore, 1) := dk_79 (dk_at dksX13_bought_7 15 rfl rfl)
theorem dX13_bought_182 : decode cX13_bought 182 = .ok (.iinc 8 1, 3) := dk_132 8 1 (dk_at dksX13_bought_7 16 rfl rfl)
theorem dX13_bought_185 : decode cX13_bought 185 = .ok (.goto (-22), 3) := dk_167 255 234 (dk_at dksX13_bought_7 19 rfl rfl)
theorem dX13_bought_188 : decode cX13_bought 188 = .ok (.iinc 7 1, 3) := dk_132 7 1 (dk_at dksX13_bought_8 0 rfl rfl)
theorem dX13_bought_191 : decode cX13_bought 191 = .ok (.goto (-69), 3) := dk_167 255 187 (dk_at dksX13_bought_8 3 rfl rfl)
theorem dX13_bought_194 : decode cX13_bought 194 = .ok (.aload_n 0, 1) := dk_42 (dk_at dksX13_bought_8 6 rfl rfl)
theorem dX13_bought_195 : decode cX13_bought 195 = .ok (.dup, 1) := dk_89 (dk_at dksX13_bought_8 7 rfl rfl)
theorem dX13_bought_196 : decode cX13_bought 196 = .ok (.getfield 89, 3) := dk_180 0 89 (dk_at dksX13_bought_8 8 rfl rfl)
theorem dX13_bought_199 : decode cX13_bought 199 = .ok (.iconst 1, 1) := dk_4 (dk_at dksX13_bought_8 11 rfl rfl)
theorem dX13_bought_200 : decode cX13_bought 200 = .ok (.iadd, 1) := dk_96 (dk_at dksX13_bought_8 12 rfl rfl)
theorem dX13_bought_201 : decode cX13_bought 201 = .ok (.putfield 89, 3) := dk_181 0 89 (dk_at dksX13_bought_8 13 rfl rfl)
theorem dX13_bought_204 : decode cX13_bought 204 = .ok (.aload_n 0, 1) := dk_42 (dk_at dksX13_bought_8 16 rfl rfl)
theorem dX13_bought_205 : decode cX13_bought 205 = .ok (.getfield 13, 3) := dk_180 0 13 (dk_at dksX13_bought_8 17 rfl rfl)
theorem dX13_bought_208 : decode cX13_bought 208 = .ok (.iload 6, 2) := dk_21 6 (dk_at dksX13_bought_8 20 rfl rfl)
theorem dX13_bought_210 : decode cX13_bought 210 = .ok (.iaload, 1) := dk_46 (dk_at dksX13_bought_8 22 rfl rfl)
theorem dX13_bought_211 : decode cX13_bought 211 = .ok (.iload 6, 2) := dk_21 6 (dk_at dksX13_bought_9 0 rfl rfl)
theorem dX13_bought_213 : decode cX13_bought 213 = .ok (.invokestatic 96, 3) := dk_184 0 96 (dk_at dksX13_bought_9 2 rfl rfl)
theorem dX13_bought_216 : decode cX13_bought 216 = .ok (.ireturn, 1) := dk_172 (dk_at dksX13_bought_9 5 rfl rfl)
abbrev cX13_refuser : ByteArray := prog_18_method_9_code
def yX13_refuser : MethodName := ⟨RX13, "refuser", "(II)I"⟩
def dkwX13_refuser_1 : List UInt8 := [42, 180, 0, 29, 29, 46, 62, 167, 255, 227, 2, 172]
abbrev dktX13_refuser_1 : List UInt8 := dkwX13_refuser_1 ++ []
def dkwX13_refuser_0 : List UInt8 := [27, 62, 29, 155, 0, 31, 42, 29, 182, 0, 60, 28, 96, 42, 180, 0, 32, 29, 46, 164, 0, 5, 29, 172]
abbrev dktX13_refuser_0 : List UInt8 := dkwX13_refuser_0 ++ dktX13_refuser_1
theorem dksX13_refuser_0 : cX13_refuser.data.toList.drop 0 = dktX13_refuser_0 := by decide +kernel
theorem dksX13_refuser_1 : cX13_refuser.data.toList.drop 24 = dktX13_refuser_1 := dk_seg dksX13_refuser_0 24 rfl rfl
theorem dX13_refuser_0 : decode cX13_refuser 0 = .ok (.iload_n 1, 1) := dk_27 (dk_at dksX13_refuser_0 0 rfl rfl)
theorem dX13_refuser_1 : decode cX13_refuser 1 = .ok (.istore_n 3, 1) := dk_62 (dk_at dksX13_refuser_0 1 rfl rfl)
theorem dX13_refuser_2 : decode cX13_refuser 2 = .ok (.iload_n 3, 1) := dk_29 (dk_at dksX13_refuser_0 2 rfl rfl)
theorem dX13_refuser_3 : decode cX13_refuser 3 = .ok (.ifCond .lt 31, 3) := dk_155 0 31 (dk_at dksX13_refuser_0 3 rfl rfl)
theorem dX13_refuser_6 : decode cX13_refuser 6 = .ok (.aload_n 0, 1) := dk_42 (dk_at dksX13_refuser_0 6 rfl rfl)
theorem dX13_refuser_7 : decode cX13_refuser 7 = .ok (.iload_n 3, 1) := dk_29 (dk_at dksX13_refuser_0 7 rfl rfl)
theorem dX13_refuser_8 : decode cX13_refuser 8 = .ok (.invokevirtual 60, 3) := dk_182 0 60 (dk_at dksX13_refuser_0 8 rfl rfl)
theorem dX13_refuser_11 : decode cX13_refuser 11 = .ok (.iload_n 2, 1) := dk_28 (dk_at dksX13_refuser_0 11 rfl rfl)
theorem dX13_refuser_12 : decode cX13_refuser 12 = .ok (.iadd, 1) := dk_96 (dk_at dksX13_refuser_0 12 rfl rfl)
theorem dX13_refuser_13 : decode cX13_refuser 13 = .ok (.aload_n 0, 1) := dk_42 (dk_at dksX13_refuser_0 13 rfl rfl)
theorem dX13_refuser_14 : decode cX13_refuser 14 = .ok (.getfield 32, 3) := dk_180 0 32 (dk_at dksX13_refuser_0 14 rfl rfl)
theorem dX13_refuser_17 : decode cX13_refuser 17 = .ok (.iload_n 3, 1) := dk_29 (dk_at dksX13_refuser_0 17 rfl rfl)
theorem dX13_refuser_18 : decode cX13_refuser 18 = .ok (.iaload, 1) := dk_46 (dk_at dksX13_refuser_0 18 rfl rfl)
theorem dX13_refuser_19 : decode cX13_refuser 19 = .ok (.if_icmp .le 5, 3) := dk_164 0 5 (dk_at dksX13_refuser_0 19 rfl rfl)
theorem dX13_refuser_22 : decode cX13_refuser 22 = .ok (.iload_n 3, 1) := dk_29 (dk_at dksX13_refuser_0 22 rfl rfl)
theorem dX13_refuser_23 : decode cX13_refuser 23 = .ok (.ireturn, 1) := dk_172 (dk_at dksX13_refuser_0 23 rfl rfl)
theorem dX13_refuser_24 : decode cX13_refuser 24 = .ok (.aload_n 0, 1) := dk_42 (dk_at dksX13_refuser_1 0 rfl rfl)
theorem dX13_refuser_25 : decode cX13_refuser 25 = .ok (.getfield 29, 3) := dk_180 0 29 (dk_at dksX13_refuser_1 1 rfl rfl)
theorem dX13_refuser_28 : decode cX13_refuser 28 = .ok (.iload_n 3, 1) := dk_29 (dk_at dksX13_refuser_1 4 rfl rfl)
theorem dX13_refuser_29 : decode cX13_refuser 29 = .ok (.iaload, 1) := dk_46 (dk_at dksX13_refuser_1 5 rfl rfl)
theorem dX13_refuser_30 : decode cX13_refuser 30 = .ok (.istore_n 3, 1) := dk_62 (dk_at dksX13_refuser_1 6 rfl rfl)
theorem dX13_refuser_31 : decode cX13_refuser 31 = .ok (.goto (-29), 3) := dk_167 255 227 (dk_at dksX13_refuser_1 7 rfl rfl)
theorem dX13_refuser_34 : decode cX13_refuser 34 = .ok (.iconst (-1), 1) := dk_2 (dk_at dksX13_refuser_1 10 rfl rfl)
theorem dX13_refuser_35 : decode cX13_refuser 35 = .ok (.ireturn, 1) := dk_172 (dk_at dksX13_refuser_1 11 rfl rfl)
abbrev cX13_useOf : ByteArray := prog_18_method_8_code
def yX13_useOf : MethodName := ⟨RX13, "useOf", "(I)I"⟩
def dkwX13_useOf_2 : List UInt8 := [132, 3, 1, 167, 255, 210, 28, 172]
abbrev dktX13_useOf_2 : List UInt8 := dkwX13_useOf_2 ++ []
def dkwX13_useOf_1 : List UInt8 := [182, 0, 52, 153, 0, 18, 42, 29, 182, 0, 56, 42, 180, 0, 38, 29, 46, 96, 167, 0, 4, 3, 96, 61]
abbrev dktX13_useOf_1 : List UInt8 := dkwX13_useOf_1 ++ dktX13_useOf_2
def dkwX13_useOf_0 : List UInt8 := [3, 61, 3, 62, 29, 16, 40, 162, 0, 46, 28, 42, 180, 0, 25, 29, 51, 153, 0, 27, 42, 29, 27]
abbrev dktX13_useOf_0 : List UInt8 := dkwX13_useOf_0 ++ dktX13_useOf_1
theorem dksX13_useOf_0 : cX13_useOf.data.toList.drop 0 = dktX13_useOf_0 := by decide +kernel
theorem dksX13_useOf_1 : cX13_useOf.data.toList.drop 23 = dktX13_useOf_1 := dk_seg dksX13_useOf_0 23 rfl rfl
theorem dksX13_useOf_2 : cX13_useOf.data.toList.drop 47 = dktX13_useOf_2 := dk_seg dksX13_useOf_1 24 rfl rfl
theorem dX13_useOf_0 : decode cX13_useOf 0 = .ok (.iconst 0, 1) := dk_3 (dk_at dksX13_useOf_0 0 rfl rfl)
theorem dX13_useOf_1 : decode cX13_useOf 1 = .ok (.istore_n 2, 1) := dk_61 (dk_at dksX13_useOf_0 1 rfl rfl)
theorem dX13_useOf_2 : decode cX13_useOf 2 = .ok (.iconst 0, 1) := dk_3 (dk_at dksX13_useOf_0 2 rfl rfl)
theorem dX13_useOf_3 : decode cX13_useOf 3 = .ok (.istore_n 3, 1) := dk_62 (dk_at dksX13_useOf_0 3 rfl rfl)
theorem dX13_useOf_4 : decode cX13_useOf 4 = .ok (.iload_n 3, 1) := dk_29 (dk_at dksX13_useOf_0 4 rfl rfl)
theorem dX13_useOf_5 : decode cX13_useOf 5 = .ok (.bipush 40, 2) := dk_16 40 (dk_at dksX13_useOf_0 5 rfl rfl)
theorem dX13_useOf_7 : decode cX13_useOf 7 = .ok (.if_icmp .ge 46, 3) := dk_162 0 46 (dk_at dksX13_useOf_0 7 rfl rfl)
theorem dX13_useOf_10 : decode cX13_useOf 10 = .ok (.iload_n 2, 1) := dk_28 (dk_at dksX13_useOf_0 10 rfl rfl)
theorem dX13_useOf_11 : decode cX13_useOf 11 = .ok (.aload_n 0, 1) := dk_42 (dk_at dksX13_useOf_0 11 rfl rfl)
theorem dX13_useOf_12 : decode cX13_useOf 12 = .ok (.getfield 25, 3) := dk_180 0 25 (dk_at dksX13_useOf_0 12 rfl rfl)
theorem dX13_useOf_15 : decode cX13_useOf 15 = .ok (.iload_n 3, 1) := dk_29 (dk_at dksX13_useOf_0 15 rfl rfl)
theorem dX13_useOf_16 : decode cX13_useOf 16 = .ok (.baload, 1) := dk_51 (dk_at dksX13_useOf_0 16 rfl rfl)
theorem dX13_useOf_17 : decode cX13_useOf 17 = .ok (.ifCond .eq 27, 3) := dk_153 0 27 (dk_at dksX13_useOf_0 17 rfl rfl)
theorem dX13_useOf_20 : decode cX13_useOf 20 = .ok (.aload_n 0, 1) := dk_42 (dk_at dksX13_useOf_0 20 rfl rfl)
theorem dX13_useOf_21 : decode cX13_useOf 21 = .ok (.iload_n 3, 1) := dk_29 (dk_at dksX13_useOf_0 21 rfl rfl)
theorem dX13_useOf_22 : decode cX13_useOf 22 = .ok (.iload_n 1, 1) := dk_27 (dk_at dksX13_useOf_0 22 rfl rfl)
theorem dX13_useOf_23 : decode cX13_useOf 23 = .ok (.invokevirtual 52, 3) := dk_182 0 52 (dk_at dksX13_useOf_1 0 rfl rfl)
theorem dX13_useOf_26 : decode cX13_useOf 26 = .ok (.ifCond .eq 18, 3) := dk_153 0 18 (dk_at dksX13_useOf_1 3 rfl rfl)
theorem dX13_useOf_29 : decode cX13_useOf 29 = .ok (.aload_n 0, 1) := dk_42 (dk_at dksX13_useOf_1 6 rfl rfl)
theorem dX13_useOf_30 : decode cX13_useOf 30 = .ok (.iload_n 3, 1) := dk_29 (dk_at dksX13_useOf_1 7 rfl rfl)
theorem dX13_useOf_31 : decode cX13_useOf 31 = .ok (.invokevirtual 56, 3) := dk_182 0 56 (dk_at dksX13_useOf_1 8 rfl rfl)
theorem dX13_useOf_34 : decode cX13_useOf 34 = .ok (.aload_n 0, 1) := dk_42 (dk_at dksX13_useOf_1 11 rfl rfl)
theorem dX13_useOf_35 : decode cX13_useOf 35 = .ok (.getfield 38, 3) := dk_180 0 38 (dk_at dksX13_useOf_1 12 rfl rfl)
theorem dX13_useOf_38 : decode cX13_useOf 38 = .ok (.iload_n 3, 1) := dk_29 (dk_at dksX13_useOf_1 15 rfl rfl)
theorem dX13_useOf_39 : decode cX13_useOf 39 = .ok (.iaload, 1) := dk_46 (dk_at dksX13_useOf_1 16 rfl rfl)
theorem dX13_useOf_40 : decode cX13_useOf 40 = .ok (.iadd, 1) := dk_96 (dk_at dksX13_useOf_1 17 rfl rfl)
theorem dX13_useOf_41 : decode cX13_useOf 41 = .ok (.goto 4, 3) := dk_167 0 4 (dk_at dksX13_useOf_1 18 rfl rfl)
theorem dX13_useOf_44 : decode cX13_useOf 44 = .ok (.iconst 0, 1) := dk_3 (dk_at dksX13_useOf_1 21 rfl rfl)
theorem dX13_useOf_45 : decode cX13_useOf 45 = .ok (.iadd, 1) := dk_96 (dk_at dksX13_useOf_1 22 rfl rfl)
theorem dX13_useOf_46 : decode cX13_useOf 46 = .ok (.istore_n 2, 1) := dk_61 (dk_at dksX13_useOf_1 23 rfl rfl)
theorem dX13_useOf_47 : decode cX13_useOf 47 = .ok (.iinc 3 1, 3) := dk_132 3 1 (dk_at dksX13_useOf_2 0 rfl rfl)
theorem dX13_useOf_50 : decode cX13_useOf 50 = .ok (.goto (-46), 3) := dk_167 255 210 (dk_at dksX13_useOf_2 3 rfl rfl)
theorem dX13_useOf_53 : decode cX13_useOf 53 = .ok (.iload_n 2, 1) := dk_28 (dk_at dksX13_useOf_2 6 rfl rfl)
theorem dX13_useOf_54 : decode cX13_useOf 54 = .ok (.ireturn, 1) := dk_172 (dk_at dksX13_useOf_2 7 rfl rfl)
abbrev cX13_isUnder : ByteArray := prog_18_method_5_code
def yX13_isUnder : MethodName := ⟨RX13, "isUnder", "(II)Z"⟩
def dkwX13_isUnder_1 : List UInt8 := [160, 0, 7, 4, 167, 0, 4, 3, 172]
abbrev dktX13_isUnder_1 : List UInt8 := dkwX13_isUnder_1 ++ []
def dkwX13_isUnder_0 : List UInt8 := [27, 62, 29, 155, 0, 18, 29, 28, 159, 0, 13, 42, 180, 0, 29, 29, 46, 62, 167, 255, 240, 29, 28]
abbrev dktX13_isUnder_0 : List UInt8 := dkwX13_isUnder_0 ++ dktX13_isUnder_1
theorem dksX13_isUnder_0 : cX13_isUnder.data.toList.drop 0 = dktX13_isUnder_0 := by decide +kernel
theorem dksX13_isUnder_1 : cX13_isUnder.data.toList.drop 23 = dktX13_isUnder_1 := dk_seg dksX13_isUnder_0 23 rfl rfl
theorem dX13_isUnder_0 : decode cX13_isUnder 0 = .ok (.iload_n 1, 1) := dk_27 (dk_at dksX13_isUnder_0 0 rfl rfl)
theorem dX13_isUnder_1 : decode cX13_isUnder 1 = .ok (.istore_n 3, 1) := dk_62 (dk_at dksX13_isUnder_0 1 rfl rfl)
theorem dX13_isUnder_2 : decode cX13_isUnder 2 = .ok (.iload_n 3, 1) := dk_29 (dk_at dksX13_isUnder_0 2 rfl rfl)
theorem dX13_isUnder_3 : decode cX13_isUnder 3 = .ok (.ifCond .lt 18, 3) := dk_155 0 18 (dk_at dksX13_isUnder_0 3 rfl rfl)
theorem dX13_isUnder_6 : decode cX13_isUnder 6 = .ok (.iload_n 3, 1) := dk_29 (dk_at dksX13_isUnder_0 6 rfl rfl)
theorem dX13_isUnder_7 : decode cX13_isUnder 7 = .ok (.iload_n 2, 1) := dk_28 (dk_at dksX13_isUnder_0 7 rfl rfl)
theorem dX13_isUnder_8 : decode cX13_isUnder 8 = .ok (.if_icmp .eq 13, 3) := dk_159 0 13 (dk_at dksX13_isUnder_0 8 rfl rfl)
theorem dX13_isUnder_11 : decode cX13_isUnder 11 = .ok (.aload_n 0, 1) := dk_42 (dk_at dksX13_isUnder_0 11 rfl rfl)
theorem dX13_isUnder_12 : decode cX13_isUnder 12 = .ok (.getfield 29, 3) := dk_180 0 29 (dk_at dksX13_isUnder_0 12 rfl rfl)
theorem dX13_isUnder_15 : decode cX13_isUnder 15 = .ok (.iload_n 3, 1) := dk_29 (dk_at dksX13_isUnder_0 15 rfl rfl)
theorem dX13_isUnder_16 : decode cX13_isUnder 16 = .ok (.iaload, 1) := dk_46 (dk_at dksX13_isUnder_0 16 rfl rfl)
theorem dX13_isUnder_17 : decode cX13_isUnder 17 = .ok (.istore_n 3, 1) := dk_62 (dk_at dksX13_isUnder_0 17 rfl rfl)
theorem dX13_isUnder_18 : decode cX13_isUnder 18 = .ok (.goto (-16), 3) := dk_167 255 240 (dk_at dksX13_isUnder_0 18 rfl rfl)
theorem dX13_isUnder_21 : decode cX13_isUnder 21 = .ok (.iload_n 3, 1) := dk_29 (dk_at dksX13_isUnder_0 21 rfl rfl)
theorem dX13_isUnder_22 : decode cX13_isUnder 22 = .ok (.iload_n 2, 1) := dk_28 (dk_at dksX13_isUnder_0 22 rfl rfl)
theorem dX13_isUnder_23 : decode cX13_isUnder 23 = .ok (.if_icmp .ne 7, 3) := dk_160 0 7 (dk_at dksX13_isUnder_1 0 rfl rfl)
theorem dX13_isUnder_26 : decode cX13_isUnder 26 = .ok (.iconst 1, 1) := dk_4 (dk_at dksX13_isUnder_1 3 rfl rfl)
theorem dX13_isUnder_27 : decode cX13_isUnder 27 = .ok (.goto 4, 3) := dk_167 0 4 (dk_at dksX13_isUnder_1 4 rfl rfl)
theorem dX13_isUnder_30 : decode cX13_isUnder 30 = .ok (.iconst 0, 1) := dk_3 (dk_at dksX13_isUnder_1 7 rfl rfl)
theorem dX13_isUnder_31 : decode cX13_isUnder 31 = .ok (.ireturn, 1) := dk_172 (dk_at dksX13_isUnder_1 8 rfl rfl)
abbrev cX13_owned : ByteArray := prog_18_method_7_code
def yX13_owned : MethodName := ⟨RX13, "owned", "(I)I"⟩
def dkwX13_owned_1 : List UInt8 := [167, 0, 4, 3, 96, 61, 132, 3, 1, 167, 255, 228, 28, 172]
abbrev dktX13_owned_1 : List UInt8 := dkwX13_owned_1 ++ []
def dkwX13_owned_0 : List UInt8 := [3, 61, 3, 62, 29, 17, 0, 192, 162, 0, 27, 28, 42, 180, 0, 7, 29, 46, 27, 160, 0, 7, 4]
abbrev dktX13_owned_0 : List UInt8 := dkwX13_owned_0 ++ dktX13_owned_1
theorem dksX13_owned_0 : cX13_owned.data.toList.drop 0 = dktX13_owned_0 := by decide +kernel
theorem dksX13_owned_1 : cX13_owned.data.toList.drop 23 = dktX13_owned_1 := dk_seg dksX13_owned_0 23 rfl rfl
theorem dX13_owned_0 : decode cX13_owned 0 = .ok (.iconst 0, 1) := dk_3 (dk_at dksX13_owned_0 0 rfl rfl)
theorem dX13_owned_1 : decode cX13_owned 1 = .ok (.istore_n 2, 1) := dk_61 (dk_at dksX13_owned_0 1 rfl rfl)
theorem dX13_owned_2 : decode cX13_owned 2 = .ok (.iconst 0, 1) := dk_3 (dk_at dksX13_owned_0 2 rfl rfl)
theorem dX13_owned_3 : decode cX13_owned 3 = .ok (.istore_n 3, 1) := dk_62 (dk_at dksX13_owned_0 3 rfl rfl)
theorem dX13_owned_4 : decode cX13_owned 4 = .ok (.iload_n 3, 1) := dk_29 (dk_at dksX13_owned_0 4 rfl rfl)
theorem dX13_owned_5 : decode cX13_owned 5 = .ok (.sipush 192, 3) := dk_17 0 192 (dk_at dksX13_owned_0 5 rfl rfl)
theorem dX13_owned_8 : decode cX13_owned 8 = .ok (.if_icmp .ge 27, 3) := dk_162 0 27 (dk_at dksX13_owned_0 8 rfl rfl)
theorem dX13_owned_11 : decode cX13_owned 11 = .ok (.iload_n 2, 1) := dk_28 (dk_at dksX13_owned_0 11 rfl rfl)
theorem dX13_owned_12 : decode cX13_owned 12 = .ok (.aload_n 0, 1) := dk_42 (dk_at dksX13_owned_0 12 rfl rfl)
theorem dX13_owned_13 : decode cX13_owned 13 = .ok (.getfield 7, 3) := dk_180 0 7 (dk_at dksX13_owned_0 13 rfl rfl)
theorem dX13_owned_16 : decode cX13_owned 16 = .ok (.iload_n 3, 1) := dk_29 (dk_at dksX13_owned_0 16 rfl rfl)
theorem dX13_owned_17 : decode cX13_owned 17 = .ok (.iaload, 1) := dk_46 (dk_at dksX13_owned_0 17 rfl rfl)
theorem dX13_owned_18 : decode cX13_owned 18 = .ok (.iload_n 1, 1) := dk_27 (dk_at dksX13_owned_0 18 rfl rfl)
theorem dX13_owned_19 : decode cX13_owned 19 = .ok (.if_icmp .ne 7, 3) := dk_160 0 7 (dk_at dksX13_owned_0 19 rfl rfl)
theorem dX13_owned_22 : decode cX13_owned 22 = .ok (.iconst 1, 1) := dk_4 (dk_at dksX13_owned_0 22 rfl rfl)
theorem dX13_owned_23 : decode cX13_owned 23 = .ok (.goto 4, 3) := dk_167 0 4 (dk_at dksX13_owned_1 0 rfl rfl)
theorem dX13_owned_26 : decode cX13_owned 26 = .ok (.iconst 0, 1) := dk_3 (dk_at dksX13_owned_1 3 rfl rfl)
theorem dX13_owned_27 : decode cX13_owned 27 = .ok (.iadd, 1) := dk_96 (dk_at dksX13_owned_1 4 rfl rfl)
theorem dX13_owned_28 : decode cX13_owned 28 = .ok (.istore_n 2, 1) := dk_61 (dk_at dksX13_owned_1 5 rfl rfl)
theorem dX13_owned_29 : decode cX13_owned 29 = .ok (.iinc 3 1, 3) := dk_132 3 1 (dk_at dksX13_owned_1 6 rfl rfl)
theorem dX13_owned_32 : decode cX13_owned 32 = .ok (.goto (-28), 3) := dk_167 255 228 (dk_at dksX13_owned_1 9 rfl rfl)
theorem dX13_owned_35 : decode cX13_owned 35 = .ok (.iload_n 2, 1) := dk_28 (dk_at dksX13_owned_1 12 rfl rfl)
theorem dX13_owned_36 : decode cX13_owned 36 = .ok (.ireturn, 1) := dk_172 (dk_at dksX13_owned_1 13 rfl rfl)
abbrev cX13_room : ByteArray := prog_18_method_14_code
def yX13_room : MethodName := ⟨RX13, "room", "(I)I"⟩
def dkwX13_room_3 : List UInt8 := [172]
abbrev dktX13_room_3 : List UInt8 := dkwX13_room_3 ++ []
def dkwX13_room_2 : List UInt8 := [132, 5, 1, 167, 255, 224, 21, 4, 153, 0, 7, 29, 167, 0, 4, 28, 61, 132, 3, 255, 167, 255, 197, 28]
abbrev dktX13_room_2 : List UInt8 := dkwX13_room_2 ++ dktX13_room_3
def dkwX13_room_1 : List UInt8 := [21, 4, 153, 0, 18, 42, 29, 21, 5, 96, 182, 0, 77, 153, 0, 7, 4, 167, 0, 4, 3, 54, 4]
abbrev dktX13_room_1 : List UInt8 := dkwX13_room_1 ++ dktX13_room_2
def dkwX13_room_0 : List UInt8 := [2, 61, 17, 0, 192, 27, 100, 62, 29, 155, 0, 61, 4, 54, 4, 3, 54, 5, 21, 5, 27, 162, 0, 32]
abbrev dktX13_room_0 : List UInt8 := dkwX13_room_0 ++ dktX13_room_1
theorem dksX13_room_0 : cX13_room.data.toList.drop 0 = dktX13_room_0 := by decide +kernel
theorem dksX13_room_1 : cX13_room.data.toList.drop 24 = dktX13_room_1 := dk_seg dksX13_room_0 24 rfl rfl
theorem dksX13_room_2 : cX13_room.data.toList.drop 47 = dktX13_room_2 := dk_seg dksX13_room_1 23 rfl rfl
theorem dksX13_room_3 : cX13_room.data.toList.drop 71 = dktX13_room_3 := dk_seg dksX13_room_2 24 rfl rfl
theorem dX13_room_0 : decode cX13_room 0 = .ok (.iconst (-1), 1) := dk_2 (dk_at dksX13_room_0 0 rfl rfl)
theorem dX13_room_1 : decode cX13_room 1 = .ok (.istore_n 2, 1) := dk_61 (dk_at dksX13_room_0 1 rfl rfl)
theorem dX13_room_2 : decode cX13_room 2 = .ok (.sipush 192, 3) := dk_17 0 192 (dk_at dksX13_room_0 2 rfl rfl)
theorem dX13_room_5 : decode cX13_room 5 = .ok (.iload_n 1, 1) := dk_27 (dk_at dksX13_room_0 5 rfl rfl)
theorem dX13_room_6 : decode cX13_room 6 = .ok (.isub, 1) := dk_100 (dk_at dksX13_room_0 6 rfl rfl)
theorem dX13_room_7 : decode cX13_room 7 = .ok (.istore_n 3, 1) := dk_62 (dk_at dksX13_room_0 7 rfl rfl)
theorem dX13_room_8 : decode cX13_room 8 = .ok (.iload_n 3, 1) := dk_29 (dk_at dksX13_room_0 8 rfl rfl)
theorem dX13_room_9 : decode cX13_room 9 = .ok (.ifCond .lt 61, 3) := dk_155 0 61 (dk_at dksX13_room_0 9 rfl rfl)
theorem dX13_room_12 : decode cX13_room 12 = .ok (.iconst 1, 1) := dk_4 (dk_at dksX13_room_0 12 rfl rfl)
theorem dX13_room_13 : decode cX13_room 13 = .ok (.istore 4, 2) := dk_54 4 (dk_at dksX13_room_0 13 rfl rfl)
theorem dX13_room_15 : decode cX13_room 15 = .ok (.iconst 0, 1) := dk_3 (dk_at dksX13_room_0 15 rfl rfl)
theorem dX13_room_16 : decode cX13_room 16 = .ok (.istore 5, 2) := dk_54 5 (dk_at dksX13_room_0 16 rfl rfl)
theorem dX13_room_18 : decode cX13_room 18 = .ok (.iload 5, 2) := dk_21 5 (dk_at dksX13_room_0 18 rfl rfl)
theorem dX13_room_20 : decode cX13_room 20 = .ok (.iload_n 1, 1) := dk_27 (dk_at dksX13_room_0 20 rfl rfl)
theorem dX13_room_21 : decode cX13_room 21 = .ok (.if_icmp .ge 32, 3) := dk_162 0 32 (dk_at dksX13_room_0 21 rfl rfl)
theorem dX13_room_24 : decode cX13_room 24 = .ok (.iload 4, 2) := dk_21 4 (dk_at dksX13_room_1 0 rfl rfl)
theorem dX13_room_26 : decode cX13_room 26 = .ok (.ifCond .eq 18, 3) := dk_153 0 18 (dk_at dksX13_room_1 2 rfl rfl)
theorem dX13_room_29 : decode cX13_room 29 = .ok (.aload_n 0, 1) := dk_42 (dk_at dksX13_room_1 5 rfl rfl)
theorem dX13_room_30 : decode cX13_room 30 = .ok (.iload_n 3, 1) := dk_29 (dk_at dksX13_room_1 6 rfl rfl)
theorem dX13_room_31 : decode cX13_room 31 = .ok (.iload 5, 2) := dk_21 5 (dk_at dksX13_room_1 7 rfl rfl)
theorem dX13_room_33 : decode cX13_room 33 = .ok (.iadd, 1) := dk_96 (dk_at dksX13_room_1 9 rfl rfl)
theorem dX13_room_34 : decode cX13_room 34 = .ok (.invokevirtual 77, 3) := dk_182 0 77 (dk_at dksX13_room_1 10 rfl rfl)
theorem dX13_room_37 : decode cX13_room 37 = .ok (.ifCond .eq 7, 3) := dk_153 0 7 (dk_at dksX13_room_1 13 rfl rfl)
theorem dX13_room_40 : decode cX13_room 40 = .ok (.iconst 1, 1) := dk_4 (dk_at dksX13_room_1 16 rfl rfl)
theorem dX13_room_41 : decode cX13_room 41 = .ok (.goto 4, 3) := dk_167 0 4 (dk_at dksX13_room_1 17 rfl rfl)
theorem dX13_room_44 : decode cX13_room 44 = .ok (.iconst 0, 1) := dk_3 (dk_at dksX13_room_1 20 rfl rfl)
theorem dX13_room_45 : decode cX13_room 45 = .ok (.istore 4, 2) := dk_54 4 (dk_at dksX13_room_1 21 rfl rfl)
theorem dX13_room_47 : decode cX13_room 47 = .ok (.iinc 5 1, 3) := dk_132 5 1 (dk_at dksX13_room_2 0 rfl rfl)
theorem dX13_room_50 : decode cX13_room 50 = .ok (.goto (-32), 3) := dk_167 255 224 (dk_at dksX13_room_2 3 rfl rfl)
theorem dX13_room_53 : decode cX13_room 53 = .ok (.iload 4, 2) := dk_21 4 (dk_at dksX13_room_2 6 rfl rfl)
theorem dX13_room_55 : decode cX13_room 55 = .ok (.ifCond .eq 7, 3) := dk_153 0 7 (dk_at dksX13_room_2 8 rfl rfl)
theorem dX13_room_58 : decode cX13_room 58 = .ok (.iload_n 3, 1) := dk_29 (dk_at dksX13_room_2 11 rfl rfl)
theorem dX13_room_59 : decode cX13_room 59 = .ok (.goto 4, 3) := dk_167 0 4 (dk_at dksX13_room_2 12 rfl rfl)
theorem dX13_room_62 : decode cX13_room 62 = .ok (.iload_n 2, 1) := dk_28 (dk_at dksX13_room_2 15 rfl rfl)
theorem dX13_room_63 : decode cX13_room 63 = .ok (.istore_n 2, 1) := dk_61 (dk_at dksX13_room_2 16 rfl rfl)
theorem dX13_room_64 : decode cX13_room 64 = .ok (.iinc 3 (-1), 3) := dk_132 3 255 (dk_at dksX13_room_2 17 rfl rfl)
theorem dX13_room_67 : decode cX13_room 67 = .ok (.goto (-59), 3) := dk_167 255 197 (dk_at dksX13_room_2 20 rfl rfl)
theorem dX13_room_70 : decode cX13_room 70 = .ok (.iload_n 2, 1) := dk_28 (dk_at dksX13_room_2 23 rfl rfl)
theorem dX13_room_71 : decode cX13_room 71 = .ok (.ireturn, 1) := dk_172 (dk_at dksX13_room_3 0 rfl rfl)
abbrev cX13_isFree : ByteArray := prog_18_method_13_code
def yX13_isFree : MethodName := ⟨RX13, "isFree", "(I)Z"⟩
def dkwX13_isFree_1 : List UInt8 := [3, 172]
abbrev dktX13_isFree_1 : List UInt8 := dkwX13_isFree_1 ++ []
def dkwX13_isFree_0 : List UInt8 := [42, 180, 0, 7, 27, 46, 156, 0, 18, 42, 180, 0, 13, 27, 46, 16, 7, 162, 0, 7, 4, 167, 0, 4]
abbrev dktX13_isFree_0 : List UInt8 := dkwX13_isFree_0 ++ dktX13_isFree_1
theorem dksX13_isFree_0 : cX13_isFree.data.toList.drop 0 = dktX13_isFree_0 := by decide +kernel
theorem dksX13_isFree_1 : cX13_isFree.data.toList.drop 24 = dktX13_isFree_1 := dk_seg dksX13_isFree_0 24 rfl rfl
theorem dX13_isFree_0 : decode cX13_isFree 0 = .ok (.aload_n 0, 1) := dk_42 (dk_at dksX13_isFree_0 0 rfl rfl)
theorem dX13_isFree_1 : decode cX13_isFree 1 = .ok (.getfield 7, 3) := dk_180 0 7 (dk_at dksX13_isFree_0 1 rfl rfl)
theorem dX13_isFree_4 : decode cX13_isFree 4 = .ok (.iload_n 1, 1) := dk_27 (dk_at dksX13_isFree_0 4 rfl rfl)
theorem dX13_isFree_5 : decode cX13_isFree 5 = .ok (.iaload, 1) := dk_46 (dk_at dksX13_isFree_0 5 rfl rfl)
theorem dX13_isFree_6 : decode cX13_isFree 6 = .ok (.ifCond .ge 18, 3) := dk_156 0 18 (dk_at dksX13_isFree_0 6 rfl rfl)
theorem dX13_isFree_9 : decode cX13_isFree 9 = .ok (.aload_n 0, 1) := dk_42 (dk_at dksX13_isFree_0 9 rfl rfl)
theorem dX13_isFree_10 : decode cX13_isFree 10 = .ok (.getfield 13, 3) := dk_180 0 13 (dk_at dksX13_isFree_0 10 rfl rfl)
theorem dX13_isFree_13 : decode cX13_isFree 13 = .ok (.iload_n 1, 1) := dk_27 (dk_at dksX13_isFree_0 13 rfl rfl)
theorem dX13_isFree_14 : decode cX13_isFree 14 = .ok (.iaload, 1) := dk_46 (dk_at dksX13_isFree_0 14 rfl rfl)
theorem dX13_isFree_15 : decode cX13_isFree 15 = .ok (.bipush 7, 2) := dk_16 7 (dk_at dksX13_isFree_0 15 rfl rfl)
theorem dX13_isFree_17 : decode cX13_isFree 17 = .ok (.if_icmp .ge 7, 3) := dk_162 0 7 (dk_at dksX13_isFree_0 17 rfl rfl)
theorem dX13_isFree_20 : decode cX13_isFree 20 = .ok (.iconst 1, 1) := dk_4 (dk_at dksX13_isFree_0 20 rfl rfl)
theorem dX13_isFree_21 : decode cX13_isFree 21 = .ok (.goto 4, 3) := dk_167 0 4 (dk_at dksX13_isFree_0 21 rfl rfl)
theorem dX13_isFree_24 : decode cX13_isFree 24 = .ok (.iconst 0, 1) := dk_3 (dk_at dksX13_isFree_1 0 rfl rfl)
theorem dX13_isFree_25 : decode cX13_isFree 25 = .ok (.ireturn, 1) := dk_172 (dk_at dksX13_isFree_1 1 rfl rfl)
abbrev cX13_own : ByteArray := prog_18_method_16_code
def yX13_own : MethodName := ⟨RX13, "own", "(II)V"⟩
def dkwX13_own_1 : List UInt8 := [181, 0, 80, 177]
abbrev dktX13_own_1 : List UInt8 := dkwX13_own_1 ++ []
def dkwX13_own_0 : List UInt8 := [42, 180, 0, 7, 27, 28, 79, 42, 180, 0, 19, 27, 42, 180, 0, 80, 79, 42, 89, 180, 0, 80, 4, 96]
abbrev dktX13_own_0 : List UInt8 := dkwX13_own_0 ++ dktX13_own_1
theorem dksX13_own_0 : cX13_own.data.toList.drop 0 = dktX13_own_0 := by decide +kernel
theorem dksX13_own_1 : cX13_own.data.toList.drop 24 = dktX13_own_1 := dk_seg dksX13_own_0 24 rfl rfl
theorem dX13_own_0 : decode cX13_own 0 = .ok (.aload_n 0, 1) := dk_42 (dk_at dksX13_own_0 0 rfl rfl)
theorem dX13_own_1 : decode cX13_own 1 = .ok (.getfield 7, 3) := dk_180 0 7 (dk_at dksX13_own_0 1 rfl rfl)
theorem dX13_own_4 : decode cX13_own 4 = .ok (.iload_n 1, 1) := dk_27 (dk_at dksX13_own_0 4 rfl rfl)
theorem dX13_own_5 : decode cX13_own 5 = .ok (.iload_n 2, 1) := dk_28 (dk_at dksX13_own_0 5 rfl rfl)
theorem dX13_own_6 : decode cX13_own 6 = .ok (.iastore, 1) := dk_79 (dk_at dksX13_own_0 6 rfl rfl)
theorem dX13_own_7 : decode cX13_own 7 = .ok (.aload_n 0, 1) := dk_42 (dk_at dksX13_own_0 7 rfl rfl)
theorem dX13_own_8 : decode cX13_own 8 = .ok (.getfield 19, 3) := dk_180 0 19 (dk_at dksX13_own_0 8 rfl rfl)
theorem dX13_own_11 : decode cX13_own 11 = .ok (.iload_n 1, 1) := dk_27 (dk_at dksX13_own_0 11 rfl rfl)
theorem dX13_own_12 : decode cX13_own 12 = .ok (.aload_n 0, 1) := dk_42 (dk_at dksX13_own_0 12 rfl rfl)
theorem dX13_own_13 : decode cX13_own 13 = .ok (.getfield 80, 3) := dk_180 0 80 (dk_at dksX13_own_0 13 rfl rfl)
theorem dX13_own_16 : decode cX13_own 16 = .ok (.iastore, 1) := dk_79 (dk_at dksX13_own_0 16 rfl rfl)
theorem dX13_own_17 : decode cX13_own 17 = .ok (.aload_n 0, 1) := dk_42 (dk_at dksX13_own_0 17 rfl rfl)
theorem dX13_own_18 : decode cX13_own 18 = .ok (.dup, 1) := dk_89 (dk_at dksX13_own_0 18 rfl rfl)
theorem dX13_own_19 : decode cX13_own 19 = .ok (.getfield 80, 3) := dk_180 0 80 (dk_at dksX13_own_0 19 rfl rfl)
theorem dX13_own_22 : decode cX13_own 22 = .ok (.iconst 1, 1) := dk_4 (dk_at dksX13_own_0 22 rfl rfl)
theorem dX13_own_23 : decode cX13_own 23 = .ok (.iadd, 1) := dk_96 (dk_at dksX13_own_0 23 rfl rfl)
theorem dX13_own_24 : decode cX13_own 24 = .ok (.putfield 80, 3) := dk_181 0 80 (dk_at dksX13_own_1 0 rfl rfl)
theorem dX13_own_27 : decode cX13_own 27 = .ok (.return_, 1) := dk_177 (dk_at dksX13_own_1 3 rfl rfl)
abbrev cX13_keyOf : ByteArray := prog_18_method_15_code
def yX13_keyOf : MethodName := ⟨RX13, "keyOf", "(II)I"⟩
def dkwX13_keyOf_0 : List UInt8 := [17, 4, 0, 26, 104, 5, 27, 104, 96, 172]
abbrev dktX13_keyOf_0 : List UInt8 := dkwX13_keyOf_0 ++ []
theorem dksX13_keyOf_0 : cX13_keyOf.data.toList.drop 0 = dktX13_keyOf_0 := by decide +kernel
theorem dX13_keyOf_0 : decode cX13_keyOf 0 = .ok (.sipush 1024, 3) := dk_17 4 0 (dk_at dksX13_keyOf_0 0 rfl rfl)
theorem dX13_keyOf_3 : decode cX13_keyOf 3 = .ok (.iload_n 0, 1) := dk_26 (dk_at dksX13_keyOf_0 3 rfl rfl)
theorem dX13_keyOf_4 : decode cX13_keyOf 4 = .ok (.imul, 1) := dk_104 (dk_at dksX13_keyOf_0 4 rfl rfl)
theorem dX13_keyOf_5 : decode cX13_keyOf 5 = .ok (.iconst 2, 1) := dk_5 (dk_at dksX13_keyOf_0 5 rfl rfl)
theorem dX13_keyOf_6 : decode cX13_keyOf 6 = .ok (.iload_n 1, 1) := dk_27 (dk_at dksX13_keyOf_0 6 rfl rfl)
theorem dX13_keyOf_7 : decode cX13_keyOf 7 = .ok (.imul, 1) := dk_104 (dk_at dksX13_keyOf_0 7 rfl rfl)
theorem dX13_keyOf_8 : decode cX13_keyOf 8 = .ok (.iadd, 1) := dk_96 (dk_at dksX13_keyOf_0 8 rfl rfl)
theorem dX13_keyOf_9 : decode cX13_keyOf 9 = .ok (.ireturn, 1) := dk_172 (dk_at dksX13_keyOf_0 9 rfl rfl)
abbrev cX13_buyRun : ByteArray := prog_18_method_19_code
def yX13_buyRun : MethodName := ⟨RX13, "buyRun", "(II)I"⟩
def dkwX13_buyRun_2 : List UInt8 := [182, 0, 99, 172]
abbrev dktX13_buyRun_2 : List UInt8 := dkwX13_buyRun_2 ++ []
def dkwX13_buyRun_1 : List UInt8 := [167, 0, 4, 5, 181, 0, 45, 42, 180, 0, 45, 158, 0, 7, 3, 167, 0, 10, 42, 27, 28, 6]
abbrev dktX13_buyRun_1 : List UInt8 := dkwX13_buyRun_1 ++ dktX13_buyRun_2
def dkwX13_buyRun_0 : List UInt8 := [42, 42, 27, 182, 0, 63, 154, 0, 7, 4, 167, 0, 18, 28, 4, 16, 16, 184, 0, 48, 153, 0, 7, 3]
abbrev dktX13_buyRun_0 : List UInt8 := dkwX13_buyRun_0 ++ dktX13_buyRun_1
theorem dksX13_buyRun_0 : cX13_buyRun.data.toList.drop 0 = dktX13_buyRun_0 := by decide +kernel
theorem dksX13_buyRun_1 : cX13_buyRun.data.toList.drop 24 = dktX13_buyRun_1 := dk_seg dksX13_buyRun_0 24 rfl rfl
theorem dksX13_buyRun_2 : cX13_buyRun.data.toList.drop 46 = dktX13_buyRun_2 := dk_seg dksX13_buyRun_1 22 rfl rfl
theorem dX13_buyRun_0 : decode cX13_buyRun 0 = .ok (.aload_n 0, 1) := dk_42 (dk_at dksX13_buyRun_0 0 rfl rfl)
theorem dX13_buyRun_1 : decode cX13_buyRun 1 = .ok (.aload_n 0, 1) := dk_42 (dk_at dksX13_buyRun_0 1 rfl rfl)
theorem dX13_buyRun_2 : decode cX13_buyRun 2 = .ok (.iload_n 1, 1) := dk_27 (dk_at dksX13_buyRun_0 2 rfl rfl)
theorem dX13_buyRun_3 : decode cX13_buyRun 3 = .ok (.invokevirtual 63, 3) := dk_182 0 63 (dk_at dksX13_buyRun_0 3 rfl rfl)
theorem dX13_buyRun_6 : decode cX13_buyRun 6 = .ok (.ifCond .ne 7, 3) := dk_154 0 7 (dk_at dksX13_buyRun_0 6 rfl rfl)
theorem dX13_buyRun_9 : decode cX13_buyRun 9 = .ok (.iconst 1, 1) := dk_4 (dk_at dksX13_buyRun_0 9 rfl rfl)
theorem dX13_buyRun_10 : decode cX13_buyRun 10 = .ok (.goto 18, 3) := dk_167 0 18 (dk_at dksX13_buyRun_0 10 rfl rfl)
theorem dX13_buyRun_13 : decode cX13_buyRun 13 = .ok (.iload_n 2, 1) := dk_28 (dk_at dksX13_buyRun_0 13 rfl rfl)
theorem dX13_buyRun_14 : decode cX13_buyRun 14 = .ok (.iconst 1, 1) := dk_4 (dk_at dksX13_buyRun_0 14 rfl rfl)
theorem dX13_buyRun_15 : decode cX13_buyRun 15 = .ok (.bipush 16, 2) := dk_16 16 (dk_at dksX13_buyRun_0 15 rfl rfl)
theorem dX13_buyRun_17 : decode cX13_buyRun 17 = .ok (.invokestatic 48, 3) := dk_184 0 48 (dk_at dksX13_buyRun_0 17 rfl rfl)
theorem dX13_buyRun_20 : decode cX13_buyRun 20 = .ok (.ifCond .eq 7, 3) := dk_153 0 7 (dk_at dksX13_buyRun_0 20 rfl rfl)
theorem dX13_buyRun_23 : decode cX13_buyRun 23 = .ok (.iconst 0, 1) := dk_3 (dk_at dksX13_buyRun_0 23 rfl rfl)
theorem dX13_buyRun_24 : decode cX13_buyRun 24 = .ok (.goto 4, 3) := dk_167 0 4 (dk_at dksX13_buyRun_1 0 rfl rfl)
theorem dX13_buyRun_27 : decode cX13_buyRun 27 = .ok (.iconst 2, 1) := dk_5 (dk_at dksX13_buyRun_1 3 rfl rfl)
theorem dX13_buyRun_28 : decode cX13_buyRun 28 = .ok (.putfield 45, 3) := dk_181 0 45 (dk_at dksX13_buyRun_1 4 rfl rfl)
theorem dX13_buyRun_31 : decode cX13_buyRun 31 = .ok (.aload_n 0, 1) := dk_42 (dk_at dksX13_buyRun_1 7 rfl rfl)
theorem dX13_buyRun_32 : decode cX13_buyRun 32 = .ok (.getfield 45, 3) := dk_180 0 45 (dk_at dksX13_buyRun_1 8 rfl rfl)
theorem dX13_buyRun_35 : decode cX13_buyRun 35 = .ok (.ifCond .le 7, 3) := dk_158 0 7 (dk_at dksX13_buyRun_1 11 rfl rfl)
theorem dX13_buyRun_38 : decode cX13_buyRun 38 = .ok (.iconst 0, 1) := dk_3 (dk_at dksX13_buyRun_1 14 rfl rfl)
theorem dX13_buyRun_39 : decode cX13_buyRun 39 = .ok (.goto 10, 3) := dk_167 0 10 (dk_at dksX13_buyRun_1 15 rfl rfl)
theorem dX13_buyRun_42 : decode cX13_buyRun 42 = .ok (.aload_n 0, 1) := dk_42 (dk_at dksX13_buyRun_1 18 rfl rfl)
theorem dX13_buyRun_43 : decode cX13_buyRun 43 = .ok (.iload_n 1, 1) := dk_27 (dk_at dksX13_buyRun_1 19 rfl rfl)
theorem dX13_buyRun_44 : decode cX13_buyRun 44 = .ok (.iload_n 2, 1) := dk_28 (dk_at dksX13_buyRun_1 20 rfl rfl)
theorem dX13_buyRun_45 : decode cX13_buyRun 45 = .ok (.iconst 3, 1) := dk_6 (dk_at dksX13_buyRun_1 21 rfl rfl)
theorem dX13_buyRun_46 : decode cX13_buyRun 46 = .ok (.invokevirtual 99, 3) := dk_182 0 99 (dk_at dksX13_buyRun_2 0 rfl rfl)
theorem dX13_buyRun_49 : decode cX13_buyRun 49 = .ok (.ireturn, 1) := dk_172 (dk_at dksX13_buyRun_2 3 rfl rfl)
abbrev cX13_runKey : ByteArray := prog_18_method_23_code
def yX13_runKey : MethodName := ⟨RX13, "runKey", "(II)I"⟩
def dkwX13_runKey_5 : List UInt8 := [180, 0, 13, 29, 46, 29, 184, 0, 96, 167, 0, 4, 3, 172]
abbrev dktX13_runKey_5 : List UInt8 := dkwX13_runKey_5 ++ []
def dkwX13_runKey_4 : List UInt8 := [180, 0, 7, 29, 46, 46, 5, 159, 0, 7, 4, 167, 0, 4, 3, 54, 4, 21, 4, 153, 0, 16, 42]
abbrev dktX13_runKey_4 : List UInt8 := dkwX13_runKey_4 ++ dktX13_runKey_5
def dkwX13_runKey_3 : List UInt8 := [180, 0, 16, 29, 46, 42, 180, 0, 16, 27, 184, 0, 103, 46, 160, 0, 22, 42, 180, 0, 35, 42]
abbrev dktX13_runKey_3 : List UInt8 := dkwX13_runKey_3 ++ dktX13_runKey_4
def dkwX13_runKey_2 : List UInt8 := [184, 0, 103, 28, 96, 62, 29, 17, 0, 192, 162, 0, 49, 42, 180, 0, 7, 29, 46, 155, 0, 40, 42]
abbrev dktX13_runKey_2 : List UInt8 := dkwX13_runKey_2 ++ dktX13_runKey_3
def dkwX13_runKey_1 : List UInt8 := [184, 0, 48, 154, 0, 7, 5, 167, 0, 4, 3, 181, 0, 45, 42, 180, 0, 45, 158, 0, 5, 3, 172, 27]
abbrev dktX13_runKey_1 : List UInt8 := dkwX13_runKey_1 ++ dktX13_runKey_2
def dkwX13_runKey_0 : List UInt8 := [42, 42, 27, 182, 0, 106, 154, 0, 7, 4, 167, 0, 25, 27, 184, 0, 109, 154, 0, 13, 28, 3, 16, 15]
abbrev dktX13_runKey_0 : List UInt8 := dkwX13_runKey_0 ++ dktX13_runKey_1
theorem dksX13_runKey_0 : cX13_runKey.data.toList.drop 0 = dktX13_runKey_0 := by decide +kernel
theorem dksX13_runKey_1 : cX13_runKey.data.toList.drop 24 = dktX13_runKey_1 := dk_seg dksX13_runKey_0 24 rfl rfl
theorem dksX13_runKey_2 : cX13_runKey.data.toList.drop 48 = dktX13_runKey_2 := dk_seg dksX13_runKey_1 24 rfl rfl
theorem dksX13_runKey_3 : cX13_runKey.data.toList.drop 71 = dktX13_runKey_3 := dk_seg dksX13_runKey_2 23 rfl rfl
theorem dksX13_runKey_4 : cX13_runKey.data.toList.drop 93 = dktX13_runKey_4 := dk_seg dksX13_runKey_3 22 rfl rfl
theorem dksX13_runKey_5 : cX13_runKey.data.toList.drop 116 = dktX13_runKey_5 := dk_seg dksX13_runKey_4 23 rfl rfl
theorem dX13_runKey_0 : decode cX13_runKey 0 = .ok (.aload_n 0, 1) := dk_42 (dk_at dksX13_runKey_0 0 rfl rfl)
theorem dX13_runKey_1 : decode cX13_runKey 1 = .ok (.aload_n 0, 1) := dk_42 (dk_at dksX13_runKey_0 1 rfl rfl)
theorem dX13_runKey_2 : decode cX13_runKey 2 = .ok (.iload_n 1, 1) := dk_27 (dk_at dksX13_runKey_0 2 rfl rfl)
theorem dX13_runKey_3 : decode cX13_runKey 3 = .ok (.invokevirtual 106, 3) := dk_182 0 106 (dk_at dksX13_runKey_0 3 rfl rfl)
theorem dX13_runKey_6 : decode cX13_runKey 6 = .ok (.ifCond .ne 7, 3) := dk_154 0 7 (dk_at dksX13_runKey_0 6 rfl rfl)
theorem dX13_runKey_9 : decode cX13_runKey 9 = .ok (.iconst 1, 1) := dk_4 (dk_at dksX13_runKey_0 9 rfl rfl)
theorem dX13_runKey_10 : decode cX13_runKey 10 = .ok (.goto 25, 3) := dk_167 0 25 (dk_at dksX13_runKey_0 10 rfl rfl)
theorem dX13_runKey_13 : decode cX13_runKey 13 = .ok (.iload_n 1, 1) := dk_27 (dk_at dksX13_runKey_0 13 rfl rfl)
theorem dX13_runKey_14 : decode cX13_runKey 14 = .ok (.invokestatic 109, 3) := dk_184 0 109 (dk_at dksX13_runKey_0 14 rfl rfl)
theorem dX13_runKey_17 : decode cX13_runKey 17 = .ok (.ifCond .ne 13, 3) := dk_154 0 13 (dk_at dksX13_runKey_0 17 rfl rfl)
theorem dX13_runKey_20 : decode cX13_runKey 20 = .ok (.iload_n 2, 1) := dk_28 (dk_at dksX13_runKey_0 20 rfl rfl)
theorem dX13_runKey_21 : decode cX13_runKey 21 = .ok (.iconst 0, 1) := dk_3 (dk_at dksX13_runKey_0 21 rfl rfl)
theorem dX13_runKey_22 : decode cX13_runKey 22 = .ok (.bipush 15, 2) := dk_16 15 (dk_at dksX13_runKey_0 22 rfl rfl)
theorem dX13_runKey_24 : decode cX13_runKey 24 = .ok (.invokestatic 48, 3) := dk_184 0 48 (dk_at dksX13_runKey_1 0 rfl rfl)
theorem dX13_runKey_27 : decode cX13_runKey 27 = .ok (.ifCond .ne 7, 3) := dk_154 0 7 (dk_at dksX13_runKey_1 3 rfl rfl)
theorem dX13_runKey_30 : decode cX13_runKey 30 = .ok (.iconst 2, 1) := dk_5 (dk_at dksX13_runKey_1 6 rfl rfl)
theorem dX13_runKey_31 : decode cX13_runKey 31 = .ok (.goto 4, 3) := dk_167 0 4 (dk_at dksX13_runKey_1 7 rfl rfl)
theorem dX13_runKey_34 : decode cX13_runKey 34 = .ok (.iconst 0, 1) := dk_3 (dk_at dksX13_runKey_1 10 rfl rfl)
theorem dX13_runKey_35 : decode cX13_runKey 35 = .ok (.putfield 45, 3) := dk_181 0 45 (dk_at dksX13_runKey_1 11 rfl rfl)
theorem dX13_runKey_38 : decode cX13_runKey 38 = .ok (.aload_n 0, 1) := dk_42 (dk_at dksX13_runKey_1 14 rfl rfl)
theorem dX13_runKey_39 : decode cX13_runKey 39 = .ok (.getfield 45, 3) := dk_180 0 45 (dk_at dksX13_runKey_1 15 rfl rfl)
theorem dX13_runKey_42 : decode cX13_runKey 42 = .ok (.ifCond .le 5, 3) := dk_158 0 5 (dk_at dksX13_runKey_1 18 rfl rfl)
theorem dX13_runKey_45 : decode cX13_runKey 45 = .ok (.iconst 0, 1) := dk_3 (dk_at dksX13_runKey_1 21 rfl rfl)
theorem dX13_runKey_46 : decode cX13_runKey 46 = .ok (.ireturn, 1) := dk_172 (dk_at dksX13_runKey_1 22 rfl rfl)
theorem dX13_runKey_47 : decode cX13_runKey 47 = .ok (.iload_n 1, 1) := dk_27 (dk_at dksX13_runKey_1 23 rfl rfl)
theorem dX13_runKey_48 : decode cX13_runKey 48 = .ok (.invokestatic 103, 3) := dk_184 0 103 (dk_at dksX13_runKey_2 0 rfl rfl)
theorem dX13_runKey_51 : decode cX13_runKey 51 = .ok (.iload_n 2, 1) := dk_28 (dk_at dksX13_runKey_2 3 rfl rfl)
theorem dX13_runKey_52 : decode cX13_runKey 52 = .ok (.iadd, 1) := dk_96 (dk_at dksX13_runKey_2 4 rfl rfl)
theorem dX13_runKey_53 : decode cX13_runKey 53 = .ok (.istore_n 3, 1) := dk_62 (dk_at dksX13_runKey_2 5 rfl rfl)
theorem dX13_runKey_54 : decode cX13_runKey 54 = .ok (.iload_n 3, 1) := dk_29 (dk_at dksX13_runKey_2 6 rfl rfl)
theorem dX13_runKey_55 : decode cX13_runKey 55 = .ok (.sipush 192, 3) := dk_17 0 192 (dk_at dksX13_runKey_2 7 rfl rfl)
theorem dX13_runKey_58 : decode cX13_runKey 58 = .ok (.if_icmp .ge 49, 3) := dk_162 0 49 (dk_at dksX13_runKey_2 10 rfl rfl)
theorem dX13_runKey_61 : decode cX13_runKey 61 = .ok (.aload_n 0, 1) := dk_42 (dk_at dksX13_runKey_2 13 rfl rfl)
theorem dX13_runKey_62 : decode cX13_runKey 62 = .ok (.getfield 7, 3) := dk_180 0 7 (dk_at dksX13_runKey_2 14 rfl rfl)
theorem dX13_runKey_65 : decode cX13_runKey 65 = .ok (.iload_n 3, 1) := dk_29 (dk_at dksX13_runKey_2 17 rfl rfl)
theorem dX13_runKey_66 : decode cX13_runKey 66 = .ok (.iaload, 1) := dk_46 (dk_at dksX13_runKey_2 18 rfl rfl)
theorem dX13_runKey_67 : decode cX13_runKey 67 = .ok (.ifCond .lt 40, 3) := dk_155 0 40 (dk_at dksX13_runKey_2 19 rfl rfl)
theorem dX13_runKey_70 : decode cX13_runKey 70 = .ok (.aload_n 0, 1) := dk_42 (dk_at dksX13_runKey_2 22 rfl rfl)
theorem dX13_runKey_71 : decode cX13_runKey 71 = .ok (.getfield 16, 3) := dk_180 0 16 (dk_at dksX13_runKey_3 0 rfl rfl)
theorem dX13_runKey_74 : decode cX13_runKey 74 = .ok (.iload_n 3, 1) := dk_29 (dk_at dksX13_runKey_3 3 rfl rfl)
theorem dX13_runKey_75 : decode cX13_runKey 75 = .ok (.iaload, 1) := dk_46 (dk_at dksX13_runKey_3 4 rfl rfl)
theorem dX13_runKey_76 : decode cX13_runKey 76 = .ok (.aload_n 0, 1) := dk_42 (dk_at dksX13_runKey_3 5 rfl rfl)
theorem dX13_runKey_77 : decode cX13_runKey 77 = .ok (.getfield 16, 3) := dk_180 0 16 (dk_at dksX13_runKey_3 6 rfl rfl)
theorem dX13_runKey_80 : decode cX13_runKey 80 = .ok (.iload_n 1, 1) := dk_27 (dk_at dksX13_runKey_3 9 rfl rfl)
theorem dX13_runKey_81 : decode cX13_runKey 81 = .ok (.invokestatic 103, 3) := dk_184 0 103 (dk_at dksX13_runKey_3 10 rfl rfl)
theorem dX13_runKey_84 : decode cX13_runKey 84 = .ok (.iaload, 1) := dk_46 (dk_at dksX13_runKey_3 13 rfl rfl)
theorem dX13_runKey_85 : decode cX13_runKey 85 = .ok (.if_icmp .ne 22, 3) := dk_160 0 22 (dk_at dksX13_runKey_3 14 rfl rfl)
theorem dX13_runKey_88 : decode cX13_runKey 88 = .ok (.aload_n 0, 1) := dk_42 (dk_at dksX13_runKey_3 17 rfl rfl)
theorem dX13_runKey_89 : decode cX13_runKey 89 = .ok (.getfield 35, 3) := dk_180 0 35 (dk_at dksX13_runKey_3 18 rfl rfl)
theorem dX13_runKey_92 : decode cX13_runKey 92 = .ok (.aload_n 0, 1) := dk_42 (dk_at dksX13_runKey_3 21 rfl rfl)
theorem dX13_runKey_93 : decode cX13_runKey 93 = .ok (.getfield 7, 3) := dk_180 0 7 (dk_at dksX13_runKey_4 0 rfl rfl)
theorem dX13_runKey_96 : decode cX13_runKey 96 = .ok (.iload_n 3, 1) := dk_29 (dk_at dksX13_runKey_4 3 rfl rfl)
theorem dX13_runKey_97 : decode cX13_runKey 97 = .ok (.iaload, 1) := dk_46 (dk_at dksX13_runKey_4 4 rfl rfl)
theorem dX13_runKey_98 : decode cX13_runKey 98 = .ok (.iaload, 1) := dk_46 (dk_at dksX13_runKey_4 5 rfl rfl)
theorem dX13_runKey_99 : decode cX13_runKey 99 = .ok (.iconst 2, 1) := dk_5 (dk_at dksX13_runKey_4 6 rfl rfl)
theorem dX13_runKey_100 : decode cX13_runKey 100 = .ok (.if_icmp .eq 7, 3) := dk_159 0 7 (dk_at dksX13_runKey_4 7 rfl rfl)
theorem dX13_runKey_103 : decode cX13_runKey 103 = .ok (.iconst 1, 1) := dk_4 (dk_at dksX13_runKey_4 10 rfl rfl)
theorem dX13_runKey_104 : decode cX13_runKey 104 = .ok (.goto 4, 3) := dk_167 0 4 (dk_at dksX13_runKey_4 11 rfl rfl)
theorem dX13_runKey_107 : decode cX13_runKey 107 = .ok (.iconst 0, 1) := dk_3 (dk_at dksX13_runKey_4 14 rfl rfl)
theorem dX13_runKey_108 : decode cX13_runKey 108 = .ok (.istore 4, 2) := dk_54 4 (dk_at dksX13_runKey_4 15 rfl rfl)
theorem dX13_runKey_110 : decode cX13_runKey 110 = .ok (.iload 4, 2) := dk_21 4 (dk_at dksX13_runKey_4 17 rfl rfl)
theorem dX13_runKey_112 : decode cX13_runKey 112 = .ok (.ifCond .eq 16, 3) := dk_153 0 16 (dk_at dksX13_runKey_4 19 rfl rfl)
theorem dX13_runKey_115 : decode cX13_runKey 115 = .ok (.aload_n 0, 1) := dk_42 (dk_at dksX13_runKey_4 22 rfl rfl)
theorem dX13_runKey_116 : decode cX13_runKey 116 = .ok (.getfield 13, 3) := dk_180 0 13 (dk_at dksX13_runKey_5 0 rfl rfl)
theorem dX13_runKey_119 : decode cX13_runKey 119 = .ok (.iload_n 3, 1) := dk_29 (dk_at dksX13_runKey_5 3 rfl rfl)
theorem dX13_runKey_120 : decode cX13_runKey 120 = .ok (.iaload, 1) := dk_46 (dk_at dksX13_runKey_5 4 rfl rfl)
theorem dX13_runKey_121 : decode cX13_runKey 121 = .ok (.iload_n 3, 1) := dk_29 (dk_at dksX13_runKey_5 5 rfl rfl)
theorem dX13_runKey_122 : decode cX13_runKey 122 = .ok (.invokestatic 96, 3) := dk_184 0 96 (dk_at dksX13_runKey_5 6 rfl rfl)
theorem dX13_runKey_125 : decode cX13_runKey 125 = .ok (.goto 4, 3) := dk_167 0 4 (dk_at dksX13_runKey_5 9 rfl rfl)
theorem dX13_runKey_128 : decode cX13_runKey 128 = .ok (.iconst 0, 1) := dk_3 (dk_at dksX13_runKey_5 12 rfl rfl)
theorem dX13_runKey_129 : decode cX13_runKey 129 = .ok (.ireturn, 1) := dk_172 (dk_at dksX13_runKey_5 13 rfl rfl)
abbrev cX13_lives : ByteArray := prog_18_method_22_code
def yX13_lives : MethodName := ⟨RX13, "lives", "(I)Z"⟩
def dkwX13_lives_2 : List UInt8 := [28, 46, 46, 5, 159, 0, 7, 4, 167, 0, 4, 3, 172]
abbrev dktX13_lives_2 : List UInt8 := dkwX13_lives_2 ++ []
def dkwX13_lives_1 : List UInt8 := [155, 0, 35, 42, 180, 0, 13, 28, 46, 27, 16, 10, 122, 160, 0, 22, 42, 180, 0, 35, 42, 180, 0, 7]
abbrev dktX13_lives_1 : List UInt8 := dkwX13_lives_1 ++ dktX13_lives_2
def dkwX13_lives_0 : List UInt8 := [27, 184, 0, 103, 61, 27, 158, 0, 51, 28, 17, 0, 192, 162, 0, 44, 42, 180, 0, 7, 28, 46]
abbrev dktX13_lives_0 : List UInt8 := dkwX13_lives_0 ++ dktX13_lives_1
theorem dksX13_lives_0 : cX13_lives.data.toList.drop 0 = dktX13_lives_0 := by decide +kernel
theorem dksX13_lives_1 : cX13_lives.data.toList.drop 22 = dktX13_lives_1 := dk_seg dksX13_lives_0 22 rfl rfl
theorem dksX13_lives_2 : cX13_lives.data.toList.drop 46 = dktX13_lives_2 := dk_seg dksX13_lives_1 24 rfl rfl
theorem dX13_lives_0 : decode cX13_lives 0 = .ok (.iload_n 1, 1) := dk_27 (dk_at dksX13_lives_0 0 rfl rfl)
theorem dX13_lives_1 : decode cX13_lives 1 = .ok (.invokestatic 103, 3) := dk_184 0 103 (dk_at dksX13_lives_0 1 rfl rfl)
theorem dX13_lives_4 : decode cX13_lives 4 = .ok (.istore_n 2, 1) := dk_61 (dk_at dksX13_lives_0 4 rfl rfl)
theorem dX13_lives_5 : decode cX13_lives 5 = .ok (.iload_n 1, 1) := dk_27 (dk_at dksX13_lives_0 5 rfl rfl)
theorem dX13_lives_6 : decode cX13_lives 6 = .ok (.ifCond .le 51, 3) := dk_158 0 51 (dk_at dksX13_lives_0 6 rfl rfl)
theorem dX13_lives_9 : decode cX13_lives 9 = .ok (.iload_n 2, 1) := dk_28 (dk_at dksX13_lives_0 9 rfl rfl)
theorem dX13_lives_10 : decode cX13_lives 10 = .ok (.sipush 192, 3) := dk_17 0 192 (dk_at dksX13_lives_0 10 rfl rfl)
theorem dX13_lives_13 : decode cX13_lives 13 = .ok (.if_icmp .ge 44, 3) := dk_162 0 44 (dk_at dksX13_lives_0 13 rfl rfl)
theorem dX13_lives_16 : decode cX13_lives 16 = .ok (.aload_n 0, 1) := dk_42 (dk_at dksX13_lives_0 16 rfl rfl)
theorem dX13_lives_17 : decode cX13_lives 17 = .ok (.getfield 7, 3) := dk_180 0 7 (dk_at dksX13_lives_0 17 rfl rfl)
theorem dX13_lives_20 : decode cX13_lives 20 = .ok (.iload_n 2, 1) := dk_28 (dk_at dksX13_lives_0 20 rfl rfl)
theorem dX13_lives_21 : decode cX13_lives 21 = .ok (.iaload, 1) := dk_46 (dk_at dksX13_lives_0 21 rfl rfl)
theorem dX13_lives_22 : decode cX13_lives 22 = .ok (.ifCond .lt 35, 3) := dk_155 0 35 (dk_at dksX13_lives_1 0 rfl rfl)
theorem dX13_lives_25 : decode cX13_lives 25 = .ok (.aload_n 0, 1) := dk_42 (dk_at dksX13_lives_1 3 rfl rfl)
theorem dX13_lives_26 : decode cX13_lives 26 = .ok (.getfield 13, 3) := dk_180 0 13 (dk_at dksX13_lives_1 4 rfl rfl)
theorem dX13_lives_29 : decode cX13_lives 29 = .ok (.iload_n 2, 1) := dk_28 (dk_at dksX13_lives_1 7 rfl rfl)
theorem dX13_lives_30 : decode cX13_lives 30 = .ok (.iaload, 1) := dk_46 (dk_at dksX13_lives_1 8 rfl rfl)
theorem dX13_lives_31 : decode cX13_lives 31 = .ok (.iload_n 1, 1) := dk_27 (dk_at dksX13_lives_1 9 rfl rfl)
theorem dX13_lives_32 : decode cX13_lives 32 = .ok (.bipush 10, 2) := dk_16 10 (dk_at dksX13_lives_1 10 rfl rfl)
theorem dX13_lives_34 : decode cX13_lives 34 = .ok (.ishr, 1) := dk_122 (dk_at dksX13_lives_1 12 rfl rfl)
theorem dX13_lives_35 : decode cX13_lives 35 = .ok (.if_icmp .ne 22, 3) := dk_160 0 22 (dk_at dksX13_lives_1 13 rfl rfl)
theorem dX13_lives_38 : decode cX13_lives 38 = .ok (.aload_n 0, 1) := dk_42 (dk_at dksX13_lives_1 16 rfl rfl)
theorem dX13_lives_39 : decode cX13_lives 39 = .ok (.getfield 35, 3) := dk_180 0 35 (dk_at dksX13_lives_1 17 rfl rfl)
theorem dX13_lives_42 : decode cX13_lives 42 = .ok (.aload_n 0, 1) := dk_42 (dk_at dksX13_lives_1 20 rfl rfl)
theorem dX13_lives_43 : decode cX13_lives 43 = .ok (.getfield 7, 3) := dk_180 0 7 (dk_at dksX13_lives_1 21 rfl rfl)
theorem dX13_lives_46 : decode cX13_lives 46 = .ok (.iload_n 2, 1) := dk_28 (dk_at dksX13_lives_2 0 rfl rfl)
theorem dX13_lives_47 : decode cX13_lives 47 = .ok (.iaload, 1) := dk_46 (dk_at dksX13_lives_2 1 rfl rfl)
theorem dX13_lives_48 : decode cX13_lives 48 = .ok (.iaload, 1) := dk_46 (dk_at dksX13_lives_2 2 rfl rfl)
theorem dX13_lives_49 : decode cX13_lives 49 = .ok (.iconst 2, 1) := dk_5 (dk_at dksX13_lives_2 3 rfl rfl)
theorem dX13_lives_50 : decode cX13_lives 50 = .ok (.if_icmp .eq 7, 3) := dk_159 0 7 (dk_at dksX13_lives_2 4 rfl rfl)
theorem dX13_lives_53 : decode cX13_lives 53 = .ok (.iconst 1, 1) := dk_4 (dk_at dksX13_lives_2 7 rfl rfl)
theorem dX13_lives_54 : decode cX13_lives 54 = .ok (.goto 4, 3) := dk_167 0 4 (dk_at dksX13_lives_2 8 rfl rfl)
theorem dX13_lives_57 : decode cX13_lives 57 = .ok (.iconst 0, 1) := dk_3 (dk_at dksX13_lives_2 11 rfl rfl)
theorem dX13_lives_58 : decode cX13_lives 58 = .ok (.ireturn, 1) := dk_172 (dk_at dksX13_lives_2 12 rfl rfl)
abbrev cX13_placeOf : ByteArray := prog_18_method_20_code
def yX13_placeOf : MethodName := ⟨RX13, "placeOf", "(I)I"⟩
def dkwX13_placeOf_0 : List UInt8 := [26, 4, 122, 17, 1, 255, 126, 172]
abbrev dktX13_placeOf_0 : List UInt8 := dkwX13_placeOf_0 ++ []
theorem dksX13_placeOf_0 : cX13_placeOf.data.toList.drop 0 = dktX13_placeOf_0 := by decide +kernel
theorem dX13_placeOf_0 : decode cX13_placeOf 0 = .ok (.iload_n 0, 1) := dk_26 (dk_at dksX13_placeOf_0 0 rfl rfl)
theorem dX13_placeOf_1 : decode cX13_placeOf 1 = .ok (.iconst 1, 1) := dk_4 (dk_at dksX13_placeOf_0 1 rfl rfl)
theorem dX13_placeOf_2 : decode cX13_placeOf 2 = .ok (.ishr, 1) := dk_122 (dk_at dksX13_placeOf_0 2 rfl rfl)
theorem dX13_placeOf_3 : decode cX13_placeOf 3 = .ok (.sipush 511, 3) := dk_17 1 255 (dk_at dksX13_placeOf_0 3 rfl rfl)
theorem dX13_placeOf_6 : decode cX13_placeOf 6 = .ok (.iand, 1) := dk_126 (dk_at dksX13_placeOf_0 6 rfl rfl)
theorem dX13_placeOf_7 : decode cX13_placeOf 7 = .ok (.ireturn, 1) := dk_172 (dk_at dksX13_placeOf_0 7 rfl rfl)
abbrev cX13_isWeak : ByteArray := prog_18_method_21_code
def yX13_isWeak : MethodName := ⟨RX13, "isWeak", "(I)Z"⟩
def dkwX13_isWeak_0 : List UInt8 := [26, 4, 126, 4, 160, 0, 7, 4, 167, 0, 4, 3, 172]
abbrev dktX13_isWeak_0 : List UInt8 := dkwX13_isWeak_0 ++ []
theorem dksX13_isWeak_0 : cX13_isWeak.data.toList.drop 0 = dktX13_isWeak_0 := by decide +kernel
theorem dX13_isWeak_0 : decode cX13_isWeak 0 = .ok (.iload_n 0, 1) := dk_26 (dk_at dksX13_isWeak_0 0 rfl rfl)
theorem dX13_isWeak_1 : decode cX13_isWeak 1 = .ok (.iconst 1, 1) := dk_4 (dk_at dksX13_isWeak_0 1 rfl rfl)
theorem dX13_isWeak_2 : decode cX13_isWeak 2 = .ok (.iand, 1) := dk_126 (dk_at dksX13_isWeak_0 2 rfl rfl)
theorem dX13_isWeak_3 : decode cX13_isWeak 3 = .ok (.iconst 1, 1) := dk_4 (dk_at dksX13_isWeak_0 3 rfl rfl)
theorem dX13_isWeak_4 : decode cX13_isWeak 4 = .ok (.if_icmp .ne 7, 3) := dk_160 0 7 (dk_at dksX13_isWeak_0 4 rfl rfl)
theorem dX13_isWeak_7 : decode cX13_isWeak 7 = .ok (.iconst 1, 1) := dk_4 (dk_at dksX13_isWeak_0 7 rfl rfl)
theorem dX13_isWeak_8 : decode cX13_isWeak 8 = .ok (.goto 4, 3) := dk_167 0 4 (dk_at dksX13_isWeak_0 8 rfl rfl)
theorem dX13_isWeak_11 : decode cX13_isWeak 11 = .ok (.iconst 0, 1) := dk_3 (dk_at dksX13_isWeak_0 11 rfl rfl)
theorem dX13_isWeak_12 : decode cX13_isWeak 12 = .ok (.ireturn, 1) := dk_172 (dk_at dksX13_isWeak_0 12 rfl rfl)
abbrev cX13_sell : ByteArray := prog_18_method_24_code
def yX13_sell : MethodName := ⟨RX13, "sell", "(I)I"⟩
def dkwX13_sell_2 : List UInt8 := [180, 0, 7, 27, 184, 0, 103, 2, 79, 28, 172]
abbrev dktX13_sell_2 : List UInt8 := dkwX13_sell_2 ++ []
def dkwX13_sell_1 : List UInt8 := [3, 181, 0, 45, 42, 180, 0, 45, 158, 0, 5, 3, 172, 42, 180, 0, 7, 27, 184, 0, 103, 46, 61, 42]
abbrev dktX13_sell_1 : List UInt8 := dkwX13_sell_1 ++ dktX13_sell_2
def dkwX13_sell_0 : List UInt8 := [42, 42, 27, 182, 0, 106, 154, 0, 7, 4, 167, 0, 15, 27, 184, 0, 109, 153, 0, 7, 5, 167, 0, 4]
abbrev dktX13_sell_0 : List UInt8 := dkwX13_sell_0 ++ dktX13_sell_1
theorem dksX13_sell_0 : cX13_sell.data.toList.drop 0 = dktX13_sell_0 := by decide +kernel
theorem dksX13_sell_1 : cX13_sell.data.toList.drop 24 = dktX13_sell_1 := dk_seg dksX13_sell_0 24 rfl rfl
theorem dksX13_sell_2 : cX13_sell.data.toList.drop 48 = dktX13_sell_2 := dk_seg dksX13_sell_1 24 rfl rfl
theorem dX13_sell_0 : decode cX13_sell 0 = .ok (.aload_n 0, 1) := dk_42 (dk_at dksX13_sell_0 0 rfl rfl)
theorem dX13_sell_1 : decode cX13_sell 1 = .ok (.aload_n 0, 1) := dk_42 (dk_at dksX13_sell_0 1 rfl rfl)
theorem dX13_sell_2 : decode cX13_sell 2 = .ok (.iload_n 1, 1) := dk_27 (dk_at dksX13_sell_0 2 rfl rfl)
theorem dX13_sell_3 : decode cX13_sell 3 = .ok (.invokevirtual 106, 3) := dk_182 0 106 (dk_at dksX13_sell_0 3 rfl rfl)
theorem dX13_sell_6 : decode cX13_sell 6 = .ok (.ifCond .ne 7, 3) := dk_154 0 7 (dk_at dksX13_sell_0 6 rfl rfl)
theorem dX13_sell_9 : decode cX13_sell 9 = .ok (.iconst 1, 1) := dk_4 (dk_at dksX13_sell_0 9 rfl rfl)
theorem dX13_sell_10 : decode cX13_sell 10 = .ok (.goto 15, 3) := dk_167 0 15 (dk_at dksX13_sell_0 10 rfl rfl)
theorem dX13_sell_13 : decode cX13_sell 13 = .ok (.iload_n 1, 1) := dk_27 (dk_at dksX13_sell_0 13 rfl rfl)
theorem dX13_sell_14 : decode cX13_sell 14 = .ok (.invokestatic 109, 3) := dk_184 0 109 (dk_at dksX13_sell_0 14 rfl rfl)
theorem dX13_sell_17 : decode cX13_sell 17 = .ok (.ifCond .eq 7, 3) := dk_153 0 7 (dk_at dksX13_sell_0 17 rfl rfl)
theorem dX13_sell_20 : decode cX13_sell 20 = .ok (.iconst 2, 1) := dk_5 (dk_at dksX13_sell_0 20 rfl rfl)
theorem dX13_sell_21 : decode cX13_sell 21 = .ok (.goto 4, 3) := dk_167 0 4 (dk_at dksX13_sell_0 21 rfl rfl)
theorem dX13_sell_24 : decode cX13_sell 24 = .ok (.iconst 0, 1) := dk_3 (dk_at dksX13_sell_1 0 rfl rfl)
theorem dX13_sell_25 : decode cX13_sell 25 = .ok (.putfield 45, 3) := dk_181 0 45 (dk_at dksX13_sell_1 1 rfl rfl)
theorem dX13_sell_28 : decode cX13_sell 28 = .ok (.aload_n 0, 1) := dk_42 (dk_at dksX13_sell_1 4 rfl rfl)
theorem dX13_sell_29 : decode cX13_sell 29 = .ok (.getfield 45, 3) := dk_180 0 45 (dk_at dksX13_sell_1 5 rfl rfl)
theorem dX13_sell_32 : decode cX13_sell 32 = .ok (.ifCond .le 5, 3) := dk_158 0 5 (dk_at dksX13_sell_1 8 rfl rfl)
theorem dX13_sell_35 : decode cX13_sell 35 = .ok (.iconst 0, 1) := dk_3 (dk_at dksX13_sell_1 11 rfl rfl)
theorem dX13_sell_36 : decode cX13_sell 36 = .ok (.ireturn, 1) := dk_172 (dk_at dksX13_sell_1 12 rfl rfl)
theorem dX13_sell_37 : decode cX13_sell 37 = .ok (.aload_n 0, 1) := dk_42 (dk_at dksX13_sell_1 13 rfl rfl)
theorem dX13_sell_38 : decode cX13_sell 38 = .ok (.getfield 7, 3) := dk_180 0 7 (dk_at dksX13_sell_1 14 rfl rfl)
theorem dX13_sell_41 : decode cX13_sell 41 = .ok (.iload_n 1, 1) := dk_27 (dk_at dksX13_sell_1 17 rfl rfl)
theorem dX13_sell_42 : decode cX13_sell 42 = .ok (.invokestatic 103, 3) := dk_184 0 103 (dk_at dksX13_sell_1 18 rfl rfl)
theorem dX13_sell_45 : decode cX13_sell 45 = .ok (.iaload, 1) := dk_46 (dk_at dksX13_sell_1 21 rfl rfl)
theorem dX13_sell_46 : decode cX13_sell 46 = .ok (.istore_n 2, 1) := dk_61 (dk_at dksX13_sell_1 22 rfl rfl)
theorem dX13_sell_47 : decode cX13_sell 47 = .ok (.aload_n 0, 1) := dk_42 (dk_at dksX13_sell_1 23 rfl rfl)
theorem dX13_sell_48 : decode cX13_sell 48 = .ok (.getfield 7, 3) := dk_180 0 7 (dk_at dksX13_sell_2 0 rfl rfl)
theorem dX13_sell_51 : decode cX13_sell 51 = .ok (.iload_n 1, 1) := dk_27 (dk_at dksX13_sell_2 3 rfl rfl)
theorem dX13_sell_52 : decode cX13_sell 52 = .ok (.invokestatic 103, 3) := dk_184 0 103 (dk_at dksX13_sell_2 4 rfl rfl)
theorem dX13_sell_55 : decode cX13_sell 55 = .ok (.iconst (-1), 1) := dk_2 (dk_at dksX13_sell_2 7 rfl rfl)
theorem dX13_sell_56 : decode cX13_sell 56 = .ok (.iastore, 1) := dk_79 (dk_at dksX13_sell_2 8 rfl rfl)
theorem dX13_sell_57 : decode cX13_sell 57 = .ok (.iload_n 2, 1) := dk_28 (dk_at dksX13_sell_2 9 rfl rfl)
theorem dX13_sell_58 : decode cX13_sell 58 = .ok (.ireturn, 1) := dk_172 (dk_at dksX13_sell_2 10 rfl rfl)
abbrev cX13_weak : ByteArray := prog_18_method_25_code
def yX13_weak : MethodName := ⟨RX13, "weak", "(I)I"⟩
def dkwX13_weak_1 : List UInt8 := [3, 167, 0, 6, 27, 4, 128, 172]
abbrev dktX13_weak_1 : List UInt8 := dkwX13_weak_1 ++ []
def dkwX13_weak_0 : List UInt8 := [42, 42, 27, 182, 0, 106, 153, 0, 7, 3, 167, 0, 4, 4, 181, 0, 45, 42, 180, 0, 45, 158, 0, 7]
abbrev dktX13_weak_0 : List UInt8 := dkwX13_weak_0 ++ dktX13_weak_1
theorem dksX13_weak_0 : cX13_weak.data.toList.drop 0 = dktX13_weak_0 := by decide +kernel
theorem dksX13_weak_1 : cX13_weak.data.toList.drop 24 = dktX13_weak_1 := dk_seg dksX13_weak_0 24 rfl rfl
theorem dX13_weak_0 : decode cX13_weak 0 = .ok (.aload_n 0, 1) := dk_42 (dk_at dksX13_weak_0 0 rfl rfl)
theorem dX13_weak_1 : decode cX13_weak 1 = .ok (.aload_n 0, 1) := dk_42 (dk_at dksX13_weak_0 1 rfl rfl)
theorem dX13_weak_2 : decode cX13_weak 2 = .ok (.iload_n 1, 1) := dk_27 (dk_at dksX13_weak_0 2 rfl rfl)
theorem dX13_weak_3 : decode cX13_weak 3 = .ok (.invokevirtual 106, 3) := dk_182 0 106 (dk_at dksX13_weak_0 3 rfl rfl)
theorem dX13_weak_6 : decode cX13_weak 6 = .ok (.ifCond .eq 7, 3) := dk_153 0 7 (dk_at dksX13_weak_0 6 rfl rfl)
theorem dX13_weak_9 : decode cX13_weak 9 = .ok (.iconst 0, 1) := dk_3 (dk_at dksX13_weak_0 9 rfl rfl)
theorem dX13_weak_10 : decode cX13_weak 10 = .ok (.goto 4, 3) := dk_167 0 4 (dk_at dksX13_weak_0 10 rfl rfl)
theorem dX13_weak_13 : decode cX13_weak 13 = .ok (.iconst 1, 1) := dk_4 (dk_at dksX13_weak_0 13 rfl rfl)
theorem dX13_weak_14 : decode cX13_weak 14 = .ok (.putfield 45, 3) := dk_181 0 45 (dk_at dksX13_weak_0 14 rfl rfl)
theorem dX13_weak_17 : decode cX13_weak 17 = .ok (.aload_n 0, 1) := dk_42 (dk_at dksX13_weak_0 17 rfl rfl)
theorem dX13_weak_18 : decode cX13_weak 18 = .ok (.getfield 45, 3) := dk_180 0 45 (dk_at dksX13_weak_0 18 rfl rfl)
theorem dX13_weak_21 : decode cX13_weak 21 = .ok (.ifCond .le 7, 3) := dk_158 0 7 (dk_at dksX13_weak_0 21 rfl rfl)
theorem dX13_weak_24 : decode cX13_weak 24 = .ok (.iconst 0, 1) := dk_3 (dk_at dksX13_weak_1 0 rfl rfl)
theorem dX13_weak_25 : decode cX13_weak 25 = .ok (.goto 6, 3) := dk_167 0 6 (dk_at dksX13_weak_1 1 rfl rfl)
theorem dX13_weak_28 : decode cX13_weak 28 = .ok (.iload_n 1, 1) := dk_27 (dk_at dksX13_weak_1 4 rfl rfl)
theorem dX13_weak_29 : decode cX13_weak 29 = .ok (.iconst 1, 1) := dk_4 (dk_at dksX13_weak_1 5 rfl rfl)
theorem dX13_weak_30 : decode cX13_weak 30 = .ok (.ior, 1) := dk_128 (dk_at dksX13_weak_1 6 rfl rfl)
theorem dX13_weak_31 : decode cX13_weak 31 = .ok (.ireturn, 1) := dk_172 (dk_at dksX13_weak_1 7 rfl rfl)
abbrev cX13_read : ByteArray := prog_18_method_26_code
def yX13_read : MethodName := ⟨RX13, "read", "(II)I"⟩
def dkwX13_read_2 : List UInt8 := [184, 0, 103, 104, 28, 96, 46, 172]
abbrev dktX13_read_2 : List UInt8 := dkwX13_read_2 ++ []
def dkwX13_read_1 : List UInt8 := [167, 0, 4, 5, 181, 0, 45, 42, 180, 0, 45, 158, 0, 7, 3, 167, 0, 16, 42, 180, 0, 22, 7, 27]
abbrev dktX13_read_1 : List UInt8 := dkwX13_read_1 ++ dktX13_read_2
def dkwX13_read_0 : List UInt8 := [42, 42, 27, 182, 0, 106, 154, 0, 7, 4, 167, 0, 17, 28, 3, 6, 184, 0, 48, 153, 0, 7, 3]
abbrev dktX13_read_0 : List UInt8 := dkwX13_read_0 ++ dktX13_read_1
theorem dksX13_read_0 : cX13_read.data.toList.drop 0 = dktX13_read_0 := by decide +kernel
theorem dksX13_read_1 : cX13_read.data.toList.drop 23 = dktX13_read_1 := dk_seg dksX13_read_0 23 rfl rfl
theorem dksX13_read_2 : cX13_read.data.toList.drop 47 = dktX13_read_2 := dk_seg dksX13_read_1 24 rfl rfl
theorem dX13_read_0 : decode cX13_read 0 = .ok (.aload_n 0, 1) := dk_42 (dk_at dksX13_read_0 0 rfl rfl)
theorem dX13_read_1 : decode cX13_read 1 = .ok (.aload_n 0, 1) := dk_42 (dk_at dksX13_read_0 1 rfl rfl)
theorem dX13_read_2 : decode cX13_read 2 = .ok (.iload_n 1, 1) := dk_27 (dk_at dksX13_read_0 2 rfl rfl)
theorem dX13_read_3 : decode cX13_read 3 = .ok (.invokevirtual 106, 3) := dk_182 0 106 (dk_at dksX13_read_0 3 rfl rfl)
theorem dX13_read_6 : decode cX13_read 6 = .ok (.ifCond .ne 7, 3) := dk_154 0 7 (dk_at dksX13_read_0 6 rfl rfl)
theorem dX13_read_9 : decode cX13_read 9 = .ok (.iconst 1, 1) := dk_4 (dk_at dksX13_read_0 9 rfl rfl)
theorem dX13_read_10 : decode cX13_read 10 = .ok (.goto 17, 3) := dk_167 0 17 (dk_at dksX13_read_0 10 rfl rfl)
theorem dX13_read_13 : decode cX13_read 13 = .ok (.iload_n 2, 1) := dk_28 (dk_at dksX13_read_0 13 rfl rfl)
theorem dX13_read_14 : decode cX13_read 14 = .ok (.iconst 0, 1) := dk_3 (dk_at dksX13_read_0 14 rfl rfl)
theorem dX13_read_15 : decode cX13_read 15 = .ok (.iconst 3, 1) := dk_6 (dk_at dksX13_read_0 15 rfl rfl)
theorem dX13_read_16 : decode cX13_read 16 = .ok (.invokestatic 48, 3) := dk_184 0 48 (dk_at dksX13_read_0 16 rfl rfl)
theorem dX13_read_19 : decode cX13_read 19 = .ok (.ifCond .eq 7, 3) := dk_153 0 7 (dk_at dksX13_read_0 19 rfl rfl)
theorem dX13_read_22 : decode cX13_read 22 = .ok (.iconst 0, 1) := dk_3 (dk_at dksX13_read_0 22 rfl rfl)
theorem dX13_read_23 : decode cX13_read 23 = .ok (.goto 4, 3) := dk_167 0 4 (dk_at dksX13_read_1 0 rfl rfl)
theorem dX13_read_26 : decode cX13_read 26 = .ok (.iconst 2, 1) := dk_5 (dk_at dksX13_read_1 3 rfl rfl)
theorem dX13_read_27 : decode cX13_read 27 = .ok (.putfield 45, 3) := dk_181 0 45 (dk_at dksX13_read_1 4 rfl rfl)
theorem dX13_read_30 : decode cX13_read 30 = .ok (.aload_n 0, 1) := dk_42 (dk_at dksX13_read_1 7 rfl rfl)
theorem dX13_read_31 : decode cX13_read 31 = .ok (.getfield 45, 3) := dk_180 0 45 (dk_at dksX13_read_1 8 rfl rfl)
theorem dX13_read_34 : decode cX13_read 34 = .ok (.ifCond .le 7, 3) := dk_158 0 7 (dk_at dksX13_read_1 11 rfl rfl)
theorem dX13_read_37 : decode cX13_read 37 = .ok (.iconst 0, 1) := dk_3 (dk_at dksX13_read_1 14 rfl rfl)
theorem dX13_read_38 : decode cX13_read 38 = .ok (.goto 16, 3) := dk_167 0 16 (dk_at dksX13_read_1 15 rfl rfl)
theorem dX13_read_41 : decode cX13_read 41 = .ok (.aload_n 0, 1) := dk_42 (dk_at dksX13_read_1 18 rfl rfl)
theorem dX13_read_42 : decode cX13_read 42 = .ok (.getfield 22, 3) := dk_180 0 22 (dk_at dksX13_read_1 19 rfl rfl)
theorem dX13_read_45 : decode cX13_read 45 = .ok (.iconst 4, 1) := dk_7 (dk_at dksX13_read_1 22 rfl rfl)
theorem dX13_read_46 : decode cX13_read 46 = .ok (.iload_n 1, 1) := dk_27 (dk_at dksX13_read_1 23 rfl rfl)
theorem dX13_read_47 : decode cX13_read 47 = .ok (.invokestatic 103, 3) := dk_184 0 103 (dk_at dksX13_read_2 0 rfl rfl)
theorem dX13_read_50 : decode cX13_read 50 = .ok (.imul, 1) := dk_104 (dk_at dksX13_read_2 3 rfl rfl)
theorem dX13_read_51 : decode cX13_read 51 = .ok (.iload_n 2, 1) := dk_28 (dk_at dksX13_read_2 4 rfl rfl)
theorem dX13_read_52 : decode cX13_read 52 = .ok (.iadd, 1) := dk_96 (dk_at dksX13_read_2 5 rfl rfl)
theorem dX13_read_53 : decode cX13_read 53 = .ok (.iaload, 1) := dk_46 (dk_at dksX13_read_2 6 rfl rfl)
theorem dX13_read_54 : decode cX13_read 54 = .ok (.ireturn, 1) := dk_172 (dk_at dksX13_read_2 7 rfl rfl)
abbrev cX13_write : ByteArray := prog_18_method_27_code
def yX13_write : MethodName := ⟨RX13, "write", "(III)I"⟩
def dkwX13_write_3 : List UInt8 := [180, 0, 22, 21, 4, 29, 79, 21, 5, 172]
abbrev dktX13_write_3 : List UInt8 := dkwX13_write_3 ++ []
def dkwX13_write_2 : List UInt8 := [3, 172, 7, 27, 184, 0, 103, 104, 28, 96, 54, 4, 42, 180, 0, 22, 21, 4, 46, 54, 5, 42]
abbrev dktX13_write_2 : List UInt8 := dkwX13_write_2 ++ dktX13_write_3
def dkwX13_write_1 : List UInt8 := [28, 3, 6, 184, 0, 48, 153, 0, 7, 3, 167, 0, 4, 6, 181, 0, 45, 42, 180, 0, 45, 158, 0, 5]
abbrev dktX13_write_1 : List UInt8 := dkwX13_write_1 ++ dktX13_write_2
def dkwX13_write_0 : List UInt8 := [42, 42, 27, 182, 0, 106, 154, 0, 7, 4, 167, 0, 28, 27, 184, 0, 109, 153, 0, 7, 5, 167, 0, 17]
abbrev dktX13_write_0 : List UInt8 := dkwX13_write_0 ++ dktX13_write_1
theorem dksX13_write_0 : cX13_write.data.toList.drop 0 = dktX13_write_0 := by decide +kernel
theorem dksX13_write_1 : cX13_write.data.toList.drop 24 = dktX13_write_1 := dk_seg dksX13_write_0 24 rfl rfl
theorem dksX13_write_2 : cX13_write.data.toList.drop 48 = dktX13_write_2 := dk_seg dksX13_write_1 24 rfl rfl
theorem dksX13_write_3 : cX13_write.data.toList.drop 70 = dktX13_write_3 := dk_seg dksX13_write_2 22 rfl rfl
theorem dX13_write_0 : decode cX13_write 0 = .ok (.aload_n 0, 1) := dk_42 (dk_at dksX13_write_0 0 rfl rfl)
theorem dX13_write_1 : decode cX13_write 1 = .ok (.aload_n 0, 1) := dk_42 (dk_at dksX13_write_0 1 rfl rfl)
theorem dX13_write_2 : decode cX13_write 2 = .ok (.iload_n 1, 1) := dk_27 (dk_at dksX13_write_0 2 rfl rfl)
theorem dX13_write_3 : decode cX13_write 3 = .ok (.invokevirtual 106, 3) := dk_182 0 106 (dk_at dksX13_write_0 3 rfl rfl)
theorem dX13_write_6 : decode cX13_write 6 = .ok (.ifCond .ne 7, 3) := dk_154 0 7 (dk_at dksX13_write_0 6 rfl rfl)
theorem dX13_write_9 : decode cX13_write 9 = .ok (.iconst 1, 1) := dk_4 (dk_at dksX13_write_0 9 rfl rfl)
theorem dX13_write_10 : decode cX13_write 10 = .ok (.goto 28, 3) := dk_167 0 28 (dk_at dksX13_write_0 10 rfl rfl)
theorem dX13_write_13 : decode cX13_write 13 = .ok (.iload_n 1, 1) := dk_27 (dk_at dksX13_write_0 13 rfl rfl)
theorem dX13_write_14 : decode cX13_write 14 = .ok (.invokestatic 109, 3) := dk_184 0 109 (dk_at dksX13_write_0 14 rfl rfl)
theorem dX13_write_17 : decode cX13_write 17 = .ok (.ifCond .eq 7, 3) := dk_153 0 7 (dk_at dksX13_write_0 17 rfl rfl)
theorem dX13_write_20 : decode cX13_write 20 = .ok (.iconst 2, 1) := dk_5 (dk_at dksX13_write_0 20 rfl rfl)
theorem dX13_write_21 : decode cX13_write 21 = .ok (.goto 17, 3) := dk_167 0 17 (dk_at dksX13_write_0 21 rfl rfl)
theorem dX13_write_24 : decode cX13_write 24 = .ok (.iload_n 2, 1) := dk_28 (dk_at dksX13_write_1 0 rfl rfl)
theorem dX13_write_25 : decode cX13_write 25 = .ok (.iconst 0, 1) := dk_3 (dk_at dksX13_write_1 1 rfl rfl)
theorem dX13_write_26 : decode cX13_write 26 = .ok (.iconst 3, 1) := dk_6 (dk_at dksX13_write_1 2 rfl rfl)
theorem dX13_write_27 : decode cX13_write 27 = .ok (.invokestatic 48, 3) := dk_184 0 48 (dk_at dksX13_write_1 3 rfl rfl)
theorem dX13_write_30 : decode cX13_write 30 = .ok (.ifCond .eq 7, 3) := dk_153 0 7 (dk_at dksX13_write_1 6 rfl rfl)
theorem dX13_write_33 : decode cX13_write 33 = .ok (.iconst 0, 1) := dk_3 (dk_at dksX13_write_1 9 rfl rfl)
theorem dX13_write_34 : decode cX13_write 34 = .ok (.goto 4, 3) := dk_167 0 4 (dk_at dksX13_write_1 10 rfl rfl)
theorem dX13_write_37 : decode cX13_write 37 = .ok (.iconst 3, 1) := dk_6 (dk_at dksX13_write_1 13 rfl rfl)
theorem dX13_write_38 : decode cX13_write 38 = .ok (.putfield 45, 3) := dk_181 0 45 (dk_at dksX13_write_1 14 rfl rfl)
theorem dX13_write_41 : decode cX13_write 41 = .ok (.aload_n 0, 1) := dk_42 (dk_at dksX13_write_1 17 rfl rfl)
theorem dX13_write_42 : decode cX13_write 42 = .ok (.getfield 45, 3) := dk_180 0 45 (dk_at dksX13_write_1 18 rfl rfl)
theorem dX13_write_45 : decode cX13_write 45 = .ok (.ifCond .le 5, 3) := dk_158 0 5 (dk_at dksX13_write_1 21 rfl rfl)
theorem dX13_write_48 : decode cX13_write 48 = .ok (.iconst 0, 1) := dk_3 (dk_at dksX13_write_2 0 rfl rfl)
theorem dX13_write_49 : decode cX13_write 49 = .ok (.ireturn, 1) := dk_172 (dk_at dksX13_write_2 1 rfl rfl)
theorem dX13_write_50 : decode cX13_write 50 = .ok (.iconst 4, 1) := dk_7 (dk_at dksX13_write_2 2 rfl rfl)
theorem dX13_write_51 : decode cX13_write 51 = .ok (.iload_n 1, 1) := dk_27 (dk_at dksX13_write_2 3 rfl rfl)
theorem dX13_write_52 : decode cX13_write 52 = .ok (.invokestatic 103, 3) := dk_184 0 103 (dk_at dksX13_write_2 4 rfl rfl)
theorem dX13_write_55 : decode cX13_write 55 = .ok (.imul, 1) := dk_104 (dk_at dksX13_write_2 7 rfl rfl)
theorem dX13_write_56 : decode cX13_write 56 = .ok (.iload_n 2, 1) := dk_28 (dk_at dksX13_write_2 8 rfl rfl)
theorem dX13_write_57 : decode cX13_write 57 = .ok (.iadd, 1) := dk_96 (dk_at dksX13_write_2 9 rfl rfl)
theorem dX13_write_58 : decode cX13_write 58 = .ok (.istore 4, 2) := dk_54 4 (dk_at dksX13_write_2 10 rfl rfl)
theorem dX13_write_60 : decode cX13_write 60 = .ok (.aload_n 0, 1) := dk_42 (dk_at dksX13_write_2 12 rfl rfl)
theorem dX13_write_61 : decode cX13_write 61 = .ok (.getfield 22, 3) := dk_180 0 22 (dk_at dksX13_write_2 13 rfl rfl)
theorem dX13_write_64 : decode cX13_write 64 = .ok (.iload 4, 2) := dk_21 4 (dk_at dksX13_write_2 16 rfl rfl)
theorem dX13_write_66 : decode cX13_write 66 = .ok (.iaload, 1) := dk_46 (dk_at dksX13_write_2 18 rfl rfl)
theorem dX13_write_67 : decode cX13_write 67 = .ok (.istore 5, 2) := dk_54 5 (dk_at dksX13_write_2 19 rfl rfl)
theorem dX13_write_69 : decode cX13_write 69 = .ok (.aload_n 0, 1) := dk_42 (dk_at dksX13_write_2 21 rfl rfl)
theorem dX13_write_70 : decode cX13_write 70 = .ok (.getfield 22, 3) := dk_180 0 22 (dk_at dksX13_write_3 0 rfl rfl)
theorem dX13_write_73 : decode cX13_write 73 = .ok (.iload 4, 2) := dk_21 4 (dk_at dksX13_write_3 3 rfl rfl)
theorem dX13_write_75 : decode cX13_write 75 = .ok (.iload_n 3, 1) := dk_29 (dk_at dksX13_write_3 5 rfl rfl)
theorem dX13_write_76 : decode cX13_write 76 = .ok (.iastore, 1) := dk_79 (dk_at dksX13_write_3 6 rfl rfl)
theorem dX13_write_77 : decode cX13_write 77 = .ok (.iload 5, 2) := dk_21 5 (dk_at dksX13_write_3 7 rfl rfl)
theorem dX13_write_79 : decode cX13_write 79 = .ok (.ireturn, 1) := dk_172 (dk_at dksX13_write_3 9 rfl rfl)
abbrev cX13_move : ByteArray := prog_18_method_28_code
def yX13_move : MethodName := ⟨RX13, "move", "(II)I"⟩
def dkwX13_move_5 : List UInt8 := [182, 0, 92, 21, 4, 172]
abbrev dktX13_move_5 : List UInt8 := dkwX13_move_5 ++ []
def dkwX13_move_4 : List UInt8 := [79, 21, 5, 155, 0, 16, 42, 42, 8, 21, 5, 182, 0, 73, 181, 0, 45, 3, 172, 42, 29, 28]
abbrev dktX13_move_4 : List UInt8 := dkwX13_move_4 ++ dktX13_move_5
def dkwX13_move_3 : List UInt8 := [54, 4, 42, 180, 0, 7, 29, 2, 79, 42, 28, 4, 182, 0, 83, 54, 5, 42, 180, 0, 7, 29, 21, 4]
abbrev dktX13_move_3 : List UInt8 := dkwX13_move_3 ++ dktX13_move_4
def dkwX13_move_2 : List UInt8 := [3, 181, 0, 45, 42, 180, 0, 45, 158, 0, 5, 3, 172, 27, 184, 0, 103, 62, 42, 180, 0, 7, 29, 46]
abbrev dktX13_move_2 : List UInt8 := dkwX13_move_2 ++ dktX13_move_3
def dkwX13_move_1 : List UInt8 := [42, 28, 182, 0, 63, 154, 0, 7, 6, 167, 0, 16, 42, 28, 182, 0, 67, 154, 0, 7, 7, 167, 0, 4]
abbrev dktX13_move_1 : List UInt8 := dkwX13_move_1 ++ dktX13_move_2
def dkwX13_move_0 : List UInt8 := [42, 42, 27, 182, 0, 106, 154, 0, 7, 4, 167, 0, 39, 27, 184, 0, 109, 153, 0, 7, 5, 167, 0, 28]
abbrev dktX13_move_0 : List UInt8 := dkwX13_move_0 ++ dktX13_move_1
theorem dksX13_move_0 : cX13_move.data.toList.drop 0 = dktX13_move_0 := by decide +kernel
theorem dksX13_move_1 : cX13_move.data.toList.drop 24 = dktX13_move_1 := dk_seg dksX13_move_0 24 rfl rfl
theorem dksX13_move_2 : cX13_move.data.toList.drop 48 = dktX13_move_2 := dk_seg dksX13_move_1 24 rfl rfl
theorem dksX13_move_3 : cX13_move.data.toList.drop 72 = dktX13_move_3 := dk_seg dksX13_move_2 24 rfl rfl
theorem dksX13_move_4 : cX13_move.data.toList.drop 96 = dktX13_move_4 := dk_seg dksX13_move_3 24 rfl rfl
theorem dksX13_move_5 : cX13_move.data.toList.drop 118 = dktX13_move_5 := dk_seg dksX13_move_4 22 rfl rfl
theorem dX13_move_0 : decode cX13_move 0 = .ok (.aload_n 0, 1) := dk_42 (dk_at dksX13_move_0 0 rfl rfl)
theorem dX13_move_1 : decode cX13_move 1 = .ok (.aload_n 0, 1) := dk_42 (dk_at dksX13_move_0 1 rfl rfl)
theorem dX13_move_2 : decode cX13_move 2 = .ok (.iload_n 1, 1) := dk_27 (dk_at dksX13_move_0 2 rfl rfl)
theorem dX13_move_3 : decode cX13_move 3 = .ok (.invokevirtual 106, 3) := dk_182 0 106 (dk_at dksX13_move_0 3 rfl rfl)
theorem dX13_move_6 : decode cX13_move 6 = .ok (.ifCond .ne 7, 3) := dk_154 0 7 (dk_at dksX13_move_0 6 rfl rfl)
theorem dX13_move_9 : decode cX13_move 9 = .ok (.iconst 1, 1) := dk_4 (dk_at dksX13_move_0 9 rfl rfl)
theorem dX13_move_10 : decode cX13_move 10 = .ok (.goto 39, 3) := dk_167 0 39 (dk_at dksX13_move_0 10 rfl rfl)
theorem dX13_move_13 : decode cX13_move 13 = .ok (.iload_n 1, 1) := dk_27 (dk_at dksX13_move_0 13 rfl rfl)
theorem dX13_move_14 : decode cX13_move 14 = .ok (.invokestatic 109, 3) := dk_184 0 109 (dk_at dksX13_move_0 14 rfl rfl)
theorem dX13_move_17 : decode cX13_move 17 = .ok (.ifCond .eq 7, 3) := dk_153 0 7 (dk_at dksX13_move_0 17 rfl rfl)
theorem dX13_move_20 : decode cX13_move 20 = .ok (.iconst 2, 1) := dk_5 (dk_at dksX13_move_0 20 rfl rfl)
theorem dX13_move_21 : decode cX13_move 21 = .ok (.goto 28, 3) := dk_167 0 28 (dk_at dksX13_move_0 21 rfl rfl)
theorem dX13_move_24 : decode cX13_move 24 = .ok (.aload_n 0, 1) := dk_42 (dk_at dksX13_move_1 0 rfl rfl)
theorem dX13_move_25 : decode cX13_move 25 = .ok (.iload_n 2, 1) := dk_28 (dk_at dksX13_move_1 1 rfl rfl)
theorem dX13_move_26 : decode cX13_move 26 = .ok (.invokevirtual 63, 3) := dk_182 0 63 (dk_at dksX13_move_1 2 rfl rfl)
theorem dX13_move_29 : decode cX13_move 29 = .ok (.ifCond .ne 7, 3) := dk_154 0 7 (dk_at dksX13_move_1 5 rfl rfl)
theorem dX13_move_32 : decode cX13_move 32 = .ok (.iconst 3, 1) := dk_6 (dk_at dksX13_move_1 8 rfl rfl)
theorem dX13_move_33 : decode cX13_move 33 = .ok (.goto 16, 3) := dk_167 0 16 (dk_at dksX13_move_1 9 rfl rfl)
theorem dX13_move_36 : decode cX13_move 36 = .ok (.aload_n 0, 1) := dk_42 (dk_at dksX13_move_1 12 rfl rfl)
theorem dX13_move_37 : decode cX13_move 37 = .ok (.iload_n 2, 1) := dk_28 (dk_at dksX13_move_1 13 rfl rfl)
theorem dX13_move_38 : decode cX13_move 38 = .ok (.invokevirtual 67, 3) := dk_182 0 67 (dk_at dksX13_move_1 14 rfl rfl)
theorem dX13_move_41 : decode cX13_move 41 = .ok (.ifCond .ne 7, 3) := dk_154 0 7 (dk_at dksX13_move_1 17 rfl rfl)
theorem dX13_move_44 : decode cX13_move 44 = .ok (.iconst 4, 1) := dk_7 (dk_at dksX13_move_1 20 rfl rfl)
theorem dX13_move_45 : decode cX13_move 45 = .ok (.goto 4, 3) := dk_167 0 4 (dk_at dksX13_move_1 21 rfl rfl)
theorem dX13_move_48 : decode cX13_move 48 = .ok (.iconst 0, 1) := dk_3 (dk_at dksX13_move_2 0 rfl rfl)
theorem dX13_move_49 : decode cX13_move 49 = .ok (.putfield 45, 3) := dk_181 0 45 (dk_at dksX13_move_2 1 rfl rfl)
theorem dX13_move_52 : decode cX13_move 52 = .ok (.aload_n 0, 1) := dk_42 (dk_at dksX13_move_2 4 rfl rfl)
theorem dX13_move_53 : decode cX13_move 53 = .ok (.getfield 45, 3) := dk_180 0 45 (dk_at dksX13_move_2 5 rfl rfl)
theorem dX13_move_56 : decode cX13_move 56 = .ok (.ifCond .le 5, 3) := dk_158 0 5 (dk_at dksX13_move_2 8 rfl rfl)
theorem dX13_move_59 : decode cX13_move 59 = .ok (.iconst 0, 1) := dk_3 (dk_at dksX13_move_2 11 rfl rfl)
theorem dX13_move_60 : decode cX13_move 60 = .ok (.ireturn, 1) := dk_172 (dk_at dksX13_move_2 12 rfl rfl)
theorem dX13_move_61 : decode cX13_move 61 = .ok (.iload_n 1, 1) := dk_27 (dk_at dksX13_move_2 13 rfl rfl)
theorem dX13_move_62 : decode cX13_move 62 = .ok (.invokestatic 103, 3) := dk_184 0 103 (dk_at dksX13_move_2 14 rfl rfl)
theorem dX13_move_65 : decode cX13_move 65 = .ok (.istore_n 3, 1) := dk_62 (dk_at dksX13_move_2 17 rfl rfl)
theorem dX13_move_66 : decode cX13_move 66 = .ok (.aload_n 0, 1) := dk_42 (dk_at dksX13_move_2 18 rfl rfl)
theorem dX13_move_67 : decode cX13_move 67 = .ok (.getfield 7, 3) := dk_180 0 7 (dk_at dksX13_move_2 19 rfl rfl)
theorem dX13_move_70 : decode cX13_move 70 = .ok (.iload_n 3, 1) := dk_29 (dk_at dksX13_move_2 22 rfl rfl)
theorem dX13_move_71 : decode cX13_move 71 = .ok (.iaload, 1) := dk_46 (dk_at dksX13_move_2 23 rfl rfl)
theorem dX13_move_72 : decode cX13_move 72 = .ok (.istore 4, 2) := dk_54 4 (dk_at dksX13_move_3 0 rfl rfl)
theorem dX13_move_74 : decode cX13_move 74 = .ok (.aload_n 0, 1) := dk_42 (dk_at dksX13_move_3 2 rfl rfl)
theorem dX13_move_75 : decode cX13_move 75 = .ok (.getfield 7, 3) := dk_180 0 7 (dk_at dksX13_move_3 3 rfl rfl)
theorem dX13_move_78 : decode cX13_move 78 = .ok (.iload_n 3, 1) := dk_29 (dk_at dksX13_move_3 6 rfl rfl)
theorem dX13_move_79 : decode cX13_move 79 = .ok (.iconst (-1), 1) := dk_2 (dk_at dksX13_move_3 7 rfl rfl)
theorem dX13_move_80 : decode cX13_move 80 = .ok (.iastore, 1) := dk_79 (dk_at dksX13_move_3 8 rfl rfl)
theorem dX13_move_81 : decode cX13_move 81 = .ok (.aload_n 0, 1) := dk_42 (dk_at dksX13_move_3 9 rfl rfl)
theorem dX13_move_82 : decode cX13_move 82 = .ok (.iload_n 2, 1) := dk_28 (dk_at dksX13_move_3 10 rfl rfl)
theorem dX13_move_83 : decode cX13_move 83 = .ok (.iconst 1, 1) := dk_4 (dk_at dksX13_move_3 11 rfl rfl)
theorem dX13_move_84 : decode cX13_move 84 = .ok (.invokevirtual 83, 3) := dk_182 0 83 (dk_at dksX13_move_3 12 rfl rfl)
theorem dX13_move_87 : decode cX13_move 87 = .ok (.istore 5, 2) := dk_54 5 (dk_at dksX13_move_3 15 rfl rfl)
theorem dX13_move_89 : decode cX13_move 89 = .ok (.aload_n 0, 1) := dk_42 (dk_at dksX13_move_3 17 rfl rfl)
theorem dX13_move_90 : decode cX13_move 90 = .ok (.getfield 7, 3) := dk_180 0 7 (dk_at dksX13_move_3 18 rfl rfl)
theorem dX13_move_93 : decode cX13_move 93 = .ok (.iload_n 3, 1) := dk_29 (dk_at dksX13_move_3 21 rfl rfl)
theorem dX13_move_94 : decode cX13_move 94 = .ok (.iload 4, 2) := dk_21 4 (dk_at dksX13_move_3 22 rfl rfl)
theorem dX13_move_96 : decode cX13_move 96 = .ok (.iastore, 1) := dk_79 (dk_at dksX13_move_4 0 rfl rfl)
theorem dX13_move_97 : decode cX13_move 97 = .ok (.iload 5, 2) := dk_21 5 (dk_at dksX13_move_4 1 rfl rfl)
theorem dX13_move_99 : decode cX13_move 99 = .ok (.ifCond .lt 16, 3) := dk_155 0 16 (dk_at dksX13_move_4 3 rfl rfl)
theorem dX13_move_102 : decode cX13_move 102 = .ok (.aload_n 0, 1) := dk_42 (dk_at dksX13_move_4 6 rfl rfl)
theorem dX13_move_103 : decode cX13_move 103 = .ok (.aload_n 0, 1) := dk_42 (dk_at dksX13_move_4 7 rfl rfl)
theorem dX13_move_104 : decode cX13_move 104 = .ok (.iconst 5, 1) := dk_8 (dk_at dksX13_move_4 8 rfl rfl)
theorem dX13_move_105 : decode cX13_move 105 = .ok (.iload 5, 2) := dk_21 5 (dk_at dksX13_move_4 9 rfl rfl)
theorem dX13_move_107 : decode cX13_move 107 = .ok (.invokevirtual 73, 3) := dk_182 0 73 (dk_at dksX13_move_4 11 rfl rfl)
theorem dX13_move_110 : decode cX13_move 110 = .ok (.putfield 45, 3) := dk_181 0 45 (dk_at dksX13_move_4 14 rfl rfl)
theorem dX13_move_113 : decode cX13_move 113 = .ok (.iconst 0, 1) := dk_3 (dk_at dksX13_move_4 17 rfl rfl)
theorem dX13_move_114 : decode cX13_move 114 = .ok (.ireturn, 1) := dk_172 (dk_at dksX13_move_4 18 rfl rfl)
theorem dX13_move_115 : decode cX13_move 115 = .ok (.aload_n 0, 1) := dk_42 (dk_at dksX13_move_4 19 rfl rfl)
theorem dX13_move_116 : decode cX13_move 116 = .ok (.iload_n 3, 1) := dk_29 (dk_at dksX13_move_4 20 rfl rfl)
theorem dX13_move_117 : decode cX13_move 117 = .ok (.iload_n 2, 1) := dk_28 (dk_at dksX13_move_4 21 rfl rfl)
theorem dX13_move_118 : decode cX13_move 118 = .ok (.invokevirtual 92, 3) := dk_182 0 92 (dk_at dksX13_move_5 0 rfl rfl)
theorem dX13_move_121 : decode cX13_move 121 = .ok (.iload 4, 2) := dk_21 4 (dk_at dksX13_move_5 3 rfl rfl)
theorem dX13_move_123 : decode cX13_move 123 = .ok (.ireturn, 1) := dk_172 (dk_at dksX13_move_5 5 rfl rfl)
abbrev cX13_limit : ByteArray := prog_18_method_29_code
def yX13_limit : MethodName := ⟨RX13, "limit", "(II)I"⟩
def dkwX13_limit_3 : List UInt8 := [27, 46, 62, 42, 180, 0, 32, 27, 28, 79, 29, 172]
abbrev dktX13_limit_3 : List UInt8 := dkwX13_limit_3 ++ []
def dkwX13_limit_2 : List UInt8 := [160, 0, 7, 6, 167, 0, 4, 3, 181, 0, 45, 42, 180, 0, 45, 158, 0, 5, 3, 172, 42, 180, 0, 32]
abbrev dktX13_limit_2 : List UInt8 := dkwX13_limit_2 ++ dktX13_limit_3
def dkwX13_limit_1 : List UInt8 := [27, 154, 0, 7, 5, 167, 0, 27, 42, 27, 182, 0, 60, 28, 163, 0, 13, 42, 180, 0, 35, 27, 46, 5]
abbrev dktX13_limit_1 : List UInt8 := dkwX13_limit_1 ++ dktX13_limit_2
def dkwX13_limit_0 : List UInt8 := [42, 42, 27, 182, 0, 63, 154, 0, 7, 4, 167, 0, 46, 28, 3, 17, 0, 192, 184, 0, 48, 153, 0, 7]
abbrev dktX13_limit_0 : List UInt8 := dkwX13_limit_0 ++ dktX13_limit_1
theorem dksX13_limit_0 : cX13_limit.data.toList.drop 0 = dktX13_limit_0 := by decide +kernel
theorem dksX13_limit_1 : cX13_limit.data.toList.drop 24 = dktX13_limit_1 := dk_seg dksX13_limit_0 24 rfl rfl
theorem dksX13_limit_2 : cX13_limit.data.toList.drop 48 = dktX13_limit_2 := dk_seg dksX13_limit_1 24 rfl rfl
theorem dksX13_limit_3 : cX13_limit.data.toList.drop 72 = dktX13_limit_3 := dk_seg dksX13_limit_2 24 rfl rfl
theorem dX13_limit_0 : decode cX13_limit 0 = .ok (.aload_n 0, 1) := dk_42 (dk_at dksX13_limit_0 0 rfl rfl)
theorem dX13_limit_1 : decode cX13_limit 1 = .ok (.aload_n 0, 1) := dk_42 (dk_at dksX13_limit_0 1 rfl rfl)
theorem dX13_limit_2 : decode cX13_limit 2 = .ok (.iload_n 1, 1) := dk_27 (dk_at dksX13_limit_0 2 rfl rfl)
theorem dX13_limit_3 : decode cX13_limit 3 = .ok (.invokevirtual 63, 3) := dk_182 0 63 (dk_at dksX13_limit_0 3 rfl rfl)
theorem dX13_limit_6 : decode cX13_limit 6 = .ok (.ifCond .ne 7, 3) := dk_154 0 7 (dk_at dksX13_limit_0 6 rfl rfl)
theorem dX13_limit_9 : decode cX13_limit 9 = .ok (.iconst 1, 1) := dk_4 (dk_at dksX13_limit_0 9 rfl rfl)
theorem dX13_limit_10 : decode cX13_limit 10 = .ok (.goto 46, 3) := dk_167 0 46 (dk_at dksX13_limit_0 10 rfl rfl)
theorem dX13_limit_13 : decode cX13_limit 13 = .ok (.iload_n 2, 1) := dk_28 (dk_at dksX13_limit_0 13 rfl rfl)
theorem dX13_limit_14 : decode cX13_limit 14 = .ok (.iconst 0, 1) := dk_3 (dk_at dksX13_limit_0 14 rfl rfl)
theorem dX13_limit_15 : decode cX13_limit 15 = .ok (.sipush 192, 3) := dk_17 0 192 (dk_at dksX13_limit_0 15 rfl rfl)
theorem dX13_limit_18 : decode cX13_limit 18 = .ok (.invokestatic 48, 3) := dk_184 0 48 (dk_at dksX13_limit_0 18 rfl rfl)
theorem dX13_limit_21 : decode cX13_limit 21 = .ok (.ifCond .eq 7, 3) := dk_153 0 7 (dk_at dksX13_limit_0 21 rfl rfl)
theorem dX13_limit_24 : decode cX13_limit 24 = .ok (.iload_n 1, 1) := dk_27 (dk_at dksX13_limit_1 0 rfl rfl)
theorem dX13_limit_25 : decode cX13_limit 25 = .ok (.ifCond .ne 7, 3) := dk_154 0 7 (dk_at dksX13_limit_1 1 rfl rfl)
theorem dX13_limit_28 : decode cX13_limit 28 = .ok (.iconst 2, 1) := dk_5 (dk_at dksX13_limit_1 4 rfl rfl)
theorem dX13_limit_29 : decode cX13_limit 29 = .ok (.goto 27, 3) := dk_167 0 27 (dk_at dksX13_limit_1 5 rfl rfl)
theorem dX13_limit_32 : decode cX13_limit 32 = .ok (.aload_n 0, 1) := dk_42 (dk_at dksX13_limit_1 8 rfl rfl)
theorem dX13_limit_33 : decode cX13_limit 33 = .ok (.iload_n 1, 1) := dk_27 (dk_at dksX13_limit_1 9 rfl rfl)
theorem dX13_limit_34 : decode cX13_limit 34 = .ok (.invokevirtual 60, 3) := dk_182 0 60 (dk_at dksX13_limit_1 10 rfl rfl)
theorem dX13_limit_37 : decode cX13_limit 37 = .ok (.iload_n 2, 1) := dk_28 (dk_at dksX13_limit_1 13 rfl rfl)
theorem dX13_limit_38 : decode cX13_limit 38 = .ok (.if_icmp .gt 13, 3) := dk_163 0 13 (dk_at dksX13_limit_1 14 rfl rfl)
theorem dX13_limit_41 : decode cX13_limit 41 = .ok (.aload_n 0, 1) := dk_42 (dk_at dksX13_limit_1 17 rfl rfl)
theorem dX13_limit_42 : decode cX13_limit 42 = .ok (.getfield 35, 3) := dk_180 0 35 (dk_at dksX13_limit_1 18 rfl rfl)
theorem dX13_limit_45 : decode cX13_limit 45 = .ok (.iload_n 1, 1) := dk_27 (dk_at dksX13_limit_1 21 rfl rfl)
theorem dX13_limit_46 : decode cX13_limit 46 = .ok (.iaload, 1) := dk_46 (dk_at dksX13_limit_1 22 rfl rfl)
theorem dX13_limit_47 : decode cX13_limit 47 = .ok (.iconst 2, 1) := dk_5 (dk_at dksX13_limit_1 23 rfl rfl)
theorem dX13_limit_48 : decode cX13_limit 48 = .ok (.if_icmp .ne 7, 3) := dk_160 0 7 (dk_at dksX13_limit_2 0 rfl rfl)
theorem dX13_limit_51 : decode cX13_limit 51 = .ok (.iconst 3, 1) := dk_6 (dk_at dksX13_limit_2 3 rfl rfl)
theorem dX13_limit_52 : decode cX13_limit 52 = .ok (.goto 4, 3) := dk_167 0 4 (dk_at dksX13_limit_2 4 rfl rfl)
theorem dX13_limit_55 : decode cX13_limit 55 = .ok (.iconst 0, 1) := dk_3 (dk_at dksX13_limit_2 7 rfl rfl)
theorem dX13_limit_56 : decode cX13_limit 56 = .ok (.putfield 45, 3) := dk_181 0 45 (dk_at dksX13_limit_2 8 rfl rfl)
theorem dX13_limit_59 : decode cX13_limit 59 = .ok (.aload_n 0, 1) := dk_42 (dk_at dksX13_limit_2 11 rfl rfl)
theorem dX13_limit_60 : decode cX13_limit 60 = .ok (.getfield 45, 3) := dk_180 0 45 (dk_at dksX13_limit_2 12 rfl rfl)
theorem dX13_limit_63 : decode cX13_limit 63 = .ok (.ifCond .le 5, 3) := dk_158 0 5 (dk_at dksX13_limit_2 15 rfl rfl)
theorem dX13_limit_66 : decode cX13_limit 66 = .ok (.iconst 0, 1) := dk_3 (dk_at dksX13_limit_2 18 rfl rfl)
theorem dX13_limit_67 : decode cX13_limit 67 = .ok (.ireturn, 1) := dk_172 (dk_at dksX13_limit_2 19 rfl rfl)
theorem dX13_limit_68 : decode cX13_limit 68 = .ok (.aload_n 0, 1) := dk_42 (dk_at dksX13_limit_2 20 rfl rfl)
theorem dX13_limit_69 : decode cX13_limit 69 = .ok (.getfield 32, 3) := dk_180 0 32 (dk_at dksX13_limit_2 21 rfl rfl)
theorem dX13_limit_72 : decode cX13_limit 72 = .ok (.iload_n 1, 1) := dk_27 (dk_at dksX13_limit_3 0 rfl rfl)
theorem dX13_limit_73 : decode cX13_limit 73 = .ok (.iaload, 1) := dk_46 (dk_at dksX13_limit_3 1 rfl rfl)
theorem dX13_limit_74 : decode cX13_limit 74 = .ok (.istore_n 3, 1) := dk_62 (dk_at dksX13_limit_3 2 rfl rfl)
theorem dX13_limit_75 : decode cX13_limit 75 = .ok (.aload_n 0, 1) := dk_42 (dk_at dksX13_limit_3 3 rfl rfl)
theorem dX13_limit_76 : decode cX13_limit 76 = .ok (.getfield 32, 3) := dk_180 0 32 (dk_at dksX13_limit_3 4 rfl rfl)
theorem dX13_limit_79 : decode cX13_limit 79 = .ok (.iload_n 1, 1) := dk_27 (dk_at dksX13_limit_3 7 rfl rfl)
theorem dX13_limit_80 : decode cX13_limit 80 = .ok (.iload_n 2, 1) := dk_28 (dk_at dksX13_limit_3 8 rfl rfl)
theorem dX13_limit_81 : decode cX13_limit 81 = .ok (.iastore, 1) := dk_79 (dk_at dksX13_limit_3 9 rfl rfl)
theorem dX13_limit_82 : decode cX13_limit 82 = .ok (.iload_n 3, 1) := dk_29 (dk_at dksX13_limit_3 10 rfl rfl)
theorem dX13_limit_83 : decode cX13_limit 83 = .ok (.ireturn, 1) := dk_172 (dk_at dksX13_limit_3 11 rfl rfl)
abbrev cX13_reserve : ByteArray := prog_18_method_30_code
def yX13_reserve : MethodName := ⟨RX13, "reserve", "(II)I"⟩
def dkwX13_reserve_3 : List UInt8 := [181, 0, 45, 3, 172, 42, 180, 0, 38, 27, 92, 46, 28, 96, 79, 42, 180, 0, 38, 27, 46, 172]
abbrev dktX13_reserve_3 : List UInt8 := dkwX13_reserve_3 ++ []
def dkwX13_reserve_2 : List UInt8 := [158, 0, 5, 3, 172, 42, 27, 28, 182, 0, 83, 62, 29, 155, 0, 15, 42, 42, 7, 29, 182, 0, 73]
abbrev dktX13_reserve_2 : List UInt8 := dkwX13_reserve_2 ++ dktX13_reserve_3
def dkwX13_reserve_1 : List UInt8 := [5, 167, 0, 16, 42, 27, 182, 0, 67, 154, 0, 7, 6, 167, 0, 4, 3, 181, 0, 45, 42, 180, 0, 45]
abbrev dktX13_reserve_1 : List UInt8 := dkwX13_reserve_1 ++ dktX13_reserve_2
def dkwX13_reserve_0 : List UInt8 := [42, 42, 27, 182, 0, 63, 154, 0, 7, 4, 167, 0, 31, 28, 3, 17, 0, 192, 184, 0, 48, 154, 0, 7]
abbrev dktX13_reserve_0 : List UInt8 := dkwX13_reserve_0 ++ dktX13_reserve_1
theorem dksX13_reserve_0 : cX13_reserve.data.toList.drop 0 = dktX13_reserve_0 := by decide +kernel
theorem dksX13_reserve_1 : cX13_reserve.data.toList.drop 24 = dktX13_reserve_1 := dk_seg dksX13_reserve_0 24 rfl rfl
theorem dksX13_reserve_2 : cX13_reserve.data.toList.drop 48 = dktX13_reserve_2 := dk_seg dksX13_reserve_1 24 rfl rfl
theorem dksX13_reserve_3 : cX13_reserve.data.toList.drop 71 = dktX13_reserve_3 := dk_seg dksX13_reserve_2 23 rfl rfl
theorem dX13_reserve_0 : decode cX13_reserve 0 = .ok (.aload_n 0, 1) := dk_42 (dk_at dksX13_reserve_0 0 rfl rfl)
theorem dX13_reserve_1 : decode cX13_reserve 1 = .ok (.aload_n 0, 1) := dk_42 (dk_at dksX13_reserve_0 1 rfl rfl)
theorem dX13_reserve_2 : decode cX13_reserve 2 = .ok (.iload_n 1, 1) := dk_27 (dk_at dksX13_reserve_0 2 rfl rfl)
theorem dX13_reserve_3 : decode cX13_reserve 3 = .ok (.invokevirtual 63, 3) := dk_182 0 63 (dk_at dksX13_reserve_0 3 rfl rfl)
theorem dX13_reserve_6 : decode cX13_reserve 6 = .ok (.ifCond .ne 7, 3) := dk_154 0 7 (dk_at dksX13_reserve_0 6 rfl rfl)
theorem dX13_reserve_9 : decode cX13_reserve 9 = .ok (.iconst 1, 1) := dk_4 (dk_at dksX13_reserve_0 9 rfl rfl)
theorem dX13_reserve_10 : decode cX13_reserve 10 = .ok (.goto 31, 3) := dk_167 0 31 (dk_at dksX13_reserve_0 10 rfl rfl)
theorem dX13_reserve_13 : decode cX13_reserve 13 = .ok (.iload_n 2, 1) := dk_28 (dk_at dksX13_reserve_0 13 rfl rfl)
theorem dX13_reserve_14 : decode cX13_reserve 14 = .ok (.iconst 0, 1) := dk_3 (dk_at dksX13_reserve_0 14 rfl rfl)
theorem dX13_reserve_15 : decode cX13_reserve 15 = .ok (.sipush 192, 3) := dk_17 0 192 (dk_at dksX13_reserve_0 15 rfl rfl)
theorem dX13_reserve_18 : decode cX13_reserve 18 = .ok (.invokestatic 48, 3) := dk_184 0 48 (dk_at dksX13_reserve_0 18 rfl rfl)
theorem dX13_reserve_21 : decode cX13_reserve 21 = .ok (.ifCond .ne 7, 3) := dk_154 0 7 (dk_at dksX13_reserve_0 21 rfl rfl)
theorem dX13_reserve_24 : decode cX13_reserve 24 = .ok (.iconst 2, 1) := dk_5 (dk_at dksX13_reserve_1 0 rfl rfl)
theorem dX13_reserve_25 : decode cX13_reserve 25 = .ok (.goto 16, 3) := dk_167 0 16 (dk_at dksX13_reserve_1 1 rfl rfl)
theorem dX13_reserve_28 : decode cX13_reserve 28 = .ok (.aload_n 0, 1) := dk_42 (dk_at dksX13_reserve_1 4 rfl rfl)
theorem dX13_reserve_29 : decode cX13_reserve 29 = .ok (.iload_n 1, 1) := dk_27 (dk_at dksX13_reserve_1 5 rfl rfl)
theorem dX13_reserve_30 : decode cX13_reserve 30 = .ok (.invokevirtual 67, 3) := dk_182 0 67 (dk_at dksX13_reserve_1 6 rfl rfl)
theorem dX13_reserve_33 : decode cX13_reserve 33 = .ok (.ifCond .ne 7, 3) := dk_154 0 7 (dk_at dksX13_reserve_1 9 rfl rfl)
theorem dX13_reserve_36 : decode cX13_reserve 36 = .ok (.iconst 3, 1) := dk_6 (dk_at dksX13_reserve_1 12 rfl rfl)
theorem dX13_reserve_37 : decode cX13_reserve 37 = .ok (.goto 4, 3) := dk_167 0 4 (dk_at dksX13_reserve_1 13 rfl rfl)
theorem dX13_reserve_40 : decode cX13_reserve 40 = .ok (.iconst 0, 1) := dk_3 (dk_at dksX13_reserve_1 16 rfl rfl)
theorem dX13_reserve_41 : decode cX13_reserve 41 = .ok (.putfield 45, 3) := dk_181 0 45 (dk_at dksX13_reserve_1 17 rfl rfl)
theorem dX13_reserve_44 : decode cX13_reserve 44 = .ok (.aload_n 0, 1) := dk_42 (dk_at dksX13_reserve_1 20 rfl rfl)
theorem dX13_reserve_45 : decode cX13_reserve 45 = .ok (.getfield 45, 3) := dk_180 0 45 (dk_at dksX13_reserve_1 21 rfl rfl)
theorem dX13_reserve_48 : decode cX13_reserve 48 = .ok (.ifCond .le 5, 3) := dk_158 0 5 (dk_at dksX13_reserve_2 0 rfl rfl)
theorem dX13_reserve_51 : decode cX13_reserve 51 = .ok (.iconst 0, 1) := dk_3 (dk_at dksX13_reserve_2 3 rfl rfl)
theorem dX13_reserve_52 : decode cX13_reserve 52 = .ok (.ireturn, 1) := dk_172 (dk_at dksX13_reserve_2 4 rfl rfl)
theorem dX13_reserve_53 : decode cX13_reserve 53 = .ok (.aload_n 0, 1) := dk_42 (dk_at dksX13_reserve_2 5 rfl rfl)
theorem dX13_reserve_54 : decode cX13_reserve 54 = .ok (.iload_n 1, 1) := dk_27 (dk_at dksX13_reserve_2 6 rfl rfl)
theorem dX13_reserve_55 : decode cX13_reserve 55 = .ok (.iload_n 2, 1) := dk_28 (dk_at dksX13_reserve_2 7 rfl rfl)
theorem dX13_reserve_56 : decode cX13_reserve 56 = .ok (.invokevirtual 83, 3) := dk_182 0 83 (dk_at dksX13_reserve_2 8 rfl rfl)
theorem dX13_reserve_59 : decode cX13_reserve 59 = .ok (.istore_n 3, 1) := dk_62 (dk_at dksX13_reserve_2 11 rfl rfl)
theorem dX13_reserve_60 : decode cX13_reserve 60 = .ok (.iload_n 3, 1) := dk_29 (dk_at dksX13_reserve_2 12 rfl rfl)
theorem dX13_reserve_61 : decode cX13_reserve 61 = .ok (.ifCond .lt 15, 3) := dk_155 0 15 (dk_at dksX13_reserve_2 13 rfl rfl)
theorem dX13_reserve_64 : decode cX13_reserve 64 = .ok (.aload_n 0, 1) := dk_42 (dk_at dksX13_reserve_2 16 rfl rfl)
theorem dX13_reserve_65 : decode cX13_reserve 65 = .ok (.aload_n 0, 1) := dk_42 (dk_at dksX13_reserve_2 17 rfl rfl)
theorem dX13_reserve_66 : decode cX13_reserve 66 = .ok (.iconst 4, 1) := dk_7 (dk_at dksX13_reserve_2 18 rfl rfl)
theorem dX13_reserve_67 : decode cX13_reserve 67 = .ok (.iload_n 3, 1) := dk_29 (dk_at dksX13_reserve_2 19 rfl rfl)
theorem dX13_reserve_68 : decode cX13_reserve 68 = .ok (.invokevirtual 73, 3) := dk_182 0 73 (dk_at dksX13_reserve_2 20 rfl rfl)
theorem dX13_reserve_71 : decode cX13_reserve 71 = .ok (.putfield 45, 3) := dk_181 0 45 (dk_at dksX13_reserve_3 0 rfl rfl)
theorem dX13_reserve_74 : decode cX13_reserve 74 = .ok (.iconst 0, 1) := dk_3 (dk_at dksX13_reserve_3 3 rfl rfl)
theorem dX13_reserve_75 : decode cX13_reserve 75 = .ok (.ireturn, 1) := dk_172 (dk_at dksX13_reserve_3 4 rfl rfl)
theorem dX13_reserve_76 : decode cX13_reserve 76 = .ok (.aload_n 0, 1) := dk_42 (dk_at dksX13_reserve_3 5 rfl rfl)
theorem dX13_reserve_77 : decode cX13_reserve 77 = .ok (.getfield 38, 3) := dk_180 0 38 (dk_at dksX13_reserve_3 6 rfl rfl)
theorem dX13_reserve_80 : decode cX13_reserve 80 = .ok (.iload_n 1, 1) := dk_27 (dk_at dksX13_reserve_3 9 rfl rfl)
theorem dX13_reserve_81 : decode cX13_reserve 81 = .ok (.dup2, 1) := dk_92 (dk_at dksX13_reserve_3 10 rfl rfl)
theorem dX13_reserve_82 : decode cX13_reserve 82 = .ok (.iaload, 1) := dk_46 (dk_at dksX13_reserve_3 11 rfl rfl)
theorem dX13_reserve_83 : decode cX13_reserve 83 = .ok (.iload_n 2, 1) := dk_28 (dk_at dksX13_reserve_3 12 rfl rfl)
theorem dX13_reserve_84 : decode cX13_reserve 84 = .ok (.iadd, 1) := dk_96 (dk_at dksX13_reserve_3 13 rfl rfl)
theorem dX13_reserve_85 : decode cX13_reserve 85 = .ok (.iastore, 1) := dk_79 (dk_at dksX13_reserve_3 14 rfl rfl)
theorem dX13_reserve_86 : decode cX13_reserve 86 = .ok (.aload_n 0, 1) := dk_42 (dk_at dksX13_reserve_3 15 rfl rfl)
theorem dX13_reserve_87 : decode cX13_reserve 87 = .ok (.getfield 38, 3) := dk_180 0 38 (dk_at dksX13_reserve_3 16 rfl rfl)
theorem dX13_reserve_90 : decode cX13_reserve 90 = .ok (.iload_n 1, 1) := dk_27 (dk_at dksX13_reserve_3 19 rfl rfl)
theorem dX13_reserve_91 : decode cX13_reserve 91 = .ok (.iaload, 1) := dk_46 (dk_at dksX13_reserve_3 20 rfl rfl)
theorem dX13_reserve_92 : decode cX13_reserve 92 = .ok (.ireturn, 1) := dk_172 (dk_at dksX13_reserve_3 21 rfl rfl)
abbrev cX13_unreserve : ByteArray := prog_18_method_31_code
def yX13_unreserve : MethodName := ⟨RX13, "unreserve", "(II)I"⟩
def dkwX13_unreserve_2 : List UInt8 := [27, 92, 46, 28, 100, 79, 42, 180, 0, 38, 27, 46, 172]
abbrev dktX13_unreserve_2 : List UInt8 := dkwX13_unreserve_2 ++ []
def dkwX13_unreserve_1 : List UInt8 := [153, 0, 7, 3, 167, 0, 4, 5, 181, 0, 45, 42, 180, 0, 45, 158, 0, 5, 3, 172, 42, 180, 0, 38]
abbrev dktX13_unreserve_1 : List UInt8 := dkwX13_unreserve_1 ++ dktX13_unreserve_2
def dkwX13_unreserve_0 : List UInt8 := [42, 42, 27, 182, 0, 63, 154, 0, 7, 4, 167, 0, 22, 28, 3, 42, 180, 0, 38, 27, 46, 184, 0, 48]
abbrev dktX13_unreserve_0 : List UInt8 := dkwX13_unreserve_0 ++ dktX13_unreserve_1
theorem dksX13_unreserve_0 : cX13_unreserve.data.toList.drop 0 = dktX13_unreserve_0 := by decide +kernel
theorem dksX13_unreserve_1 : cX13_unreserve.data.toList.drop 24 = dktX13_unreserve_1 := dk_seg dksX13_unreserve_0 24 rfl rfl
theorem dksX13_unreserve_2 : cX13_unreserve.data.toList.drop 48 = dktX13_unreserve_2 := dk_seg dksX13_unreserve_1 24 rfl rfl
theorem dX13_unreserve_0 : decode cX13_unreserve 0 = .ok (.aload_n 0, 1) := dk_42 (dk_at dksX13_unreserve_0 0 rfl rfl)
theorem dX13_unreserve_1 : decode cX13_unreserve 1 = .ok (.aload_n 0, 1) := dk_42 (dk_at dksX13_unreserve_0 1 rfl rfl)
theorem dX13_unreserve_2 : decode cX13_unreserve 2 = .ok (.iload_n 1, 1) := dk_27 (dk_at dksX13_unreserve_0 2 rfl rfl)
theorem dX13_unreserve_3 : decode cX13_unreserve 3 = .ok (.invokevirtual 63, 3) := dk_182 0 63 (dk_at dksX13_unreserve_0 3 rfl rfl)
theorem dX13_unreserve_6 : decode cX13_unreserve 6 = .ok (.ifCond .ne 7, 3) := dk_154 0 7 (dk_at dksX13_unreserve_0 6 rfl rfl)
theorem dX13_unreserve_9 : decode cX13_unreserve 9 = .ok (.iconst 1, 1) := dk_4 (dk_at dksX13_unreserve_0 9 rfl rfl)
theorem dX13_unreserve_10 : decode cX13_unreserve 10 = .ok (.goto 22, 3) := dk_167 0 22 (dk_at dksX13_unreserve_0 10 rfl rfl)
theorem dX13_unreserve_13 : decode cX13_unreserve 13 = .ok (.iload_n 2, 1) := dk_28 (dk_at dksX13_unreserve_0 13 rfl rfl)
theorem dX13_unreserve_14 : decode cX13_unreserve 14 = .ok (.iconst 0, 1) := dk_3 (dk_at dksX13_unreserve_0 14 rfl rfl)
theorem dX13_unreserve_15 : decode cX13_unreserve 15 = .ok (.aload_n 0, 1) := dk_42 (dk_at dksX13_unreserve_0 15 rfl rfl)
theorem dX13_unreserve_16 : decode cX13_unreserve 16 = .ok (.getfield 38, 3) := dk_180 0 38 (dk_at dksX13_unreserve_0 16 rfl rfl)
theorem dX13_unreserve_19 : decode cX13_unreserve 19 = .ok (.iload_n 1, 1) := dk_27 (dk_at dksX13_unreserve_0 19 rfl rfl)
theorem dX13_unreserve_20 : decode cX13_unreserve 20 = .ok (.iaload, 1) := dk_46 (dk_at dksX13_unreserve_0 20 rfl rfl)
theorem dX13_unreserve_21 : decode cX13_unreserve 21 = .ok (.invokestatic 48, 3) := dk_184 0 48 (dk_at dksX13_unreserve_0 21 rfl rfl)
theorem dX13_unreserve_24 : decode cX13_unreserve 24 = .ok (.ifCond .eq 7, 3) := dk_153 0 7 (dk_at dksX13_unreserve_1 0 rfl rfl)
theorem dX13_unreserve_27 : decode cX13_unreserve 27 = .ok (.iconst 0, 1) := dk_3 (dk_at dksX13_unreserve_1 3 rfl rfl)
theorem dX13_unreserve_28 : decode cX13_unreserve 28 = .ok (.goto 4, 3) := dk_167 0 4 (dk_at dksX13_unreserve_1 4 rfl rfl)
theorem dX13_unreserve_31 : decode cX13_unreserve 31 = .ok (.iconst 2, 1) := dk_5 (dk_at dksX13_unreserve_1 7 rfl rfl)
theorem dX13_unreserve_32 : decode cX13_unreserve 32 = .ok (.putfield 45, 3) := dk_181 0 45 (dk_at dksX13_unreserve_1 8 rfl rfl)
theorem dX13_unreserve_35 : decode cX13_unreserve 35 = .ok (.aload_n 0, 1) := dk_42 (dk_at dksX13_unreserve_1 11 rfl rfl)
theorem dX13_unreserve_36 : decode cX13_unreserve 36 = .ok (.getfield 45, 3) := dk_180 0 45 (dk_at dksX13_unreserve_1 12 rfl rfl)
theorem dX13_unreserve_39 : decode cX13_unreserve 39 = .ok (.ifCond .le 5, 3) := dk_158 0 5 (dk_at dksX13_unreserve_1 15 rfl rfl)
theorem dX13_unreserve_42 : decode cX13_unreserve 42 = .ok (.iconst 0, 1) := dk_3 (dk_at dksX13_unreserve_1 18 rfl rfl)
theorem dX13_unreserve_43 : decode cX13_unreserve 43 = .ok (.ireturn, 1) := dk_172 (dk_at dksX13_unreserve_1 19 rfl rfl)
theorem dX13_unreserve_44 : decode cX13_unreserve 44 = .ok (.aload_n 0, 1) := dk_42 (dk_at dksX13_unreserve_1 20 rfl rfl)
theorem dX13_unreserve_45 : decode cX13_unreserve 45 = .ok (.getfield 38, 3) := dk_180 0 38 (dk_at dksX13_unreserve_1 21 rfl rfl)
theorem dX13_unreserve_48 : decode cX13_unreserve 48 = .ok (.iload_n 1, 1) := dk_27 (dk_at dksX13_unreserve_2 0 rfl rfl)
theorem dX13_unreserve_49 : decode cX13_unreserve 49 = .ok (.dup2, 1) := dk_92 (dk_at dksX13_unreserve_2 1 rfl rfl)
theorem dX13_unreserve_50 : decode cX13_unreserve 50 = .ok (.iaload, 1) := dk_46 (dk_at dksX13_unreserve_2 2 rfl rfl)
theorem dX13_unreserve_51 : decode cX13_unreserve 51 = .ok (.iload_n 2, 1) := dk_28 (dk_at dksX13_unreserve_2 3 rfl rfl)
theorem dX13_unreserve_52 : decode cX13_unreserve 52 = .ok (.isub, 1) := dk_100 (dk_at dksX13_unreserve_2 4 rfl rfl)
theorem dX13_unreserve_53 : decode cX13_unreserve 53 = .ok (.iastore, 1) := dk_79 (dk_at dksX13_unreserve_2 5 rfl rfl)
theorem dX13_unreserve_54 : decode cX13_unreserve 54 = .ok (.aload_n 0, 1) := dk_42 (dk_at dksX13_unreserve_2 6 rfl rfl)
theorem dX13_unreserve_55 : decode cX13_unreserve 55 = .ok (.getfield 38, 3) := dk_180 0 38 (dk_at dksX13_unreserve_2 7 rfl rfl)
theorem dX13_unreserve_58 : decode cX13_unreserve 58 = .ok (.iload_n 1, 1) := dk_27 (dk_at dksX13_unreserve_2 10 rfl rfl)
theorem dX13_unreserve_59 : decode cX13_unreserve 59 = .ok (.iaload, 1) := dk_46 (dk_at dksX13_unreserve_2 11 rfl rfl)
theorem dX13_unreserve_60 : decode cX13_unreserve 60 = .ok (.ireturn, 1) := dk_172 (dk_at dksX13_unreserve_2 12 rfl rfl)
abbrev cX13_freeze : ByteArray := prog_18_method_33_code
def yX13_freeze : MethodName := ⟨RX13, "freeze", "(IZ)Z"⟩
def dkwX13_freeze_2 : List UInt8 := [79, 29, 172]
abbrev dktX13_freeze_2 : List UInt8 := dkwX13_freeze_2 ++ []
def dkwX13_freeze_1 : List UInt8 := [4, 160, 0, 7, 4, 167, 0, 4, 3, 62, 42, 180, 0, 35, 27, 28, 153, 0, 7, 4, 167, 0, 4, 3]
abbrev dktX13_freeze_1 : List UInt8 := dkwX13_freeze_1 ++ dktX13_freeze_2
def dkwX13_freeze_0 : List UInt8 := [42, 42, 27, 182, 0, 112, 181, 0, 45, 42, 180, 0, 45, 158, 0, 5, 3, 172, 42, 180, 0, 35, 27, 46]
abbrev dktX13_freeze_0 : List UInt8 := dkwX13_freeze_0 ++ dktX13_freeze_1
theorem dksX13_freeze_0 : cX13_freeze.data.toList.drop 0 = dktX13_freeze_0 := by decide +kernel
theorem dksX13_freeze_1 : cX13_freeze.data.toList.drop 24 = dktX13_freeze_1 := dk_seg dksX13_freeze_0 24 rfl rfl
theorem dksX13_freeze_2 : cX13_freeze.data.toList.drop 48 = dktX13_freeze_2 := dk_seg dksX13_freeze_1 24 rfl rfl
theorem dX13_freeze_0 : decode cX13_freeze 0 = .ok (.aload_n 0, 1) := dk_42 (dk_at dksX13_freeze_0 0 rfl rfl)
theorem dX13_freeze_1 : decode cX13_freeze 1 = .ok (.aload_n 0, 1) := dk_42 (dk_at dksX13_freeze_0 1 rfl rfl)
theorem dX13_freeze_2 : decode cX13_freeze 2 = .ok (.iload_n 1, 1) := dk_27 (dk_at dksX13_freeze_0 2 rfl rfl)
theorem dX13_freeze_3 : decode cX13_freeze 3 = .ok (.invokevirtual 112, 3) := dk_182 0 112 (dk_at dksX13_freeze_0 3 rfl rfl)
theorem dX13_freeze_6 : decode cX13_freeze 6 = .ok (.putfield 45, 3) := dk_181 0 45 (dk_at dksX13_freeze_0 6 rfl rfl)
theorem dX13_freeze_9 : decode cX13_freeze 9 = .ok (.aload_n 0, 1) := dk_42 (dk_at dksX13_freeze_0 9 rfl rfl)
theorem dX13_freeze_10 : decode cX13_freeze 10 = .ok (.getfield 45, 3) := dk_180 0 45 (dk_at dksX13_freeze_0 10 rfl rfl)
theorem dX13_freeze_13 : decode cX13_freeze 13 = .ok (.ifCond .le 5, 3) := dk_158 0 5 (dk_at dksX13_freeze_0 13 rfl rfl)
theorem dX13_freeze_16 : decode cX13_freeze 16 = .ok (.iconst 0, 1) := dk_3 (dk_at dksX13_freeze_0 16 rfl rfl)
theorem dX13_freeze_17 : decode cX13_freeze 17 = .ok (.ireturn, 1) := dk_172 (dk_at dksX13_freeze_0 17 rfl rfl)
theorem dX13_freeze_18 : decode cX13_freeze 18 = .ok (.aload_n 0, 1) := dk_42 (dk_at dksX13_freeze_0 18 rfl rfl)
theorem dX13_freeze_19 : decode cX13_freeze 19 = .ok (.getfield 35, 3) := dk_180 0 35 (dk_at dksX13_freeze_0 19 rfl rfl)
theorem dX13_freeze_22 : decode cX13_freeze 22 = .ok (.iload_n 1, 1) := dk_27 (dk_at dksX13_freeze_0 22 rfl rfl)
theorem dX13_freeze_23 : decode cX13_freeze 23 = .ok (.iaload, 1) := dk_46 (dk_at dksX13_freeze_0 23 rfl rfl)
theorem dX13_freeze_24 : decode cX13_freeze 24 = .ok (.iconst 1, 1) := dk_4 (dk_at dksX13_freeze_1 0 rfl rfl)
theorem dX13_freeze_25 : decode cX13_freeze 25 = .ok (.if_icmp .ne 7, 3) := dk_160 0 7 (dk_at dksX13_freeze_1 1 rfl rfl)
theorem dX13_freeze_28 : decode cX13_freeze 28 = .ok (.iconst 1, 1) := dk_4 (dk_at dksX13_freeze_1 4 rfl rfl)
theorem dX13_freeze_29 : decode cX13_freeze 29 = .ok (.goto 4, 3) := dk_167 0 4 (dk_at dksX13_freeze_1 5 rfl rfl)
theorem dX13_freeze_32 : decode cX13_freeze 32 = .ok (.iconst 0, 1) := dk_3 (dk_at dksX13_freeze_1 8 rfl rfl)
theorem dX13_freeze_33 : decode cX13_freeze 33 = .ok (.istore_n 3, 1) := dk_62 (dk_at dksX13_freeze_1 9 rfl rfl)
theorem dX13_freeze_34 : decode cX13_freeze 34 = .ok (.aload_n 0, 1) := dk_42 (dk_at dksX13_freeze_1 10 rfl rfl)
theorem dX13_freeze_35 : decode cX13_freeze 35 = .ok (.getfield 35, 3) := dk_180 0 35 (dk_at dksX13_freeze_1 11 rfl rfl)
theorem dX13_freeze_38 : decode cX13_freeze 38 = .ok (.iload_n 1, 1) := dk_27 (dk_at dksX13_freeze_1 14 rfl rfl)
theorem dX13_freeze_39 : decode cX13_freeze 39 = .ok (.iload_n 2, 1) := dk_28 (dk_at dksX13_freeze_1 15 rfl rfl)
theorem dX13_freeze_40 : decode cX13_freeze 40 = .ok (.ifCond .eq 7, 3) := dk_153 0 7 (dk_at dksX13_freeze_1 16 rfl rfl)
theorem dX13_freeze_43 : decode cX13_freeze 43 = .ok (.iconst 1, 1) := dk_4 (dk_at dksX13_freeze_1 19 rfl rfl)
theorem dX13_freeze_44 : decode cX13_freeze 44 = .ok (.goto 4, 3) := dk_167 0 4 (dk_at dksX13_freeze_1 20 rfl rfl)
theorem dX13_freeze_47 : decode cX13_freeze 47 = .ok (.iconst 0, 1) := dk_3 (dk_at dksX13_freeze_1 23 rfl rfl)
theorem dX13_freeze_48 : decode cX13_freeze 48 = .ok (.iastore, 1) := dk_79 (dk_at dksX13_freeze_2 0 rfl rfl)
theorem dX13_freeze_49 : decode cX13_freeze 49 = .ok (.iload_n 3, 1) := dk_29 (dk_at dksX13_freeze_2 1 rfl rfl)
theorem dX13_freeze_50 : decode cX13_freeze 50 = .ok (.ireturn, 1) := dk_172 (dk_at dksX13_freeze_2 2 rfl rfl)
abbrev cX13_wrong : ByteArray := prog_18_method_32_code
def yX13_wrong : MethodName := ⟨RX13, "wrong", "(I)I"⟩
def dkwX13_wrong_1 : List UInt8 := [27, 46, 5, 160, 0, 7, 6, 167, 0, 4, 3, 172]
abbrev dktX13_wrong_1 : List UInt8 := dkwX13_wrong_1 ++ []
def dkwX13_wrong_0 : List UInt8 := [42, 27, 182, 0, 63, 154, 0, 7, 4, 167, 0, 26, 27, 154, 0, 7, 5, 167, 0, 18, 42, 180, 0, 35]
abbrev dktX13_wrong_0 : List UInt8 := dkwX13_wrong_0 ++ dktX13_wrong_1
theorem dksX13_wrong_0 : cX13_wrong.data.toList.drop 0 = dktX13_wrong_0 := by decide +kernel
theorem dksX13_wrong_1 : cX13_wrong.data.toList.drop 24 = dktX13_wrong_1 := dk_seg dksX13_wrong_0 24 rfl rfl
theorem dX13_wrong_0 : decode cX13_wrong 0 = .ok (.aload_n 0, 1) := dk_42 (dk_at dksX13_wrong_0 0 rfl rfl)
theorem dX13_wrong_1 : decode cX13_wrong 1 = .ok (.iload_n 1, 1) := dk_27 (dk_at dksX13_wrong_0 1 rfl rfl)
theorem dX13_wrong_2 : decode cX13_wrong 2 = .ok (.invokevirtual 63, 3) := dk_182 0 63 (dk_at dksX13_wrong_0 2 rfl rfl)
theorem dX13_wrong_5 : decode cX13_wrong 5 = .ok (.ifCond .ne 7, 3) := dk_154 0 7 (dk_at dksX13_wrong_0 5 rfl rfl)
theorem dX13_wrong_8 : decode cX13_wrong 8 = .ok (.iconst 1, 1) := dk_4 (dk_at dksX13_wrong_0 8 rfl rfl)
theorem dX13_wrong_9 : decode cX13_wrong 9 = .ok (.goto 26, 3) := dk_167 0 26 (dk_at dksX13_wrong_0 9 rfl rfl)
theorem dX13_wrong_12 : decode cX13_wrong 12 = .ok (.iload_n 1, 1) := dk_27 (dk_at dksX13_wrong_0 12 rfl rfl)
theorem dX13_wrong_13 : decode cX13_wrong 13 = .ok (.ifCond .ne 7, 3) := dk_154 0 7 (dk_at dksX13_wrong_0 13 rfl rfl)
theorem dX13_wrong_16 : decode cX13_wrong 16 = .ok (.iconst 2, 1) := dk_5 (dk_at dksX13_wrong_0 16 rfl rfl)
theorem dX13_wrong_17 : decode cX13_wrong 17 = .ok (.goto 18, 3) := dk_167 0 18 (dk_at dksX13_wrong_0 17 rfl rfl)
theorem dX13_wrong_20 : decode cX13_wrong 20 = .ok (.aload_n 0, 1) := dk_42 (dk_at dksX13_wrong_0 20 rfl rfl)
theorem dX13_wrong_21 : decode cX13_wrong 21 = .ok (.getfield 35, 3) := dk_180 0 35 (dk_at dksX13_wrong_0 21 rfl rfl)
theorem dX13_wrong_24 : decode cX13_wrong 24 = .ok (.iload_n 1, 1) := dk_27 (dk_at dksX13_wrong_1 0 rfl rfl)
theorem dX13_wrong_25 : decode cX13_wrong 25 = .ok (.iaload, 1) := dk_46 (dk_at dksX13_wrong_1 1 rfl rfl)
theorem dX13_wrong_26 : decode cX13_wrong 26 = .ok (.iconst 2, 1) := dk_5 (dk_at dksX13_wrong_1 2 rfl rfl)
theorem dX13_wrong_27 : decode cX13_wrong 27 = .ok (.if_icmp .ne 7, 3) := dk_160 0 7 (dk_at dksX13_wrong_1 3 rfl rfl)
theorem dX13_wrong_30 : decode cX13_wrong 30 = .ok (.iconst 3, 1) := dk_6 (dk_at dksX13_wrong_1 6 rfl rfl)
theorem dX13_wrong_31 : decode cX13_wrong 31 = .ok (.goto 4, 3) := dk_167 0 4 (dk_at dksX13_wrong_1 7 rfl rfl)
theorem dX13_wrong_34 : decode cX13_wrong 34 = .ok (.iconst 0, 1) := dk_3 (dk_at dksX13_wrong_1 10 rfl rfl)
theorem dX13_wrong_35 : decode cX13_wrong 35 = .ok (.ireturn, 1) := dk_172 (dk_at dksX13_wrong_1 11 rfl rfl)
abbrev cX13_destroy : ByteArray := prog_18_method_38_code
def yX13_destroy : MethodName := ⟨RX13, "destroy", "(I)I"⟩
def dkwX13_destroy_3 : List UInt8 := [182, 0, 124, 172]
abbrev dktX13_destroy_3 : List UInt8 := dkwX13_destroy_3 ++ []
def dkwX13_destroy_2 : List UInt8 := [180, 0, 35, 28, 5, 79, 42, 180, 0, 38, 28, 3, 79, 132, 2, 1, 167, 255, 215, 42, 182, 0, 121, 42]
abbrev dktX13_destroy_2 : List UInt8 := dkwX13_destroy_2 ++ dktX13_destroy_3
def dkwX13_destroy_1 : List UInt8 := [162, 0, 41, 42, 180, 0, 25, 28, 51, 153, 0, 26, 42, 28, 27, 182, 0, 52, 153, 0, 17, 42]
abbrev dktX13_destroy_1 : List UInt8 := dkwX13_destroy_1 ++ dktX13_destroy_2
def dkwX13_destroy_0 : List UInt8 := [42, 42, 27, 182, 0, 112, 181, 0, 45, 42, 180, 0, 45, 158, 0, 5, 3, 172, 3, 61, 28, 16, 40]
abbrev dktX13_destroy_0 : List UInt8 := dkwX13_destroy_0 ++ dktX13_destroy_1
theorem dksX13_destroy_0 : cX13_destroy.data.toList.drop 0 = dktX13_destroy_0 := by decide +kernel
theorem dksX13_destroy_1 : cX13_destroy.data.toList.drop 23 = dktX13_destroy_1 := dk_seg dksX13_destroy_0 23 rfl rfl
theorem dksX13_destroy_2 : cX13_destroy.data.toList.drop 45 = dktX13_destroy_2 := dk_seg dksX13_destroy_1 22 rfl rfl
theorem dksX13_destroy_3 : cX13_destroy.data.toList.drop 69 = dktX13_destroy_3 := dk_seg dksX13_destroy_2 24 rfl rfl
theorem dX13_destroy_0 : decode cX13_destroy 0 = .ok (.aload_n 0, 1) := dk_42 (dk_at dksX13_destroy_0 0 rfl rfl)
theorem dX13_destroy_1 : decode cX13_destroy 1 = .ok (.aload_n 0, 1) := dk_42 (dk_at dksX13_destroy_0 1 rfl rfl)
theorem dX13_destroy_2 : decode cX13_destroy 2 = .ok (.iload_n 1, 1) := dk_27 (dk_at dksX13_destroy_0 2 rfl rfl)
theorem dX13_destroy_3 : decode cX13_destroy 3 = .ok (.invokevirtual 112, 3) := dk_182 0 112 (dk_at dksX13_destroy_0 3 rfl rfl)
theorem dX13_destroy_6 : decode cX13_destroy 6 = .ok (.putfield 45, 3) := dk_181 0 45 (dk_at dksX13_destroy_0 6 rfl rfl)
theorem dX13_destroy_9 : decode cX13_destroy 9 = .ok (.aload_n 0, 1) := dk_42 (dk_at dksX13_destroy_0 9 rfl rfl)
theorem dX13_destroy_10 : decode cX13_destroy 10 = .ok (.getfield 45, 3) := dk_180 0 45 (dk_at dksX13_destroy_0 10 rfl rfl)
theorem dX13_destroy_13 : decode cX13_destroy 13 = .ok (.ifCond .le 5, 3) := dk_158 0 5 (dk_at dksX13_destroy_0 13 rfl rfl)
theorem dX13_destroy_16 : decode cX13_destroy 16 = .ok (.iconst 0, 1) := dk_3 (dk_at dksX13_destroy_0 16 rfl rfl)
theorem dX13_destroy_17 : decode cX13_destroy 17 = .ok (.ireturn, 1) := dk_172 (dk_at dksX13_destroy_0 17 rfl rfl)
theorem dX13_destroy_18 : decode cX13_destroy 18 = .ok (.iconst 0, 1) := dk_3 (dk_at dksX13_destroy_0 18 rfl rfl)
theorem dX13_destroy_19 : decode cX13_destroy 19 = .ok (.istore_n 2, 1) := dk_61 (dk_at dksX13_destroy_0 19 rfl rfl)
theorem dX13_destroy_20 : decode cX13_destroy 20 = .ok (.iload_n 2, 1) := dk_28 (dk_at dksX13_destroy_0 20 rfl rfl)
theorem dX13_destroy_21 : decode cX13_destroy 21 = .ok (.bipush 40, 2) := dk_16 40 (dk_at dksX13_destroy_0 21 rfl rfl)
theorem dX13_destroy_23 : decode cX13_destroy 23 = .ok (.if_icmp .ge 41, 3) := dk_162 0 41 (dk_at dksX13_destroy_1 0 rfl rfl)
theorem dX13_destroy_26 : decode cX13_destroy 26 = .ok (.aload_n 0, 1) := dk_42 (dk_at dksX13_destroy_1 3 rfl rfl)
theorem dX13_destroy_27 : decode cX13_destroy 27 = .ok (.getfield 25, 3) := dk_180 0 25 (dk_at dksX13_destroy_1 4 rfl rfl)
theorem dX13_destroy_30 : decode cX13_destroy 30 = .ok (.iload_n 2, 1) := dk_28 (dk_at dksX13_destroy_1 7 rfl rfl)
theorem dX13_destroy_31 : decode cX13_destroy 31 = .ok (.baload, 1) := dk_51 (dk_at dksX13_destroy_1 8 rfl rfl)
theorem dX13_destroy_32 : decode cX13_destroy 32 = .ok (.ifCond .eq 26, 3) := dk_153 0 26 (dk_at dksX13_destroy_1 9 rfl rfl)
theorem dX13_destroy_35 : decode cX13_destroy 35 = .ok (.aload_n 0, 1) := dk_42 (dk_at dksX13_destroy_1 12 rfl rfl)
theorem dX13_destroy_36 : decode cX13_destroy 36 = .ok (.iload_n 2, 1) := dk_28 (dk_at dksX13_destroy_1 13 rfl rfl)
theorem dX13_destroy_37 : decode cX13_destroy 37 = .ok (.iload_n 1, 1) := dk_27 (dk_at dksX13_destroy_1 14 rfl rfl)
theorem dX13_destroy_38 : decode cX13_destroy 38 = .ok (.invokevirtual 52, 3) := dk_182 0 52 (dk_at dksX13_destroy_1 15 rfl rfl)
theorem dX13_destroy_41 : decode cX13_destroy 41 = .ok (.ifCond .eq 17, 3) := dk_153 0 17 (dk_at dksX13_destroy_1 18 rfl rfl)
theorem dX13_destroy_44 : decode cX13_destroy 44 = .ok (.aload_n 0, 1) := dk_42 (dk_at dksX13_destroy_1 21 rfl rfl)
theorem dX13_destroy_45 : decode cX13_destroy 45 = .ok (.getfield 35, 3) := dk_180 0 35 (dk_at dksX13_destroy_2 0 rfl rfl)
theorem dX13_destroy_48 : decode cX13_destroy 48 = .ok (.iload_n 2, 1) := dk_28 (dk_at dksX13_destroy_2 3 rfl rfl)
theorem dX13_destroy_49 : decode cX13_destroy 49 = .ok (.iconst 2, 1) := dk_5 (dk_at dksX13_destroy_2 4 rfl rfl)
theorem dX13_destroy_50 : decode cX13_destroy 50 = .ok (.iastore, 1) := dk_79 (dk_at dksX13_destroy_2 5 rfl rfl)
theorem dX13_destroy_51 : decode cX13_destroy 51 = .ok (.aload_n 0, 1) := dk_42 (dk_at dksX13_destroy_2 6 rfl rfl)
theorem dX13_destroy_52 : decode cX13_destroy 52 = .ok (.getfield 38, 3) := dk_180 0 38 (dk_at dksX13_destroy_2 7 rfl rfl)
theorem dX13_destroy_55 : decode cX13_destroy 55 = .ok (.iload_n 2, 1) := dk_28 (dk_at dksX13_destroy_2 10 rfl rfl)
theorem dX13_destroy_56 : decode cX13_destroy 56 = .ok (.iconst 0, 1) := dk_3 (dk_at dksX13_destroy_2 11 rfl rfl)
theorem dX13_destroy_57 : decode cX13_destroy 57 = .ok (.iastore, 1) := dk_79 (dk_at dksX13_destroy_2 12 rfl rfl)
theorem dX13_destroy_58 : decode cX13_destroy 58 = .ok (.iinc 2 1, 3) := dk_132 2 1 (dk_at dksX13_destroy_2 13 rfl rfl)
theorem dX13_destroy_61 : decode cX13_destroy 61 = .ok (.goto (-41), 3) := dk_167 255 215 (dk_at dksX13_destroy_2 16 rfl rfl)
theorem dX13_destroy_64 : decode cX13_destroy 64 = .ok (.aload_n 0, 1) := dk_42 (dk_at dksX13_destroy_2 19 rfl rfl)
theorem dX13_destroy_65 : decode cX13_destroy 65 = .ok (.invokevirtual 121, 3) := dk_182 0 121 (dk_at dksX13_destroy_2 20 rfl rfl)
theorem dX13_destroy_68 : decode cX13_destroy 68 = .ok (.aload_n 0, 1) := dk_42 (dk_at dksX13_destroy_2 23 rfl rfl)
theorem dX13_destroy_69 : decode cX13_destroy 69 = .ok (.invokevirtual 124, 3) := dk_182 0 124 (dk_at dksX13_destroy_3 0 rfl rfl)
theorem dX13_destroy_72 : decode cX13_destroy 72 = .ok (.ireturn, 1) := dk_172 (dk_at dksX13_destroy_3 3 rfl rfl)
abbrev cX13_clear : ByteArray := prog_18_method_35_code
def yX13_clear : MethodName := ⟨RX13, "clear", "()V"⟩
def dkwX13_clear_3 : List UInt8 := [177]
abbrev dktX13_clear_3 : List UInt8 := dkwX13_clear_3 ++ []
def dkwX13_clear_2 : List UInt8 := [182, 0, 115, 154, 0, 12, 42, 180, 0, 25, 28, 3, 84, 4, 60, 132, 2, 1, 167, 255, 203, 167, 255, 192]
abbrev dktX13_clear_2 : List UInt8 := dkwX13_clear_2 ++ dktX13_clear_3
def dkwX13_clear_1 : List UInt8 := [153, 0, 38, 42, 180, 0, 35, 28, 46, 5, 160, 0, 28, 42, 28, 182, 0, 56, 154, 0, 20, 42, 28]
abbrev dktX13_clear_1 : List UInt8 := dkwX13_clear_1 ++ dktX13_clear_2
def dkwX13_clear_0 : List UInt8 := [4, 60, 27, 153, 0, 66, 3, 60, 4, 61, 28, 16, 40, 162, 0, 53, 42, 180, 0, 25, 28, 51]
abbrev dktX13_clear_0 : List UInt8 := dkwX13_clear_0 ++ dktX13_clear_1
theorem dksX13_clear_0 : cX13_clear.data.toList.drop 0 = dktX13_clear_0 := by decide +kernel
theorem dksX13_clear_1 : cX13_clear.data.toList.drop 22 = dktX13_clear_1 := dk_seg dksX13_clear_0 22 rfl rfl
theorem dksX13_clear_2 : cX13_clear.data.toList.drop 45 = dktX13_clear_2 := dk_seg dksX13_clear_1 23 rfl rfl
theorem dksX13_clear_3 : cX13_clear.data.toList.drop 69 = dktX13_clear_3 := dk_seg dksX13_clear_2 24 rfl rfl
theorem dX13_clear_0 : decode cX13_clear 0 = .ok (.iconst 1, 1) := dk_4 (dk_at dksX13_clear_0 0 rfl rfl)
theorem dX13_clear_1 : decode cX13_clear 1 = .ok (.istore_n 1, 1) := dk_60 (dk_at dksX13_clear_0 1 rfl rfl)
theorem dX13_clear_2 : decode cX13_clear 2 = .ok (.iload_n 1, 1) := dk_27 (dk_at dksX13_clear_0 2 rfl rfl)
theorem dX13_clear_3 : decode cX13_clear 3 = .ok (.ifCond .eq 66, 3) := dk_153 0 66 (dk_at dksX13_clear_0 3 rfl rfl)
theorem dX13_clear_6 : decode cX13_clear 6 = .ok (.iconst 0, 1) := dk_3 (dk_at dksX13_clear_0 6 rfl rfl)
theorem dX13_clear_7 : decode cX13_clear 7 = .ok (.istore_n 1, 1) := dk_60 (dk_at dksX13_clear_0 7 rfl rfl)
theorem dX13_clear_8 : decode cX13_clear 8 = .ok (.iconst 1, 1) := dk_4 (dk_at dksX13_clear_0 8 rfl rfl)
theorem dX13_clear_9 : decode cX13_clear 9 = .ok (.istore_n 2, 1) := dk_61 (dk_at dksX13_clear_0 9 rfl rfl)
theorem dX13_clear_10 : decode cX13_clear 10 = .ok (.iload_n 2, 1) := dk_28 (dk_at dksX13_clear_0 10 rfl rfl)
theorem dX13_clear_11 : decode cX13_clear 11 = .ok (.bipush 40, 2) := dk_16 40 (dk_at dksX13_clear_0 11 rfl rfl)
theorem dX13_clear_13 : decode cX13_clear 13 = .ok (.if_icmp .ge 53, 3) := dk_162 0 53 (dk_at dksX13_clear_0 13 rfl rfl)
theorem dX13_clear_16 : decode cX13_clear 16 = .ok (.aload_n 0, 1) := dk_42 (dk_at dksX13_clear_0 16 rfl rfl)
theorem dX13_clear_17 : decode cX13_clear 17 = .ok (.getfield 25, 3) := dk_180 0 25 (dk_at dksX13_clear_0 17 rfl rfl)
theorem dX13_clear_20 : decode cX13_clear 20 = .ok (.iload_n 2, 1) := dk_28 (dk_at dksX13_clear_0 20 rfl rfl)
theorem dX13_clear_21 : decode cX13_clear 21 = .ok (.baload, 1) := dk_51 (dk_at dksX13_clear_0 21 rfl rfl)
theorem dX13_clear_22 : decode cX13_clear 22 = .ok (.ifCond .eq 38, 3) := dk_153 0 38 (dk_at dksX13_clear_1 0 rfl rfl)
theorem dX13_clear_25 : decode cX13_clear 25 = .ok (.aload_n 0, 1) := dk_42 (dk_at dksX13_clear_1 3 rfl rfl)
theorem dX13_clear_26 : decode cX13_clear 26 = .ok (.getfield 35, 3) := dk_180 0 35 (dk_at dksX13_clear_1 4 rfl rfl)
theorem dX13_clear_29 : decode cX13_clear 29 = .ok (.iload_n 2, 1) := dk_28 (dk_at dksX13_clear_1 7 rfl rfl)
theorem dX13_clear_30 : decode cX13_clear 30 = .ok (.iaload, 1) := dk_46 (dk_at dksX13_clear_1 8 rfl rfl)
theorem dX13_clear_31 : decode cX13_clear 31 = .ok (.iconst 2, 1) := dk_5 (dk_at dksX13_clear_1 9 rfl rfl)
theorem dX13_clear_32 : decode cX13_clear 32 = .ok (.if_icmp .ne 28, 3) := dk_160 0 28 (dk_at dksX13_clear_1 10 rfl rfl)
theorem dX13_clear_35 : decode cX13_clear 35 = .ok (.aload_n 0, 1) := dk_42 (dk_at dksX13_clear_1 13 rfl rfl)
theorem dX13_clear_36 : decode cX13_clear 36 = .ok (.iload_n 2, 1) := dk_28 (dk_at dksX13_clear_1 14 rfl rfl)
theorem dX13_clear_37 : decode cX13_clear 37 = .ok (.invokevirtual 56, 3) := dk_182 0 56 (dk_at dksX13_clear_1 15 rfl rfl)
theorem dX13_clear_40 : decode cX13_clear 40 = .ok (.ifCond .ne 20, 3) := dk_154 0 20 (dk_at dksX13_clear_1 18 rfl rfl)
theorem dX13_clear_43 : decode cX13_clear 43 = .ok (.aload_n 0, 1) := dk_42 (dk_at dksX13_clear_1 21 rfl rfl)
theorem dX13_clear_44 : decode cX13_clear 44 = .ok (.iload_n 2, 1) := dk_28 (dk_at dksX13_clear_1 22 rfl rfl)
theorem dX13_clear_45 : decode cX13_clear 45 = .ok (.invokevirtual 115, 3) := dk_182 0 115 (dk_at dksX13_clear_2 0 rfl rfl)
theorem dX13_clear_48 : decode cX13_clear 48 = .ok (.ifCond .ne 12, 3) := dk_154 0 12 (dk_at dksX13_clear_2 3 rfl rfl)
theorem dX13_clear_51 : decode cX13_clear 51 = .ok (.aload_n 0, 1) := dk_42 (dk_at dksX13_clear_2 6 rfl rfl)
theorem dX13_clear_52 : decode cX13_clear 52 = .ok (.getfield 25, 3) := dk_180 0 25 (dk_at dksX13_clear_2 7 rfl rfl)
theorem dX13_clear_55 : decode cX13_clear 55 = .ok (.iload_n 2, 1) := dk_28 (dk_at dksX13_clear_2 10 rfl rfl)
theorem dX13_clear_56 : decode cX13_clear 56 = .ok (.iconst 0, 1) := dk_3 (dk_at dksX13_clear_2 11 rfl rfl)
theorem dX13_clear_57 : decode cX13_clear 57 = .ok (.bastore, 1) := dk_84 (dk_at dksX13_clear_2 12 rfl rfl)
theorem dX13_clear_58 : decode cX13_clear 58 = .ok (.iconst 1, 1) := dk_4 (dk_at dksX13_clear_2 13 rfl rfl)
theorem dX13_clear_59 : decode cX13_clear 59 = .ok (.istore_n 1, 1) := dk_60 (dk_at dksX13_clear_2 14 rfl rfl)
theorem dX13_clear_60 : decode cX13_clear 60 = .ok (.iinc 2 1, 3) := dk_132 2 1 (dk_at dksX13_clear_2 15 rfl rfl)
theorem dX13_clear_63 : decode cX13_clear 63 = .ok (.goto (-53), 3) := dk_167 255 203 (dk_at dksX13_clear_2 18 rfl rfl)
theorem dX13_clear_66 : decode cX13_clear 66 = .ok (.goto (-64), 3) := dk_167 255 192 (dk_at dksX13_clear_2 21 rfl rfl)
theorem dX13_clear_69 : decode cX13_clear 69 = .ok (.return_, 1) := dk_177 (dk_at dksX13_clear_3 0 rfl rfl)
abbrev cX13_isParent : ByteArray := prog_18_method_34_code
def yX13_isParent : MethodName := ⟨RX13, "isParent", "(I)Z"⟩
def dkwX13_isParent_1 : List UInt8 := [180, 0, 29, 29, 46, 27, 160, 0, 7, 4, 167, 0, 4, 3, 61, 132, 3, 1, 167, 255, 218, 28, 172]
abbrev dktX13_isParent_1 : List UInt8 := dkwX13_isParent_1 ++ []
def dkwX13_isParent_0 : List UInt8 := [3, 61, 3, 62, 29, 16, 40, 162, 0, 38, 28, 154, 0, 22, 42, 180, 0, 25, 29, 51, 153, 0, 17, 42]
abbrev dktX13_isParent_0 : List UInt8 := dkwX13_isParent_0 ++ dktX13_isParent_1
theorem dksX13_isParent_0 : cX13_isParent.data.toList.drop 0 = dktX13_isParent_0 := by decide +kernel
theorem dksX13_isParent_1 : cX13_isParent.data.toList.drop 24 = dktX13_isParent_1 := dk_seg dksX13_isParent_0 24 rfl rfl
theorem dX13_isParent_0 : decode cX13_isParent 0 = .ok (.iconst 0, 1) := dk_3 (dk_at dksX13_isParent_0 0 rfl rfl)
theorem dX13_isParent_1 : decode cX13_isParent 1 = .ok (.istore_n 2, 1) := dk_61 (dk_at dksX13_isParent_0 1 rfl rfl)
theorem dX13_isParent_2 : decode cX13_isParent 2 = .ok (.iconst 0, 1) := dk_3 (dk_at dksX13_isParent_0 2 rfl rfl)
theorem dX13_isParent_3 : decode cX13_isParent 3 = .ok (.istore_n 3, 1) := dk_62 (dk_at dksX13_isParent_0 3 rfl rfl)
theorem dX13_isParent_4 : decode cX13_isParent 4 = .ok (.iload_n 3, 1) := dk_29 (dk_at dksX13_isParent_0 4 rfl rfl)
theorem dX13_isParent_5 : decode cX13_isParent 5 = .ok (.bipush 40, 2) := dk_16 40 (dk_at dksX13_isParent_0 5 rfl rfl)
theorem dX13_isParent_7 : decode cX13_isParent 7 = .ok (.if_icmp .ge 38, 3) := dk_162 0 38 (dk_at dksX13_isParent_0 7 rfl rfl)
theorem dX13_isParent_10 : decode cX13_isParent 10 = .ok (.iload_n 2, 1) := dk_28 (dk_at dksX13_isParent_0 10 rfl rfl)
theorem dX13_isParent_11 : decode cX13_isParent 11 = .ok (.ifCond .ne 22, 3) := dk_154 0 22 (dk_at dksX13_isParent_0 11 rfl rfl)
theorem dX13_isParent_14 : decode cX13_isParent 14 = .ok (.aload_n 0, 1) := dk_42 (dk_at dksX13_isParent_0 14 rfl rfl)
theorem dX13_isParent_15 : decode cX13_isParent 15 = .ok (.getfield 25, 3) := dk_180 0 25 (dk_at dksX13_isParent_0 15 rfl rfl)
theorem dX13_isParent_18 : decode cX13_isParent 18 = .ok (.iload_n 3, 1) := dk_29 (dk_at dksX13_isParent_0 18 rfl rfl)
theorem dX13_isParent_19 : decode cX13_isParent 19 = .ok (.baload, 1) := dk_51 (dk_at dksX13_isParent_0 19 rfl rfl)
theorem dX13_isParent_20 : decode cX13_isParent 20 = .ok (.ifCond .eq 17, 3) := dk_153 0 17 (dk_at dksX13_isParent_0 20 rfl rfl)
theorem dX13_isParent_23 : decode cX13_isParent 23 = .ok (.aload_n 0, 1) := dk_42 (dk_at dksX13_isParent_0 23 rfl rfl)
theorem dX13_isParent_24 : decode cX13_isParent 24 = .ok (.getfield 29, 3) := dk_180 0 29 (dk_at dksX13_isParent_1 0 rfl rfl)
theorem dX13_isParent_27 : decode cX13_isParent 27 = .ok (.iload_n 3, 1) := dk_29 (dk_at dksX13_isParent_1 3 rfl rfl)
theorem dX13_isParent_28 : decode cX13_isParent 28 = .ok (.iaload, 1) := dk_46 (dk_at dksX13_isParent_1 4 rfl rfl)
theorem dX13_isParent_29 : decode cX13_isParent 29 = .ok (.iload_n 1, 1) := dk_27 (dk_at dksX13_isParent_1 5 rfl rfl)
theorem dX13_isParent_30 : decode cX13_isParent 30 = .ok (.if_icmp .ne 7, 3) := dk_160 0 7 (dk_at dksX13_isParent_1 6 rfl rfl)
theorem dX13_isParent_33 : decode cX13_isParent 33 = .ok (.iconst 1, 1) := dk_4 (dk_at dksX13_isParent_1 9 rfl rfl)
theorem dX13_isParent_34 : decode cX13_isParent 34 = .ok (.goto 4, 3) := dk_167 0 4 (dk_at dksX13_isParent_1 10 rfl rfl)
theorem dX13_isParent_37 : decode cX13_isParent 37 = .ok (.iconst 0, 1) := dk_3 (dk_at dksX13_isParent_1 13 rfl rfl)
theorem dX13_isParent_38 : decode cX13_isParent 38 = .ok (.istore_n 2, 1) := dk_61 (dk_at dksX13_isParent_1 14 rfl rfl)
theorem dX13_isParent_39 : decode cX13_isParent 39 = .ok (.iinc 3 1, 3) := dk_132 3 1 (dk_at dksX13_isParent_1 15 rfl rfl)
theorem dX13_isParent_42 : decode cX13_isParent 42 = .ok (.goto (-38), 3) := dk_167 255 218 (dk_at dksX13_isParent_1 18 rfl rfl)
theorem dX13_isParent_45 : decode cX13_isParent 45 = .ok (.iload_n 2, 1) := dk_28 (dk_at dksX13_isParent_1 21 rfl rfl)
theorem dX13_isParent_46 : decode cX13_isParent 46 = .ok (.ireturn, 1) := dk_172 (dk_at dksX13_isParent_1 22 rfl rfl)
abbrev cX13_toBeFreed : ByteArray := prog_18_method_37_code
def yX13_toBeFreed : MethodName := ⟨RX13, "toBeFreed", "()I"⟩
def dkwX13_toBeFreed_1 : List UInt8 := [3, 96, 60, 132, 2, 1, 167, 255, 230, 27, 172]
abbrev dktX13_toBeFreed_1 : List UInt8 := dkwX13_toBeFreed_1 ++ []
def dkwX13_toBeFreed_0 : List UInt8 := [3, 60, 3, 61, 28, 17, 0, 192, 162, 0, 25, 27, 42, 28, 182, 0, 118, 153, 0, 7, 4, 167, 0, 4]
abbrev dktX13_toBeFreed_0 : List UInt8 := dkwX13_toBeFreed_0 ++ dktX13_toBeFreed_1
theorem dksX13_toBeFreed_0 : cX13_toBeFreed.data.toList.drop 0 = dktX13_toBeFreed_0 := by decide +kernel
theorem dksX13_toBeFreed_1 : cX13_toBeFreed.data.toList.drop 24 = dktX13_toBeFreed_1 := dk_seg dksX13_toBeFreed_0 24 rfl rfl
theorem dX13_toBeFreed_0 : decode cX13_toBeFreed 0 = .ok (.iconst 0, 1) := dk_3 (dk_at dksX13_toBeFreed_0 0 rfl rfl)
theorem dX13_toBeFreed_1 : decode cX13_toBeFreed 1 = .ok (.istore_n 1, 1) := dk_60 (dk_at dksX13_toBeFreed_0 1 rfl rfl)
theorem dX13_toBeFreed_2 : decode cX13_toBeFreed 2 = .ok (.iconst 0, 1) := dk_3 (dk_at dksX13_toBeFreed_0 2 rfl rfl)
theorem dX13_toBeFreed_3 : decode cX13_toBeFreed 3 = .ok (.istore_n 2, 1) := dk_61 (dk_at dksX13_toBeFreed_0 3 rfl rfl)
theorem dX13_toBeFreed_4 : decode cX13_toBeFreed 4 = .ok (.iload_n 2, 1) := dk_28 (dk_at dksX13_toBeFreed_0 4 rfl rfl)
theorem dX13_toBeFreed_5 : decode cX13_toBeFreed 5 = .ok (.sipush 192, 3) := dk_17 0 192 (dk_at dksX13_toBeFreed_0 5 rfl rfl)
theorem dX13_toBeFreed_8 : decode cX13_toBeFreed 8 = .ok (.if_icmp .ge 25, 3) := dk_162 0 25 (dk_at dksX13_toBeFreed_0 8 rfl rfl)
theorem dX13_toBeFreed_11 : decode cX13_toBeFreed 11 = .ok (.iload_n 1, 1) := dk_27 (dk_at dksX13_toBeFreed_0 11 rfl rfl)
theorem dX13_toBeFreed_12 : decode cX13_toBeFreed 12 = .ok (.aload_n 0, 1) := dk_42 (dk_at dksX13_toBeFreed_0 12 rfl rfl)
theorem dX13_toBeFreed_13 : decode cX13_toBeFreed 13 = .ok (.iload_n 2, 1) := dk_28 (dk_at dksX13_toBeFreed_0 13 rfl rfl)
theorem dX13_toBeFreed_14 : decode cX13_toBeFreed 14 = .ok (.invokevirtual 118, 3) := dk_182 0 118 (dk_at dksX13_toBeFreed_0 14 rfl rfl)
theorem dX13_toBeFreed_17 : decode cX13_toBeFreed 17 = .ok (.ifCond .eq 7, 3) := dk_153 0 7 (dk_at dksX13_toBeFreed_0 17 rfl rfl)
theorem dX13_toBeFreed_20 : decode cX13_toBeFreed 20 = .ok (.iconst 1, 1) := dk_4 (dk_at dksX13_toBeFreed_0 20 rfl rfl)
theorem dX13_toBeFreed_21 : decode cX13_toBeFreed 21 = .ok (.goto 4, 3) := dk_167 0 4 (dk_at dksX13_toBeFreed_0 21 rfl rfl)
theorem dX13_toBeFreed_24 : decode cX13_toBeFreed 24 = .ok (.iconst 0, 1) := dk_3 (dk_at dksX13_toBeFreed_1 0 rfl rfl)
theorem dX13_toBeFreed_25 : decode cX13_toBeFreed 25 = .ok (.iadd, 1) := dk_96 (dk_at dksX13_toBeFreed_1 1 rfl rfl)
theorem dX13_toBeFreed_26 : decode cX13_toBeFreed 26 = .ok (.istore_n 1, 1) := dk_60 (dk_at dksX13_toBeFreed_1 2 rfl rfl)
theorem dX13_toBeFreed_27 : decode cX13_toBeFreed 27 = .ok (.iinc 2 1, 3) := dk_132 2 1 (dk_at dksX13_toBeFreed_1 3 rfl rfl)
theorem dX13_toBeFreed_30 : decode cX13_toBeFreed 30 = .ok (.goto (-26), 3) := dk_167 255 230 (dk_at dksX13_toBeFreed_1 6 rfl rfl)
theorem dX13_toBeFreed_33 : decode cX13_toBeFreed 33 = .ok (.iload_n 1, 1) := dk_27 (dk_at dksX13_toBeFreed_1 9 rfl rfl)
theorem dX13_toBeFreed_34 : decode cX13_toBeFreed 34 = .ok (.ireturn, 1) := dk_172 (dk_at dksX13_toBeFreed_1 10 rfl rfl)
abbrev cX13_isToBeFreed : ByteArray := prog_18_method_36_code
def yX13_isToBeFreed : MethodName := ⟨RX13, "isToBeFreed", "(I)Z"⟩
def dkwX13_isToBeFreed_1 : List UInt8 := [4, 167, 0, 4, 3, 172]
abbrev dktX13_isToBeFreed_1 : List UInt8 := dkwX13_isToBeFreed_1 ++ []
def dkwX13_isToBeFreed_0 : List UInt8 := [42, 180, 0, 7, 27, 46, 155, 0, 22, 42, 180, 0, 35, 42, 180, 0, 7, 27, 46, 46, 5, 160, 0, 7]
abbrev dktX13_isToBeFreed_0 : List UInt8 := dkwX13_isToBeFreed_0 ++ dktX13_isToBeFreed_1
theorem dksX13_isToBeFreed_0 : cX13_isToBeFreed.data.toList.drop 0 = dktX13_isToBeFreed_0 := by decide +kernel
theorem dksX13_isToBeFreed_1 : cX13_isToBeFreed.data.toList.drop 24 = dktX13_isToBeFreed_1 := dk_seg dksX13_isToBeFreed_0 24 rfl rfl
theorem dX13_isToBeFreed_0 : decode cX13_isToBeFreed 0 = .ok (.aload_n 0, 1) := dk_42 (dk_at dksX13_isToBeFreed_0 0 rfl rfl)
theorem dX13_isToBeFreed_1 : decode cX13_isToBeFreed 1 = .ok (.getfield 7, 3) := dk_180 0 7 (dk_at dksX13_isToBeFreed_0 1 rfl rfl)
theorem dX13_isToBeFreed_4 : decode cX13_isToBeFreed 4 = .ok (.iload_n 1, 1) := dk_27 (dk_at dksX13_isToBeFreed_0 4 rfl rfl)
theorem dX13_isToBeFreed_5 : decode cX13_isToBeFreed 5 = .ok (.iaload, 1) := dk_46 (dk_at dksX13_isToBeFreed_0 5 rfl rfl)
theorem dX13_isToBeFreed_6 : decode cX13_isToBeFreed 6 = .ok (.ifCond .lt 22, 3) := dk_155 0 22 (dk_at dksX13_isToBeFreed_0 6 rfl rfl)
theorem dX13_isToBeFreed_9 : decode cX13_isToBeFreed 9 = .ok (.aload_n 0, 1) := dk_42 (dk_at dksX13_isToBeFreed_0 9 rfl rfl)
theorem dX13_isToBeFreed_10 : decode cX13_isToBeFreed 10 = .ok (.getfield 35, 3) := dk_180 0 35 (dk_at dksX13_isToBeFreed_0 10 rfl rfl)
theorem dX13_isToBeFreed_13 : decode cX13_isToBeFreed 13 = .ok (.aload_n 0, 1) := dk_42 (dk_at dksX13_isToBeFreed_0 13 rfl rfl)
theorem dX13_isToBeFreed_14 : decode cX13_isToBeFreed 14 = .ok (.getfield 7, 3) := dk_180 0 7 (dk_at dksX13_isToBeFreed_0 14 rfl rfl)
theorem dX13_isToBeFreed_17 : decode cX13_isToBeFreed 17 = .ok (.iload_n 1, 1) := dk_27 (dk_at dksX13_isToBeFreed_0 17 rfl rfl)
theorem dX13_isToBeFreed_18 : decode cX13_isToBeFreed 18 = .ok (.iaload, 1) := dk_46 (dk_at dksX13_isToBeFreed_0 18 rfl rfl)
theorem dX13_isToBeFreed_19 : decode cX13_isToBeFreed 19 = .ok (.iaload, 1) := dk_46 (dk_at dksX13_isToBeFreed_0 19 rfl rfl)
theorem dX13_isToBeFreed_20 : decode cX13_isToBeFreed 20 = .ok (.iconst 2, 1) := dk_5 (dk_at dksX13_isToBeFreed_0 20 rfl rfl)
theorem dX13_isToBeFreed_21 : decode cX13_isToBeFreed 21 = .ok (.if_icmp .ne 7, 3) := dk_160 0 7 (dk_at dksX13_isToBeFreed_0 21 rfl rfl)
theorem dX13_isToBeFreed_24 : decode cX13_isToBeFreed 24 = .ok (.iconst 1, 1) := dk_4 (dk_at dksX13_isToBeFreed_1 0 rfl rfl)
theorem dX13_isToBeFreed_25 : decode cX13_isToBeFreed 25 = .ok (.goto 4, 3) := dk_167 0 4 (dk_at dksX13_isToBeFreed_1 1 rfl rfl)
theorem dX13_isToBeFreed_28 : decode cX13_isToBeFreed 28 = .ok (.iconst 0, 1) := dk_3 (dk_at dksX13_isToBeFreed_1 4 rfl rfl)
theorem dX13_isToBeFreed_29 : decode cX13_isToBeFreed 29 = .ok (.ireturn, 1) := dk_172 (dk_at dksX13_isToBeFreed_1 5 rfl rfl)
abbrev cX13_work : ByteArray := prog_18_method_39_code
def yX13_work : MethodName := ⟨RX13, "work", "(I)I"⟩
def dkwX13_work_3 : List UInt8 := [182, 0, 121, 42, 182, 0, 124, 172]
abbrev dktX13_work_3 : List UInt8 := dkwX13_work_3 ++ []
def dkwX13_work_2 : List UInt8 := [182, 0, 118, 153, 0, 13, 42, 180, 0, 7, 29, 2, 79, 132, 2, 255, 132, 3, 1, 167, 255, 224, 42]
abbrev dktX13_work_2 : List UInt8 := dkwX13_work_2 ++ dktX13_work_3
def dkwX13_work_1 : List UInt8 := [158, 0, 5, 3, 172, 27, 61, 3, 62, 29, 17, 0, 192, 162, 0, 31, 28, 158, 0, 27, 42, 29]
abbrev dktX13_work_1 : List UInt8 := dkwX13_work_1 ++ dktX13_work_2
def dkwX13_work_0 : List UInt8 := [42, 27, 3, 17, 0, 192, 184, 0, 48, 153, 0, 7, 3, 167, 0, 4, 4, 181, 0, 45, 42, 180, 0, 45]
abbrev dktX13_work_0 : List UInt8 := dkwX13_work_0 ++ dktX13_work_1
theorem dksX13_work_0 : cX13_work.data.toList.drop 0 = dktX13_work_0 := by decide +kernel
theorem dksX13_work_1 : cX13_work.data.toList.drop 24 = dktX13_work_1 := dk_seg dksX13_work_0 24 rfl rfl
theorem dksX13_work_2 : cX13_work.data.toList.drop 46 = dktX13_work_2 := dk_seg dksX13_work_1 22 rfl rfl
theorem dksX13_work_3 : cX13_work.data.toList.drop 69 = dktX13_work_3 := dk_seg dksX13_work_2 23 rfl rfl
theorem dX13_work_0 : decode cX13_work 0 = .ok (.aload_n 0, 1) := dk_42 (dk_at dksX13_work_0 0 rfl rfl)
theorem dX13_work_1 : decode cX13_work 1 = .ok (.iload_n 1, 1) := dk_27 (dk_at dksX13_work_0 1 rfl rfl)
theorem dX13_work_2 : decode cX13_work 2 = .ok (.iconst 0, 1) := dk_3 (dk_at dksX13_work_0 2 rfl rfl)
theorem dX13_work_3 : decode cX13_work 3 = .ok (.sipush 192, 3) := dk_17 0 192 (dk_at dksX13_work_0 3 rfl rfl)
theorem dX13_work_6 : decode cX13_work 6 = .ok (.invokestatic 48, 3) := dk_184 0 48 (dk_at dksX13_work_0 6 rfl rfl)
theorem dX13_work_9 : decode cX13_work 9 = .ok (.ifCond .eq 7, 3) := dk_153 0 7 (dk_at dksX13_work_0 9 rfl rfl)
theorem dX13_work_12 : decode cX13_work 12 = .ok (.iconst 0, 1) := dk_3 (dk_at dksX13_work_0 12 rfl rfl)
theorem dX13_work_13 : decode cX13_work 13 = .ok (.goto 4, 3) := dk_167 0 4 (dk_at dksX13_work_0 13 rfl rfl)
theorem dX13_work_16 : decode cX13_work 16 = .ok (.iconst 1, 1) := dk_4 (dk_at dksX13_work_0 16 rfl rfl)
theorem dX13_work_17 : decode cX13_work 17 = .ok (.putfield 45, 3) := dk_181 0 45 (dk_at dksX13_work_0 17 rfl rfl)
theorem dX13_work_20 : decode cX13_work 20 = .ok (.aload_n 0, 1) := dk_42 (dk_at dksX13_work_0 20 rfl rfl)
theorem dX13_work_21 : decode cX13_work 21 = .ok (.getfield 45, 3) := dk_180 0 45 (dk_at dksX13_work_0 21 rfl rfl)
theorem dX13_work_24 : decode cX13_work 24 = .ok (.ifCond .le 5, 3) := dk_158 0 5 (dk_at dksX13_work_1 0 rfl rfl)
theorem dX13_work_27 : decode cX13_work 27 = .ok (.iconst 0, 1) := dk_3 (dk_at dksX13_work_1 3 rfl rfl)
theorem dX13_work_28 : decode cX13_work 28 = .ok (.ireturn, 1) := dk_172 (dk_at dksX13_work_1 4 rfl rfl)
theorem dX13_work_29 : decode cX13_work 29 = .ok (.iload_n 1, 1) := dk_27 (dk_at dksX13_work_1 5 rfl rfl)
theorem dX13_work_30 : decode cX13_work 30 = .ok (.istore_n 2, 1) := dk_61 (dk_at dksX13_work_1 6 rfl rfl)
theorem dX13_work_31 : decode cX13_work 31 = .ok (.iconst 0, 1) := dk_3 (dk_at dksX13_work_1 7 rfl rfl)
theorem dX13_work_32 : decode cX13_work 32 = .ok (.istore_n 3, 1) := dk_62 (dk_at dksX13_work_1 8 rfl rfl)
theorem dX13_work_33 : decode cX13_work 33 = .ok (.iload_n 3, 1) := dk_29 (dk_at dksX13_work_1 9 rfl rfl)
theorem dX13_work_34 : decode cX13_work 34 = .ok (.sipush 192, 3) := dk_17 0 192 (dk_at dksX13_work_1 10 rfl rfl)
theorem dX13_work_37 : decode cX13_work 37 = .ok (.if_icmp .ge 31, 3) := dk_162 0 31 (dk_at dksX13_work_1 13 rfl rfl)
theorem dX13_work_40 : decode cX13_work 40 = .ok (.iload_n 2, 1) := dk_28 (dk_at dksX13_work_1 16 rfl rfl)
theorem dX13_work_41 : decode cX13_work 41 = .ok (.ifCond .le 27, 3) := dk_158 0 27 (dk_at dksX13_work_1 17 rfl rfl)
theorem dX13_work_44 : decode cX13_work 44 = .ok (.aload_n 0, 1) := dk_42 (dk_at dksX13_work_1 20 rfl rfl)
theorem dX13_work_45 : decode cX13_work 45 = .ok (.iload_n 3, 1) := dk_29 (dk_at dksX13_work_1 21 rfl rfl)
theorem dX13_work_46 : decode cX13_work 46 = .ok (.invokevirtual 118, 3) := dk_182 0 118 (dk_at dksX13_work_2 0 rfl rfl)
theorem dX13_work_49 : decode cX13_work 49 = .ok (.ifCond .eq 13, 3) := dk_153 0 13 (dk_at dksX13_work_2 3 rfl rfl)
theorem dX13_work_52 : decode cX13_work 52 = .ok (.aload_n 0, 1) := dk_42 (dk_at dksX13_work_2 6 rfl rfl)
theorem dX13_work_53 : decode cX13_work 53 = .ok (.getfield 7, 3) := dk_180 0 7 (dk_at dksX13_work_2 7 rfl rfl)
theorem dX13_work_56 : decode cX13_work 56 = .ok (.iload_n 3, 1) := dk_29 (dk_at dksX13_work_2 10 rfl rfl)
theorem dX13_work_57 : decode cX13_work 57 = .ok (.iconst (-1), 1) := dk_2 (dk_at dksX13_work_2 11 rfl rfl)
theorem dX13_work_58 : decode cX13_work 58 = .ok (.iastore, 1) := dk_79 (dk_at dksX13_work_2 12 rfl rfl)
theorem dX13_work_59 : decode cX13_work 59 = .ok (.iinc 2 (-1), 3) := dk_132 2 255 (dk_at dksX13_work_2 13 rfl rfl)
theorem dX13_work_62 : decode cX13_work 62 = .ok (.iinc 3 1, 3) := dk_132 3 1 (dk_at dksX13_work_2 16 rfl rfl)
theorem dX13_work_65 : decode cX13_work 65 = .ok (.goto (-32), 3) := dk_167 255 224 (dk_at dksX13_work_2 19 rfl rfl)
theorem dX13_work_68 : decode cX13_work 68 = .ok (.aload_n 0, 1) := dk_42 (dk_at dksX13_work_2 22 rfl rfl)
theorem dX13_work_69 : decode cX13_work 69 = .ok (.invokevirtual 121, 3) := dk_182 0 121 (dk_at dksX13_work_3 0 rfl rfl)
theorem dX13_work_72 : decode cX13_work 72 = .ok (.aload_n 0, 1) := dk_42 (dk_at dksX13_work_3 3 rfl rfl)
theorem dX13_work_73 : decode cX13_work 73 = .ok (.invokevirtual 124, 3) := dk_182 0 124 (dk_at dksX13_work_3 4 rfl rfl)
theorem dX13_work_76 : decode cX13_work 76 = .ok (.ireturn, 1) := dk_172 (dk_at dksX13_work_3 7 rfl rfl)
abbrev cX13_handUp : ByteArray := prog_18_method_41_code
def yX13_handUp : MethodName := ⟨RX13, "handUp", "(I)I"⟩
def dkwX13_handUp_5 : List UInt8 := [46, 79, 132, 4, 1, 167, 255, 207, 42, 180, 0, 25, 27, 3, 84, 29, 172]
abbrev dktX13_handUp_5 : List UInt8 := dkwX13_handUp_5 ++ []
def dkwX13_handUp_4 : List UInt8 := [153, 0, 18, 42, 180, 0, 29, 21, 4, 46, 27, 160, 0, 7, 28, 167, 0, 10, 42, 180, 0, 29, 21, 4]
abbrev dktX13_handUp_4 : List UInt8 := dkwX13_handUp_4 ++ dktX13_handUp_5
def dkwX13_handUp_3 : List UInt8 := [3, 54, 4, 21, 4, 16, 40, 162, 0, 48, 42, 180, 0, 29, 21, 4, 42, 180, 0, 25, 21, 4, 51]
abbrev dktX13_handUp_3 : List UInt8 := dkwX13_handUp_3 ++ dktX13_handUp_4
def dkwX13_handUp_2 : List UInt8 := [182, 0, 92, 132, 4, 1, 167, 255, 236, 42, 180, 0, 38, 28, 92, 46, 42, 180, 0, 38, 27, 46, 96, 79]
abbrev dktX13_handUp_2 : List UInt8 := dkwX13_handUp_2 ++ dktX13_handUp_3
def dkwX13_handUp_1 : List UInt8 := [61, 42, 27, 182, 0, 56, 62, 3, 54, 4, 21, 4, 29, 162, 0, 20, 42, 42, 27, 3, 182, 0, 128, 28]
abbrev dktX13_handUp_1 : List UInt8 := dkwX13_handUp_1 ++ dktX13_handUp_2
def dkwX13_handUp_0 : List UInt8 := [42, 42, 27, 182, 0, 112, 181, 0, 45, 42, 180, 0, 45, 158, 0, 5, 3, 172, 42, 180, 0, 29, 27, 46]
abbrev dktX13_handUp_0 : List UInt8 := dkwX13_handUp_0 ++ dktX13_handUp_1
theorem dksX13_handUp_0 : cX13_handUp.data.toList.drop 0 = dktX13_handUp_0 := by decide +kernel
theorem dksX13_handUp_1 : cX13_handUp.data.toList.drop 24 = dktX13_handUp_1 := dk_seg dksX13_handUp_0 24 rfl rfl
theorem dksX13_handUp_2 : cX13_handUp.data.toList.drop 48 = dktX13_handUp_2 := dk_seg dksX13_handUp_1 24 rfl rfl
theorem dksX13_handUp_3 : cX13_handUp.data.toList.drop 72 = dktX13_handUp_3 := dk_seg dksX13_handUp_2 24 rfl rfl
theorem dksX13_handUp_4 : cX13_handUp.data.toList.drop 95 = dktX13_handUp_4 := dk_seg dksX13_handUp_3 23 rfl rfl
theorem dksX13_handUp_5 : cX13_handUp.data.toList.drop 119 = dktX13_handUp_5 := dk_seg dksX13_handUp_4 24 rfl rfl
theorem dX13_handUp_0 : decode cX13_handUp 0 = .ok (.aload_n 0, 1) := dk_42 (dk_at dksX13_handUp_0 0 rfl rfl)
theorem dX13_handUp_1 : decode cX13_handUp 1 = .ok (.aload_n 0, 1) := dk_42 (dk_at dksX13_handUp_0 1 rfl rfl)
theorem dX13_handUp_2 : decode cX13_handUp 2 = .ok (.iload_n 1, 1) := dk_27 (dk_at dksX13_handUp_0 2 rfl rfl)
theorem dX13_handUp_3 : decode cX13_handUp 3 = .ok (.invokevirtual 112, 3) := dk_182 0 112 (dk_at dksX13_handUp_0 3 rfl rfl)
theorem dX13_handUp_6 : decode cX13_handUp 6 = .ok (.putfield 45, 3) := dk_181 0 45 (dk_at dksX13_handUp_0 6 rfl rfl)
theorem dX13_handUp_9 : decode cX13_handUp 9 = .ok (.aload_n 0, 1) := dk_42 (dk_at dksX13_handUp_0 9 rfl rfl)
theorem dX13_handUp_10 : decode cX13_handUp 10 = .ok (.getfield 45, 3) := dk_180 0 45 (dk_at dksX13_handUp_0 10 rfl rfl)
theorem dX13_handUp_13 : decode cX13_handUp 13 = .ok (.ifCond .le 5, 3) := dk_158 0 5 (dk_at dksX13_handUp_0 13 rfl rfl)
theorem dX13_handUp_16 : decode cX13_handUp 16 = .ok (.iconst 0, 1) := dk_3 (dk_at dksX13_handUp_0 16 rfl rfl)
theorem dX13_handUp_17 : decode cX13_handUp 17 = .ok (.ireturn, 1) := dk_172 (dk_at dksX13_handUp_0 17 rfl rfl)
theorem dX13_handUp_18 : decode cX13_handUp 18 = .ok (.aload_n 0, 1) := dk_42 (dk_at dksX13_handUp_0 18 rfl rfl)
theorem dX13_handUp_19 : decode cX13_handUp 19 = .ok (.getfield 29, 3) := dk_180 0 29 (dk_at dksX13_handUp_0 19 rfl rfl)
theorem dX13_handUp_22 : decode cX13_handUp 22 = .ok (.iload_n 1, 1) := dk_27 (dk_at dksX13_handUp_0 22 rfl rfl)
theorem dX13_handUp_23 : decode cX13_handUp 23 = .ok (.iaload, 1) := dk_46 (dk_at dksX13_handUp_0 23 rfl rfl)
theorem dX13_handUp_24 : decode cX13_handUp 24 = .ok (.istore_n 2, 1) := dk_61 (dk_at dksX13_handUp_1 0 rfl rfl)
theorem dX13_handUp_25 : decode cX13_handUp 25 = .ok (.aload_n 0, 1) := dk_42 (dk_at dksX13_handUp_1 1 rfl rfl)
theorem dX13_handUp_26 : decode cX13_handUp 26 = .ok (.iload_n 1, 1) := dk_27 (dk_at dksX13_handUp_1 2 rfl rfl)
theorem dX13_handUp_27 : decode cX13_handUp 27 = .ok (.invokevirtual 56, 3) := dk_182 0 56 (dk_at dksX13_handUp_1 3 rfl rfl)
theorem dX13_handUp_30 : decode cX13_handUp 30 = .ok (.istore_n 3, 1) := dk_62 (dk_at dksX13_handUp_1 6 rfl rfl)
theorem dX13_handUp_31 : decode cX13_handUp 31 = .ok (.iconst 0, 1) := dk_3 (dk_at dksX13_handUp_1 7 rfl rfl)
theorem dX13_handUp_32 : decode cX13_handUp 32 = .ok (.istore 4, 2) := dk_54 4 (dk_at dksX13_handUp_1 8 rfl rfl)
theorem dX13_handUp_34 : decode cX13_handUp 34 = .ok (.iload 4, 2) := dk_21 4 (dk_at dksX13_handUp_1 10 rfl rfl)
theorem dX13_handUp_36 : decode cX13_handUp 36 = .ok (.iload_n 3, 1) := dk_29 (dk_at dksX13_handUp_1 12 rfl rfl)
theorem dX13_handUp_37 : decode cX13_handUp 37 = .ok (.if_icmp .ge 20, 3) := dk_162 0 20 (dk_at dksX13_handUp_1 13 rfl rfl)
theorem dX13_handUp_40 : decode cX13_handUp 40 = .ok (.aload_n 0, 1) := dk_42 (dk_at dksX13_handUp_1 16 rfl rfl)
theorem dX13_handUp_41 : decode cX13_handUp 41 = .ok (.aload_n 0, 1) := dk_42 (dk_at dksX13_handUp_1 17 rfl rfl)
theorem dX13_handUp_42 : decode cX13_handUp 42 = .ok (.iload_n 1, 1) := dk_27 (dk_at dksX13_handUp_1 18 rfl rfl)
theorem dX13_handUp_43 : decode cX13_handUp 43 = .ok (.iconst 0, 1) := dk_3 (dk_at dksX13_handUp_1 19 rfl rfl)
theorem dX13_handUp_44 : decode cX13_handUp 44 = .ok (.invokevirtual 128, 3) := dk_182 0 128 (dk_at dksX13_handUp_1 20 rfl rfl)
theorem dX13_handUp_47 : decode cX13_handUp 47 = .ok (.iload_n 2, 1) := dk_28 (dk_at dksX13_handUp_1 23 rfl rfl)
theorem dX13_handUp_48 : decode cX13_handUp 48 = .ok (.invokevirtual 92, 3) := dk_182 0 92 (dk_at dksX13_handUp_2 0 rfl rfl)
theorem dX13_handUp_51 : decode cX13_handUp 51 = .ok (.iinc 4 1, 3) := dk_132 4 1 (dk_at dksX13_handUp_2 3 rfl rfl)
theorem dX13_handUp_54 : decode cX13_handUp 54 = .ok (.goto (-20), 3) := dk_167 255 236 (dk_at dksX13_handUp_2 6 rfl rfl)
theorem dX13_handUp_57 : decode cX13_handUp 57 = .ok (.aload_n 0, 1) := dk_42 (dk_at dksX13_handUp_2 9 rfl rfl)
theorem dX13_handUp_58 : decode cX13_handUp 58 = .ok (.getfield 38, 3) := dk_180 0 38 (dk_at dksX13_handUp_2 10 rfl rfl)
theorem dX13_handUp_61 : decode cX13_handUp 61 = .ok (.iload_n 2, 1) := dk_28 (dk_at dksX13_handUp_2 13 rfl rfl)
theorem dX13_handUp_62 : decode cX13_handUp 62 = .ok (.dup2, 1) := dk_92 (dk_at dksX13_handUp_2 14 rfl rfl)
theorem dX13_handUp_63 : decode cX13_handUp 63 = .ok (.iaload, 1) := dk_46 (dk_at dksX13_handUp_2 15 rfl rfl)
theorem dX13_handUp_64 : decode cX13_handUp 64 = .ok (.aload_n 0, 1) := dk_42 (dk_at dksX13_handUp_2 16 rfl rfl)
theorem dX13_handUp_65 : decode cX13_handUp 65 = .ok (.getfield 38, 3) := dk_180 0 38 (dk_at dksX13_handUp_2 17 rfl rfl)
theorem dX13_handUp_68 : decode cX13_handUp 68 = .ok (.iload_n 1, 1) := dk_27 (dk_at dksX13_handUp_2 20 rfl rfl)
theorem dX13_handUp_69 : decode cX13_handUp 69 = .ok (.iaload, 1) := dk_46 (dk_at dksX13_handUp_2 21 rfl rfl)
theorem dX13_handUp_70 : decode cX13_handUp 70 = .ok (.iadd, 1) := dk_96 (dk_at dksX13_handUp_2 22 rfl rfl)
theorem dX13_handUp_71 : decode cX13_handUp 71 = .ok (.iastore, 1) := dk_79 (dk_at dksX13_handUp_2 23 rfl rfl)
theorem dX13_handUp_72 : decode cX13_handUp 72 = .ok (.iconst 0, 1) := dk_3 (dk_at dksX13_handUp_3 0 rfl rfl)
theorem dX13_handUp_73 : decode cX13_handUp 73 = .ok (.istore 4, 2) := dk_54 4 (dk_at dksX13_handUp_3 1 rfl rfl)
theorem dX13_handUp_75 : decode cX13_handUp 75 = .ok (.iload 4, 2) := dk_21 4 (dk_at dksX13_handUp_3 3 rfl rfl)
theorem dX13_handUp_77 : decode cX13_handUp 77 = .ok (.bipush 40, 2) := dk_16 40 (dk_at dksX13_handUp_3 5 rfl rfl)
theorem dX13_handUp_79 : decode cX13_handUp 79 = .ok (.if_icmp .ge 48, 3) := dk_162 0 48 (dk_at dksX13_handUp_3 7 rfl rfl)
theorem dX13_handUp_82 : decode cX13_handUp 82 = .ok (.aload_n 0, 1) := dk_42 (dk_at dksX13_handUp_3 10 rfl rfl)
theorem dX13_handUp_83 : decode cX13_handUp 83 = .ok (.getfield 29, 3) := dk_180 0 29 (dk_at dksX13_handUp_3 11 rfl rfl)
theorem dX13_handUp_86 : decode cX13_handUp 86 = .ok (.iload 4, 2) := dk_21 4 (dk_at dksX13_handUp_3 14 rfl rfl)
theorem dX13_handUp_88 : decode cX13_handUp 88 = .ok (.aload_n 0, 1) := dk_42 (dk_at dksX13_handUp_3 16 rfl rfl)
theorem dX13_handUp_89 : decode cX13_handUp 89 = .ok (.getfield 25, 3) := dk_180 0 25 (dk_at dksX13_handUp_3 17 rfl rfl)
theorem dX13_handUp_92 : decode cX13_handUp 92 = .ok (.iload 4, 2) := dk_21 4 (dk_at dksX13_handUp_3 20 rfl rfl)
theorem dX13_handUp_94 : decode cX13_handUp 94 = .ok (.baload, 1) := dk_51 (dk_at dksX13_handUp_3 22 rfl rfl)
theorem dX13_handUp_95 : decode cX13_handUp 95 = .ok (.ifCond .eq 18, 3) := dk_153 0 18 (dk_at dksX13_handUp_4 0 rfl rfl)
theorem dX13_handUp_98 : decode cX13_handUp 98 = .ok (.aload_n 0, 1) := dk_42 (dk_at dksX13_handUp_4 3 rfl rfl)
theorem dX13_handUp_99 : decode cX13_handUp 99 = .ok (.getfield 29, 3) := dk_180 0 29 (dk_at dksX13_handUp_4 4 rfl rfl)
theorem dX13_handUp_102 : decode cX13_handUp 102 = .ok (.iload 4, 2) := dk_21 4 (dk_at dksX13_handUp_4 7 rfl rfl)
theorem dX13_handUp_104 : decode cX13_handUp 104 = .ok (.iaload, 1) := dk_46 (dk_at dksX13_handUp_4 9 rfl rfl)
theorem dX13_handUp_105 : decode cX13_handUp 105 = .ok (.iload_n 1, 1) := dk_27 (dk_at dksX13_handUp_4 10 rfl rfl)
theorem dX13_handUp_106 : decode cX13_handUp 106 = .ok (.if_icmp .ne 7, 3) := dk_160 0 7 (dk_at dksX13_handUp_4 11 rfl rfl)
theorem dX13_handUp_109 : decode cX13_handUp 109 = .ok (.iload_n 2, 1) := dk_28 (dk_at dksX13_handUp_4 14 rfl rfl)
theorem dX13_handUp_110 : decode cX13_handUp 110 = .ok (.goto 10, 3) := dk_167 0 10 (dk_at dksX13_handUp_4 15 rfl rfl)
theorem dX13_handUp_113 : decode cX13_handUp 113 = .ok (.aload_n 0, 1) := dk_42 (dk_at dksX13_handUp_4 18 rfl rfl)
theorem dX13_handUp_114 : decode cX13_handUp 114 = .ok (.getfield 29, 3) := dk_180 0 29 (dk_at dksX13_handUp_4 19 rfl rfl)
theorem dX13_handUp_117 : decode cX13_handUp 117 = .ok (.iload 4, 2) := dk_21 4 (dk_at dksX13_handUp_4 22 rfl rfl)
theorem dX13_handUp_119 : decode cX13_handUp 119 = .ok (.iaload, 1) := dk_46 (dk_at dksX13_handUp_5 0 rfl rfl)
theorem dX13_handUp_120 : decode cX13_handUp 120 = .ok (.iastore, 1) := dk_79 (dk_at dksX13_handUp_5 1 rfl rfl)
theorem dX13_handUp_121 : decode cX13_handUp 121 = .ok (.iinc 4 1, 3) := dk_132 4 1 (dk_at dksX13_handUp_5 2 rfl rfl)
theorem dX13_handUp_124 : decode cX13_handUp 124 = .ok (.goto (-49), 3) := dk_167 255 207 (dk_at dksX13_handUp_5 5 rfl rfl)
theorem dX13_handUp_127 : decode cX13_handUp 127 = .ok (.aload_n 0, 1) := dk_42 (dk_at dksX13_handUp_5 8 rfl rfl)
theorem dX13_handUp_128 : decode cX13_handUp 128 = .ok (.getfield 25, 3) := dk_180 0 25 (dk_at dksX13_handUp_5 9 rfl rfl)
theorem dX13_handUp_131 : decode cX13_handUp 131 = .ok (.iload_n 1, 1) := dk_27 (dk_at dksX13_handUp_5 12 rfl rfl)
theorem dX13_handUp_132 : decode cX13_handUp 132 = .ok (.iconst 0, 1) := dk_3 (dk_at dksX13_handUp_5 13 rfl rfl)
theorem dX13_handUp_133 : decode cX13_handUp 133 = .ok (.bastore, 1) := dk_84 (dk_at dksX13_handUp_5 14 rfl rfl)
theorem dX13_handUp_134 : decode cX13_handUp 134 = .ok (.iload_n 3, 1) := dk_29 (dk_at dksX13_handUp_5 15 rfl rfl)
theorem dX13_handUp_135 : decode cX13_handUp 135 = .ok (.ireturn, 1) := dk_172 (dk_at dksX13_handUp_5 16 rfl rfl)
abbrev cX13_placeOfPage : ByteArray := prog_18_method_40_code
def yX13_placeOfPage : MethodName := ⟨RX13, "placeOfPage", "(II)I"⟩
def dkwX13_placeOfPage_4 : List UInt8 := [160, 0, 8, 21, 4, 167, 0, 4, 29, 62, 132, 4, 1, 167, 255, 152, 29, 172]
abbrev dktX13_placeOfPage_4 : List UInt8 := dkwX13_placeOfPage_4 ++ []
def dkwX13_placeOfPage_3 : List UInt8 := [3, 96, 54, 5, 132, 6, 1, 167, 255, 196, 42, 180, 0, 7, 21, 4, 46, 27, 160, 0, 14, 21, 5, 28]
abbrev dktX13_placeOfPage_3 : List UInt8 := dkwX13_placeOfPage_3 ++ dktX13_placeOfPage_4
def dkwX13_placeOfPage_2 : List UInt8 := [160, 0, 24, 42, 180, 0, 19, 21, 6, 46, 42, 180, 0, 19, 21, 4, 46, 162, 0, 7, 4, 167, 0, 4]
abbrev dktX13_placeOfPage_2 : List UInt8 := dkwX13_placeOfPage_2 ++ dktX13_placeOfPage_3
def dkwX13_placeOfPage_1 : List UInt8 := [162, 0, 58, 21, 5, 42, 180, 0, 7, 21, 4, 46, 27, 160, 0, 35, 42, 180, 0, 7, 21, 6, 46, 27]
abbrev dktX13_placeOfPage_1 : List UInt8 := dkwX13_placeOfPage_1 ++ dktX13_placeOfPage_2
def dkwX13_placeOfPage_0 : List UInt8 := [2, 62, 3, 54, 4, 21, 4, 17, 0, 192, 162, 0, 102, 3, 54, 5, 3, 54, 6, 21, 6, 17, 0, 192]
abbrev dktX13_placeOfPage_0 : List UInt8 := dkwX13_placeOfPage_0 ++ dktX13_placeOfPage_1
theorem dksX13_placeOfPage_0 : cX13_placeOfPage.data.toList.drop 0 = dktX13_placeOfPage_0 := by decide +kernel
theorem dksX13_placeOfPage_1 : cX13_placeOfPage.data.toList.drop 24 = dktX13_placeOfPage_1 := dk_seg dksX13_placeOfPage_0 24 rfl rfl
theorem dksX13_placeOfPage_2 : cX13_placeOfPage.data.toList.drop 48 = dktX13_placeOfPage_2 := dk_seg dksX13_placeOfPage_1 24 rfl rfl
theorem dksX13_placeOfPage_3 : cX13_placeOfPage.data.toList.drop 72 = dktX13_placeOfPage_3 := dk_seg dksX13_placeOfPage_2 24 rfl rfl
theorem dksX13_placeOfPage_4 : cX13_placeOfPage.data.toList.drop 96 = dktX13_placeOfPage_4 := dk_seg dksX13_placeOfPage_3 24 rfl rfl
theorem dX13_placeOfPage_0 : decode cX13_placeOfPage 0 = .ok (.iconst (-1), 1) := dk_2 (dk_at dksX13_placeOfPage_0 0 rfl rfl)
theorem dX13_placeOfPage_1 : decode cX13_placeOfPage 1 = .ok (.istore_n 3, 1) := dk_62 (dk_at dksX13_placeOfPage_0 1 rfl rfl)
theorem dX13_placeOfPage_2 : decode cX13_placeOfPage 2 = .ok (.iconst 0, 1) := dk_3 (dk_at dksX13_placeOfPage_0 2 rfl rfl)
theorem dX13_placeOfPage_3 : decode cX13_placeOfPage 3 = .ok (.istore 4, 2) := dk_54 4 (dk_at dksX13_placeOfPage_0 3 rfl rfl)
theorem dX13_placeOfPage_5 : decode cX13_placeOfPage 5 = .ok (.iload 4, 2) := dk_21 4 (dk_at dksX13_placeOfPage_0 5 rfl rfl)
theorem dX13_placeOfPage_7 : decode cX13_placeOfPage 7 = .ok (.sipush 192, 3) := dk_17 0 192 (dk_at dksX13_placeOfPage_0 7 rfl rfl)
theorem dX13_placeOfPage_10 : decode cX13_placeOfPage 10 = .ok (.if_icmp .ge 102, 3) := dk_162 0 102 (dk_at dksX13_placeOfPage_0 10 rfl rfl)
theorem dX13_placeOfPage_13 : decode cX13_placeOfPage 13 = .ok (.iconst 0, 1) := dk_3 (dk_at dksX13_placeOfPage_0 13 rfl rfl)
theorem dX13_placeOfPage_14 : decode cX13_placeOfPage 14 = .ok (.istore 5, 2) := dk_54 5 (dk_at dksX13_placeOfPage_0 14 rfl rfl)
theorem dX13_placeOfPage_16 : decode cX13_placeOfPage 16 = .ok (.iconst 0, 1) := dk_3 (dk_at dksX13_placeOfPage_0 16 rfl rfl)
theorem dX13_placeOfPage_17 : decode cX13_placeOfPage 17 = .ok (.istore 6, 2) := dk_54 6 (dk_at dksX13_placeOfPage_0 17 rfl rfl)
theorem dX13_placeOfPage_19 : decode cX13_placeOfPage 19 = .ok (.iload 6, 2) := dk_21 6 (dk_at dksX13_placeOfPage_0 19 rfl rfl)
theorem dX13_placeOfPage_21 : decode cX13_placeOfPage 21 = .ok (.sipush 192, 3) := dk_17 0 192 (dk_at dksX13_placeOfPage_0 21 rfl rfl)
theorem dX13_placeOfPage_24 : decode cX13_placeOfPage 24 = .ok (.if_icmp .ge 58, 3) := dk_162 0 58 (dk_at dksX13_placeOfPage_1 0 rfl rfl)
theorem dX13_placeOfPage_27 : decode cX13_placeOfPage 27 = .ok (.iload 5, 2) := dk_21 5 (dk_at dksX13_placeOfPage_1 3 rfl rfl)
theorem dX13_placeOfPage_29 : decode cX13_placeOfPage 29 = .ok (.aload_n 0, 1) := dk_42 (dk_at dksX13_placeOfPage_1 5 rfl rfl)
theorem dX13_placeOfPage_30 : decode cX13_placeOfPage 30 = .ok (.getfield 7, 3) := dk_180 0 7 (dk_at dksX13_placeOfPage_1 6 rfl rfl)
theorem dX13_placeOfPage_33 : decode cX13_placeOfPage 33 = .ok (.iload 4, 2) := dk_21 4 (dk_at dksX13_placeOfPage_1 9 rfl rfl)
theorem dX13_placeOfPage_35 : decode cX13_placeOfPage 35 = .ok (.iaload, 1) := dk_46 (dk_at dksX13_placeOfPage_1 11 rfl rfl)
theorem dX13_placeOfPage_36 : decode cX13_placeOfPage 36 = .ok (.iload_n 1, 1) := dk_27 (dk_at dksX13_placeOfPage_1 12 rfl rfl)
theorem dX13_placeOfPage_37 : decode cX13_placeOfPage 37 = .ok (.if_icmp .ne 35, 3) := dk_160 0 35 (dk_at dksX13_placeOfPage_1 13 rfl rfl)
theorem dX13_placeOfPage_40 : decode cX13_placeOfPage 40 = .ok (.aload_n 0, 1) := dk_42 (dk_at dksX13_placeOfPage_1 16 rfl rfl)
theorem dX13_placeOfPage_41 : decode cX13_placeOfPage 41 = .ok (.getfield 7, 3) := dk_180 0 7 (dk_at dksX13_placeOfPage_1 17 rfl rfl)
theorem dX13_placeOfPage_44 : decode cX13_placeOfPage 44 = .ok (.iload 6, 2) := dk_21 6 (dk_at dksX13_placeOfPage_1 20 rfl rfl)
theorem dX13_placeOfPage_46 : decode cX13_placeOfPage 46 = .ok (.iaload, 1) := dk_46 (dk_at dksX13_placeOfPage_1 22 rfl rfl)
theorem dX13_placeOfPage_47 : decode cX13_placeOfPage 47 = .ok (.iload_n 1, 1) := dk_27 (dk_at dksX13_placeOfPage_1 23 rfl rfl)
theorem dX13_placeOfPage_48 : decode cX13_placeOfPage 48 = .ok (.if_icmp .ne 24, 3) := dk_160 0 24 (dk_at dksX13_placeOfPage_2 0 rfl rfl)
theorem dX13_placeOfPage_51 : decode cX13_placeOfPage 51 = .ok (.aload_n 0, 1) := dk_42 (dk_at dksX13_placeOfPage_2 3 rfl rfl)
theorem dX13_placeOfPage_52 : decode cX13_placeOfPage 52 = .ok (.getfield 19, 3) := dk_180 0 19 (dk_at dksX13_placeOfPage_2 4 rfl rfl)
theorem dX13_placeOfPage_55 : decode cX13_placeOfPage 55 = .ok (.iload 6, 2) := dk_21 6 (dk_at dksX13_placeOfPage_2 7 rfl rfl)
theorem dX13_placeOfPage_57 : decode cX13_placeOfPage 57 = .ok (.iaload, 1) := dk_46 (dk_at dksX13_placeOfPage_2 9 rfl rfl)
theorem dX13_placeOfPage_58 : decode cX13_placeOfPage 58 = .ok (.aload_n 0, 1) := dk_42 (dk_at dksX13_placeOfPage_2 10 rfl rfl)
theorem dX13_placeOfPage_59 : decode cX13_placeOfPage 59 = .ok (.getfield 19, 3) := dk_180 0 19 (dk_at dksX13_placeOfPage_2 11 rfl rfl)
theorem dX13_placeOfPage_62 : decode cX13_placeOfPage 62 = .ok (.iload 4, 2) := dk_21 4 (dk_at dksX13_placeOfPage_2 14 rfl rfl)
theorem dX13_placeOfPage_64 : decode cX13_placeOfPage 64 = .ok (.iaload, 1) := dk_46 (dk_at dksX13_placeOfPage_2 16 rfl rfl)
theorem dX13_placeOfPage_65 : decode cX13_placeOfPage 65 = .ok (.if_icmp .ge 7, 3) := dk_162 0 7 (dk_at dksX13_placeOfPage_2 17 rfl rfl)
theorem dX13_placeOfPage_68 : decode cX13_placeOfPage 68 = .ok (.iconst 1, 1) := dk_4 (dk_at dksX13_placeOfPage_2 20 rfl rfl)
theorem dX13_placeOfPage_69 : decode cX13_placeOfPage 69 = .ok (.goto 4, 3) := dk_167 0 4 (dk_at dksX13_placeOfPage_2 21 rfl rfl)
theorem dX13_placeOfPage_72 : decode cX13_placeOfPage 72 = .ok (.iconst 0, 1) := dk_3 (dk_at dksX13_placeOfPage_3 0 rfl rfl)
theorem dX13_placeOfPage_73 : decode cX13_placeOfPage 73 = .ok (.iadd, 1) := dk_96 (dk_at dksX13_placeOfPage_3 1 rfl rfl)
theorem dX13_placeOfPage_74 : decode cX13_placeOfPage 74 = .ok (.istore 5, 2) := dk_54 5 (dk_at dksX13_placeOfPage_3 2 rfl rfl)
theorem dX13_placeOfPage_76 : decode cX13_placeOfPage 76 = .ok (.iinc 6 1, 3) := dk_132 6 1 (dk_at dksX13_placeOfPage_3 4 rfl rfl)
theorem dX13_placeOfPage_79 : decode cX13_placeOfPage 79 = .ok (.goto (-60), 3) := dk_167 255 196 (dk_at dksX13_placeOfPage_3 7 rfl rfl)
theorem dX13_placeOfPage_82 : decode cX13_placeOfPage 82 = .ok (.aload_n 0, 1) := dk_42 (dk_at dksX13_placeOfPage_3 10 rfl rfl)
theorem dX13_placeOfPage_83 : decode cX13_placeOfPage 83 = .ok (.getfield 7, 3) := dk_180 0 7 (dk_at dksX13_placeOfPage_3 11 rfl rfl)
theorem dX13_placeOfPage_86 : decode cX13_placeOfPage 86 = .ok (.iload 4, 2) := dk_21 4 (dk_at dksX13_placeOfPage_3 14 rfl rfl)
theorem dX13_placeOfPage_88 : decode cX13_placeOfPage 88 = .ok (.iaload, 1) := dk_46 (dk_at dksX13_placeOfPage_3 16 rfl rfl)
theorem dX13_placeOfPage_89 : decode cX13_placeOfPage 89 = .ok (.iload_n 1, 1) := dk_27 (dk_at dksX13_placeOfPage_3 17 rfl rfl)
theorem dX13_placeOfPage_90 : decode cX13_placeOfPage 90 = .ok (.if_icmp .ne 14, 3) := dk_160 0 14 (dk_at dksX13_placeOfPage_3 18 rfl rfl)
theorem dX13_placeOfPage_93 : decode cX13_placeOfPage 93 = .ok (.iload 5, 2) := dk_21 5 (dk_at dksX13_placeOfPage_3 21 rfl rfl)
theorem dX13_placeOfPage_95 : decode cX13_placeOfPage 95 = .ok (.iload_n 2, 1) := dk_28 (dk_at dksX13_placeOfPage_3 23 rfl rfl)
theorem dX13_placeOfPage_96 : decode cX13_placeOfPage 96 = .ok (.if_icmp .ne 8, 3) := dk_160 0 8 (dk_at dksX13_placeOfPage_4 0 rfl rfl)
theorem dX13_placeOfPage_99 : decode cX13_placeOfPage 99 = .ok (.iload 4, 2) := dk_21 4 (dk_at dksX13_placeOfPage_4 3 rfl rfl)
theorem dX13_placeOfPage_101 : decode cX13_placeOfPage 101 = .ok (.goto 4, 3) := dk_167 0 4 (dk_at dksX13_placeOfPage_4 5 rfl rfl)
theorem dX13_placeOfPage_104 : decode cX13_placeOfPage 104 = .ok (.iload_n 3, 1) := dk_29 (dk_at dksX13_placeOfPage_4 8 rfl rfl)
theorem dX13_placeOfPage_105 : decode cX13_placeOfPage 105 = .ok (.istore_n 3, 1) := dk_62 (dk_at dksX13_placeOfPage_4 9 rfl rfl)
theorem dX13_placeOfPage_106 : decode cX13_placeOfPage 106 = .ok (.iinc 4 1, 3) := dk_132 4 1 (dk_at dksX13_placeOfPage_4 10 rfl rfl)
theorem dX13_placeOfPage_109 : decode cX13_placeOfPage 109 = .ok (.goto (-104), 3) := dk_167 255 152 (dk_at dksX13_placeOfPage_4 13 rfl rfl)
theorem dX13_placeOfPage_112 : decode cX13_placeOfPage 112 = .ok (.iload_n 3, 1) := dk_29 (dk_at dksX13_placeOfPage_4 16 rfl rfl)
theorem dX13_placeOfPage_113 : decode cX13_placeOfPage 113 = .ok (.ireturn, 1) := dk_172 (dk_at dksX13_placeOfPage_4 17 rfl rfl)
abbrev cX13_told : ByteArray := prog_18_method_43_code
def yX13_told : MethodName := ⟨RX13, "told", "(II)I"⟩
def dkwX13_told_5 : List UInt8 := [182, 0, 131, 172]
abbrev dktX13_told_5 : List UInt8 := dkwX13_told_5 ++ []
def dkwX13_told_4 : List UInt8 := [46, 172, 42, 180, 0, 29, 27, 46, 172, 42, 27, 182, 0, 70, 172, 42, 180, 0, 35, 27, 46, 172, 42, 27]
abbrev dktX13_told_4 : List UInt8 := dkwX13_told_4 ++ dktX13_told_5
def dkwX13_told_3 : List UInt8 := [42, 27, 182, 0, 60, 172, 42, 27, 182, 0, 56, 172, 42, 180, 0, 38, 27, 46, 172, 42, 180, 0, 32, 27]
abbrev dktX13_told_3 : List UInt8 := dkwX13_told_3 ++ dktX13_told_4
def dkwX13_told_2 : List UInt8 := [170, 0, 0, 0, 0, 0, 89, 0, 0, 0, 0, 0, 0, 0, 6, 0, 0, 0, 43, 0, 0, 0, 49, 0, 0, 0, 55, 0, 0, 0, 62, 0, 0, 0, 69, 0, 0, 0, 76, 0, 0, 0, 82]
abbrev dktX13_told_2 : List UInt8 := dkwX13_told_2 ++ dktX13_told_3
def dkwX13_told_1 : List UInt8 := [167, 0, 4, 5, 181, 0, 45, 42, 180, 0, 45, 158, 0, 5, 3, 172, 28]
abbrev dktX13_told_1 : List UInt8 := dkwX13_told_1 ++ dktX13_told_2
def dkwX13_told_0 : List UInt8 := [42, 42, 27, 182, 0, 63, 154, 0, 7, 4, 167, 0, 18, 28, 3, 16, 7, 184, 0, 48, 153, 0, 7, 3]
abbrev dktX13_told_0 : List UInt8 := dkwX13_told_0 ++ dktX13_told_1
theorem dksX13_told_0 : cX13_told.data.toList.drop 0 = dktX13_told_0 := by decide +kernel
theorem dksX13_told_1 : cX13_told.data.toList.drop 24 = dktX13_told_1 := dk_seg dksX13_told_0 24 rfl rfl
theorem dksX13_told_2 : cX13_told.data.toList.drop 41 = dktX13_told_2 := dk_seg dksX13_told_1 17 rfl rfl
theorem dksX13_told_3 : cX13_told.data.toList.drop 84 = dktX13_told_3 := dk_seg dksX13_told_2 43 rfl rfl
theorem dksX13_told_4 : cX13_told.data.toList.drop 108 = dktX13_told_4 := dk_seg dksX13_told_3 24 rfl rfl
theorem dksX13_told_5 : cX13_told.data.toList.drop 132 = dktX13_told_5 := dk_seg dksX13_told_4 24 rfl rfl
theorem dX13_told_0 : decode cX13_told 0 = .ok (.aload_n 0, 1) := dk_42 (dk_at dksX13_told_0 0 rfl rfl)
theorem dX13_told_1 : decode cX13_told 1 = .ok (.aload_n 0, 1) := dk_42 (dk_at dksX13_told_0 1 rfl rfl)
theorem dX13_told_2 : decode cX13_told 2 = .ok (.iload_n 1, 1) := dk_27 (dk_at dksX13_told_0 2 rfl rfl)
theorem dX13_told_3 : decode cX13_told 3 = .ok (.invokevirtual 63, 3) := dk_182 0 63 (dk_at dksX13_told_0 3 rfl rfl)
theorem dX13_told_6 : decode cX13_told 6 = .ok (.ifCond .ne 7, 3) := dk_154 0 7 (dk_at dksX13_told_0 6 rfl rfl)
theorem dX13_told_9 : decode cX13_told 9 = .ok (.iconst 1, 1) := dk_4 (dk_at dksX13_told_0 9 rfl rfl)
theorem dX13_told_10 : decode cX13_told 10 = .ok (.goto 18, 3) := dk_167 0 18 (dk_at dksX13_told_0 10 rfl rfl)
theorem dX13_told_13 : decode cX13_told 13 = .ok (.iload_n 2, 1) := dk_28 (dk_at dksX13_told_0 13 rfl rfl)
theorem dX13_told_14 : decode cX13_told 14 = .ok (.iconst 0, 1) := dk_3 (dk_at dksX13_told_0 14 rfl rfl)
theorem dX13_told_15 : decode cX13_told 15 = .ok (.bipush 7, 2) := dk_16 7 (dk_at dksX13_told_0 15 rfl rfl)
theorem dX13_told_17 : decode cX13_told 17 = .ok (.invokestatic 48, 3) := dk_184 0 48 (dk_at dksX13_told_0 17 rfl rfl)
theorem dX13_told_20 : decode cX13_told 20 = .ok (.ifCond .eq 7, 3) := dk_153 0 7 (dk_at dksX13_told_0 20 rfl rfl)
theorem dX13_told_23 : decode cX13_told 23 = .ok (.iconst 0, 1) := dk_3 (dk_at dksX13_told_0 23 rfl rfl)
theorem dX13_told_24 : decode cX13_told 24 = .ok (.goto 4, 3) := dk_167 0 4 (dk_at dksX13_told_1 0 rfl rfl)
theorem dX13_told_27 : decode cX13_told 27 = .ok (.iconst 2, 1) := dk_5 (dk_at dksX13_told_1 3 rfl rfl)
theorem dX13_told_28 : decode cX13_told 28 = .ok (.putfield 45, 3) := dk_181 0 45 (dk_at dksX13_told_1 4 rfl rfl)
theorem dX13_told_31 : decode cX13_told 31 = .ok (.aload_n 0, 1) := dk_42 (dk_at dksX13_told_1 7 rfl rfl)
theorem dX13_told_32 : decode cX13_told 32 = .ok (.getfield 45, 3) := dk_180 0 45 (dk_at dksX13_told_1 8 rfl rfl)
theorem dX13_told_35 : decode cX13_told 35 = .ok (.ifCond .le 5, 3) := dk_158 0 5 (dk_at dksX13_told_1 11 rfl rfl)
theorem dX13_told_38 : decode cX13_told 38 = .ok (.iconst 0, 1) := dk_3 (dk_at dksX13_told_1 14 rfl rfl)
theorem dX13_told_39 : decode cX13_told 39 = .ok (.ireturn, 1) := dk_172 (dk_at dksX13_told_1 15 rfl rfl)
theorem dX13_told_40 : decode cX13_told 40 = .ok (.iload_n 2, 1) := dk_28 (dk_at dksX13_told_1 16 rfl rfl)
theorem dX13_told_41 : decode cX13_told 41 = .ok (.tableswitch 89 0 6 #[43, 49, 55, 62, 69, 76, 82], 43) := by decide +kernel
theorem dX13_told_84 : decode cX13_told 84 = .ok (.aload_n 0, 1) := dk_42 (dk_at dksX13_told_3 0 rfl rfl)
theorem dX13_told_85 : decode cX13_told 85 = .ok (.iload_n 1, 1) := dk_27 (dk_at dksX13_told_3 1 rfl rfl)
theorem dX13_told_86 : decode cX13_told 86 = .ok (.invokevirtual 60, 3) := dk_182 0 60 (dk_at dksX13_told_3 2 rfl rfl)
theorem dX13_told_89 : decode cX13_told 89 = .ok (.ireturn, 1) := dk_172 (dk_at dksX13_told_3 5 rfl rfl)
theorem dX13_told_90 : decode cX13_told 90 = .ok (.aload_n 0, 1) := dk_42 (dk_at dksX13_told_3 6 rfl rfl)
theorem dX13_told_91 : decode cX13_told 91 = .ok (.iload_n 1, 1) := dk_27 (dk_at dksX13_told_3 7 rfl rfl)
theorem dX13_told_92 : decode cX13_told 92 = .ok (.invokevirtual 56, 3) := dk_182 0 56 (dk_at dksX13_told_3 8 rfl rfl)
theorem dX13_told_95 : decode cX13_told 95 = .ok (.ireturn, 1) := dk_172 (dk_at dksX13_told_3 11 rfl rfl)
theorem dX13_told_96 : decode cX13_told 96 = .ok (.aload_n 0, 1) := dk_42 (dk_at dksX13_told_3 12 rfl rfl)
theorem dX13_told_97 : decode cX13_told 97 = .ok (.getfield 38, 3) := dk_180 0 38 (dk_at dksX13_told_3 13 rfl rfl)
theorem dX13_told_100 : decode cX13_told 100 = .ok (.iload_n 1, 1) := dk_27 (dk_at dksX13_told_3 16 rfl rfl)
theorem dX13_told_101 : decode cX13_told 101 = .ok (.iaload, 1) := dk_46 (dk_at dksX13_told_3 17 rfl rfl)
theorem dX13_told_102 : decode cX13_told 102 = .ok (.ireturn, 1) := dk_172 (dk_at dksX13_told_3 18 rfl rfl)
theorem dX13_told_103 : decode cX13_told 103 = .ok (.aload_n 0, 1) := dk_42 (dk_at dksX13_told_3 19 rfl rfl)
theorem dX13_told_104 : decode cX13_told 104 = .ok (.getfield 32, 3) := dk_180 0 32 (dk_at dksX13_told_3 20 rfl rfl)
theorem dX13_told_107 : decode cX13_told 107 = .ok (.iload_n 1, 1) := dk_27 (dk_at dksX13_told_3 23 rfl rfl)
theorem dX13_told_108 : decode cX13_told 108 = .ok (.iaload, 1) := dk_46 (dk_at dksX13_told_4 0 rfl rfl)
theorem dX13_told_109 : decode cX13_told 109 = .ok (.ireturn, 1) := dk_172 (dk_at dksX13_told_4 1 rfl rfl)
theorem dX13_told_110 : decode cX13_told 110 = .ok (.aload_n 0, 1) := dk_42 (dk_at dksX13_told_4 2 rfl rfl)
theorem dX13_told_111 : decode cX13_told 111 = .ok (.getfield 29, 3) := dk_180 0 29 (dk_at dksX13_told_4 3 rfl rfl)
theorem dX13_told_114 : decode cX13_told 114 = .ok (.iload_n 1, 1) := dk_27 (dk_at dksX13_told_4 6 rfl rfl)
theorem dX13_told_115 : decode cX13_told 115 = .ok (.iaload, 1) := dk_46 (dk_at dksX13_told_4 7 rfl rfl)
theorem dX13_told_116 : decode cX13_told 116 = .ok (.ireturn, 1) := dk_172 (dk_at dksX13_told_4 8 rfl rfl)
theorem dX13_told_117 : decode cX13_told 117 = .ok (.aload_n 0, 1) := dk_42 (dk_at dksX13_told_4 9 rfl rfl)
theorem dX13_told_118 : decode cX13_told 118 = .ok (.iload_n 1, 1) := dk_27 (dk_at dksX13_told_4 10 rfl rfl)
theorem dX13_told_119 : decode cX13_told 119 = .ok (.invokevirtual 70, 3) := dk_182 0 70 (dk_at dksX13_told_4 11 rfl rfl)
theorem dX13_told_122 : decode cX13_told 122 = .ok (.ireturn, 1) := dk_172 (dk_at dksX13_told_4 14 rfl rfl)
theorem dX13_told_123 : decode cX13_told 123 = .ok (.aload_n 0, 1) := dk_42 (dk_at dksX13_told_4 15 rfl rfl)
theorem dX13_told_124 : decode cX13_told 124 = .ok (.getfield 35, 3) := dk_180 0 35 (dk_at dksX13_told_4 16 rfl rfl)
theorem dX13_told_127 : decode cX13_told 127 = .ok (.iload_n 1, 1) := dk_27 (dk_at dksX13_told_4 19 rfl rfl)
theorem dX13_told_128 : decode cX13_told 128 = .ok (.iaload, 1) := dk_46 (dk_at dksX13_told_4 20 rfl rfl)
theorem dX13_told_129 : decode cX13_told 129 = .ok (.ireturn, 1) := dk_172 (dk_at dksX13_told_4 21 rfl rfl)
theorem dX13_told_130 : decode cX13_told 130 = .ok (.aload_n 0, 1) := dk_42 (dk_at dksX13_told_4 22 rfl rfl)
theorem dX13_told_131 : decode cX13_told 131 = .ok (.iload_n 1, 1) := dk_27 (dk_at dksX13_told_4 23 rfl rfl)
theorem dX13_told_132 : decode cX13_told 132 = .ok (.invokevirtual 131, 3) := dk_182 0 131 (dk_at dksX13_told_5 0 rfl rfl)
theorem dX13_told_135 : decode cX13_told 135 = .ok (.ireturn, 1) := dk_172 (dk_at dksX13_told_5 3 rfl rfl)
abbrev cX13_banksUnder : ByteArray := prog_18_method_42_code
def yX13_banksUnder : MethodName := ⟨RX13, "banksUnder", "(I)I"⟩
def dkwX13_banksUnder_1 : List UInt8 := [182, 0, 52, 153, 0, 7, 4, 167, 0, 4, 3, 96, 61, 132, 3, 1, 167, 255, 221, 28, 172]
abbrev dktX13_banksUnder_1 : List UInt8 := dkwX13_banksUnder_1 ++ []
def dkwX13_banksUnder_0 : List UInt8 := [3, 61, 3, 62, 29, 16, 40, 162, 0, 35, 28, 42, 180, 0, 25, 29, 51, 153, 0, 16, 42, 29, 27]
abbrev dktX13_banksUnder_0 : List UInt8 := dkwX13_banksUnder_0 ++ dktX13_banksUnder_1
theorem dksX13_banksUnder_0 : cX13_banksUnder.data.toList.drop 0 = dktX13_banksUnder_0 := by decide +kernel
theorem dksX13_banksUnder_1 : cX13_banksUnder.data.toList.drop 23 = dktX13_banksUnder_1 := dk_seg dksX13_banksUnder_0 23 rfl rfl
theorem dX13_banksUnder_0 : decode cX13_banksUnder 0 = .ok (.iconst 0, 1) := dk_3 (dk_at dksX13_banksUnder_0 0 rfl rfl)
theorem dX13_banksUnder_1 : decode cX13_banksUnder 1 = .ok (.istore_n 2, 1) := dk_61 (dk_at dksX13_banksUnder_0 1 rfl rfl)
theorem dX13_banksUnder_2 : decode cX13_banksUnder 2 = .ok (.iconst 0, 1) := dk_3 (dk_at dksX13_banksUnder_0 2 rfl rfl)
theorem dX13_banksUnder_3 : decode cX13_banksUnder 3 = .ok (.istore_n 3, 1) := dk_62 (dk_at dksX13_banksUnder_0 3 rfl rfl)
theorem dX13_banksUnder_4 : decode cX13_banksUnder 4 = .ok (.iload_n 3, 1) := dk_29 (dk_at dksX13_banksUnder_0 4 rfl rfl)
theorem dX13_banksUnder_5 : decode cX13_banksUnder 5 = .ok (.bipush 40, 2) := dk_16 40 (dk_at dksX13_banksUnder_0 5 rfl rfl)
theorem dX13_banksUnder_7 : decode cX13_banksUnder 7 = .ok (.if_icmp .ge 35, 3) := dk_162 0 35 (dk_at dksX13_banksUnder_0 7 rfl rfl)
theorem dX13_banksUnder_10 : decode cX13_banksUnder 10 = .ok (.iload_n 2, 1) := dk_28 (dk_at dksX13_banksUnder_0 10 rfl rfl)
theorem dX13_banksUnder_11 : decode cX13_banksUnder 11 = .ok (.aload_n 0, 1) := dk_42 (dk_at dksX13_banksUnder_0 11 rfl rfl)
theorem dX13_banksUnder_12 : decode cX13_banksUnder 12 = .ok (.getfield 25, 3) := dk_180 0 25 (dk_at dksX13_banksUnder_0 12 rfl rfl)
theorem dX13_banksUnder_15 : decode cX13_banksUnder 15 = .ok (.iload_n 3, 1) := dk_29 (dk_at dksX13_banksUnder_0 15 rfl rfl)
theorem dX13_banksUnder_16 : decode cX13_banksUnder 16 = .ok (.baload, 1) := dk_51 (dk_at dksX13_banksUnder_0 16 rfl rfl)
theorem dX13_banksUnder_17 : decode cX13_banksUnder 17 = .ok (.ifCond .eq 16, 3) := dk_153 0 16 (dk_at dksX13_banksUnder_0 17 rfl rfl)
theorem dX13_banksUnder_20 : decode cX13_banksUnder 20 = .ok (.aload_n 0, 1) := dk_42 (dk_at dksX13_banksUnder_0 20 rfl rfl)
theorem dX13_banksUnder_21 : decode cX13_banksUnder 21 = .ok (.iload_n 3, 1) := dk_29 (dk_at dksX13_banksUnder_0 21 rfl rfl)
theorem dX13_banksUnder_22 : decode cX13_banksUnder 22 = .ok (.iload_n 1, 1) := dk_27 (dk_at dksX13_banksUnder_0 22 rfl rfl)
theorem dX13_banksUnder_23 : decode cX13_banksUnder 23 = .ok (.invokevirtual 52, 3) := dk_182 0 52 (dk_at dksX13_banksUnder_1 0 rfl rfl)
theorem dX13_banksUnder_26 : decode cX13_banksUnder 26 = .ok (.ifCond .eq 7, 3) := dk_153 0 7 (dk_at dksX13_banksUnder_1 3 rfl rfl)
theorem dX13_banksUnder_29 : decode cX13_banksUnder 29 = .ok (.iconst 1, 1) := dk_4 (dk_at dksX13_banksUnder_1 6 rfl rfl)
theorem dX13_banksUnder_30 : decode cX13_banksUnder 30 = .ok (.goto 4, 3) := dk_167 0 4 (dk_at dksX13_banksUnder_1 7 rfl rfl)
theorem dX13_banksUnder_33 : decode cX13_banksUnder 33 = .ok (.iconst 0, 1) := dk_3 (dk_at dksX13_banksUnder_1 10 rfl rfl)
theorem dX13_banksUnder_34 : decode cX13_banksUnder 34 = .ok (.iadd, 1) := dk_96 (dk_at dksX13_banksUnder_1 11 rfl rfl)
theorem dX13_banksUnder_35 : decode cX13_banksUnder 35 = .ok (.istore_n 2, 1) := dk_61 (dk_at dksX13_banksUnder_1 12 rfl rfl)
theorem dX13_banksUnder_36 : decode cX13_banksUnder 36 = .ok (.iinc 3 1, 3) := dk_132 3 1 (dk_at dksX13_banksUnder_1 13 rfl rfl)
theorem dX13_banksUnder_39 : decode cX13_banksUnder 39 = .ok (.goto (-35), 3) := dk_167 255 221 (dk_at dksX13_banksUnder_1 16 rfl rfl)
theorem dX13_banksUnder_42 : decode cX13_banksUnder 42 = .ok (.iload_n 2, 1) := dk_28 (dk_at dksX13_banksUnder_1 19 rfl rfl)
theorem dX13_banksUnder_43 : decode cX13_banksUnder 43 = .ok (.ireturn, 1) := dk_172 (dk_at dksX13_banksUnder_1 20 rfl rfl)
abbrev cX13_page : ByteArray := prog_18_method_44_code
def yX13_page : MethodName := ⟨RX13, "page", "(II)I"⟩
def dkwX13_page_2 : List UInt8 := [160, 0, 5, 3, 172, 42, 27, 28, 182, 0, 128, 62, 42, 180, 0, 13, 29, 46, 29, 184, 0, 96, 172]
abbrev dktX13_page_2 : List UInt8 := dkwX13_page_2 ++ []
def dkwX13_page_1 : List UInt8 := [3, 167, 0, 4, 4, 181, 0, 45, 42, 180, 0, 45, 157, 0, 13, 42, 180, 0, 35, 27, 46, 5]
abbrev dktX13_page_1 : List UInt8 := dkwX13_page_1 ++ dktX13_page_2
def dkwX13_page_0 : List UInt8 := [42, 42, 27, 182, 0, 63, 153, 0, 22, 28, 3, 42, 27, 182, 0, 56, 4, 100, 184, 0, 48, 153, 0, 7]
abbrev dktX13_page_0 : List UInt8 := dkwX13_page_0 ++ dktX13_page_1
theorem dksX13_page_0 : cX13_page.data.toList.drop 0 = dktX13_page_0 := by decide +kernel
theorem dksX13_page_1 : cX13_page.data.toList.drop 24 = dktX13_page_1 := dk_seg dksX13_page_0 24 rfl rfl
theorem dksX13_page_2 : cX13_page.data.toList.drop 46 = dktX13_page_2 := dk_seg dksX13_page_1 22 rfl rfl
theorem dX13_page_0 : decode cX13_page 0 = .ok (.aload_n 0, 1) := dk_42 (dk_at dksX13_page_0 0 rfl rfl)
theorem dX13_page_1 : decode cX13_page 1 = .ok (.aload_n 0, 1) := dk_42 (dk_at dksX13_page_0 1 rfl rfl)
theorem dX13_page_2 : decode cX13_page 2 = .ok (.iload_n 1, 1) := dk_27 (dk_at dksX13_page_0 2 rfl rfl)
theorem dX13_page_3 : decode cX13_page 3 = .ok (.invokevirtual 63, 3) := dk_182 0 63 (dk_at dksX13_page_0 3 rfl rfl)
theorem dX13_page_6 : decode cX13_page 6 = .ok (.ifCond .eq 22, 3) := dk_153 0 22 (dk_at dksX13_page_0 6 rfl rfl)
theorem dX13_page_9 : decode cX13_page 9 = .ok (.iload_n 2, 1) := dk_28 (dk_at dksX13_page_0 9 rfl rfl)
theorem dX13_page_10 : decode cX13_page 10 = .ok (.iconst 0, 1) := dk_3 (dk_at dksX13_page_0 10 rfl rfl)
theorem dX13_page_11 : decode cX13_page 11 = .ok (.aload_n 0, 1) := dk_42 (dk_at dksX13_page_0 11 rfl rfl)
theorem dX13_page_12 : decode cX13_page 12 = .ok (.iload_n 1, 1) := dk_27 (dk_at dksX13_page_0 12 rfl rfl)
theorem dX13_page_13 : decode cX13_page 13 = .ok (.invokevirtual 56, 3) := dk_182 0 56 (dk_at dksX13_page_0 13 rfl rfl)
theorem dX13_page_16 : decode cX13_page 16 = .ok (.iconst 1, 1) := dk_4 (dk_at dksX13_page_0 16 rfl rfl)
theorem dX13_page_17 : decode cX13_page 17 = .ok (.isub, 1) := dk_100 (dk_at dksX13_page_0 17 rfl rfl)
theorem dX13_page_18 : decode cX13_page 18 = .ok (.invokestatic 48, 3) := dk_184 0 48 (dk_at dksX13_page_0 18 rfl rfl)
theorem dX13_page_21 : decode cX13_page 21 = .ok (.ifCond .eq 7, 3) := dk_153 0 7 (dk_at dksX13_page_0 21 rfl rfl)
theorem dX13_page_24 : decode cX13_page 24 = .ok (.iconst 0, 1) := dk_3 (dk_at dksX13_page_1 0 rfl rfl)
theorem dX13_page_25 : decode cX13_page 25 = .ok (.goto 4, 3) := dk_167 0 4 (dk_at dksX13_page_1 1 rfl rfl)
theorem dX13_page_28 : decode cX13_page 28 = .ok (.iconst 1, 1) := dk_4 (dk_at dksX13_page_1 4 rfl rfl)
theorem dX13_page_29 : decode cX13_page 29 = .ok (.putfield 45, 3) := dk_181 0 45 (dk_at dksX13_page_1 5 rfl rfl)
theorem dX13_page_32 : decode cX13_page 32 = .ok (.aload_n 0, 1) := dk_42 (dk_at dksX13_page_1 8 rfl rfl)
theorem dX13_page_33 : decode cX13_page 33 = .ok (.getfield 45, 3) := dk_180 0 45 (dk_at dksX13_page_1 9 rfl rfl)
theorem dX13_page_36 : decode cX13_page 36 = .ok (.ifCond .gt 13, 3) := dk_157 0 13 (dk_at dksX13_page_1 12 rfl rfl)
theorem dX13_page_39 : decode cX13_page 39 = .ok (.aload_n 0, 1) := dk_42 (dk_at dksX13_page_1 15 rfl rfl)
theorem dX13_page_40 : decode cX13_page 40 = .ok (.getfield 35, 3) := dk_180 0 35 (dk_at dksX13_page_1 16 rfl rfl)
theorem dX13_page_43 : decode cX13_page 43 = .ok (.iload_n 1, 1) := dk_27 (dk_at dksX13_page_1 19 rfl rfl)
theorem dX13_page_44 : decode cX13_page 44 = .ok (.iaload, 1) := dk_46 (dk_at dksX13_page_1 20 rfl rfl)
theorem dX13_page_45 : decode cX13_page 45 = .ok (.iconst 2, 1) := dk_5 (dk_at dksX13_page_1 21 rfl rfl)
theorem dX13_page_46 : decode cX13_page 46 = .ok (.if_icmp .ne 5, 3) := dk_160 0 5 (dk_at dksX13_page_2 0 rfl rfl)
theorem dX13_page_49 : decode cX13_page 49 = .ok (.iconst 0, 1) := dk_3 (dk_at dksX13_page_2 3 rfl rfl)
theorem dX13_page_50 : decode cX13_page 50 = .ok (.ireturn, 1) := dk_172 (dk_at dksX13_page_2 4 rfl rfl)
theorem dX13_page_51 : decode cX13_page 51 = .ok (.aload_n 0, 1) := dk_42 (dk_at dksX13_page_2 5 rfl rfl)
theorem dX13_page_52 : decode cX13_page 52 = .ok (.iload_n 1, 1) := dk_27 (dk_at dksX13_page_2 6 rfl rfl)
theorem dX13_page_53 : decode cX13_page 53 = .ok (.iload_n 2, 1) := dk_28 (dk_at dksX13_page_2 7 rfl rfl)
theorem dX13_page_54 : decode cX13_page 54 = .ok (.invokevirtual 128, 3) := dk_182 0 128 (dk_at dksX13_page_2 8 rfl rfl)
theorem dX13_page_57 : decode cX13_page 57 = .ok (.istore_n 3, 1) := dk_62 (dk_at dksX13_page_2 11 rfl rfl)
theorem dX13_page_58 : decode cX13_page 58 = .ok (.aload_n 0, 1) := dk_42 (dk_at dksX13_page_2 12 rfl rfl)
theorem dX13_page_59 : decode cX13_page 59 = .ok (.getfield 13, 3) := dk_180 0 13 (dk_at dksX13_page_2 13 rfl rfl)
theorem dX13_page_62 : decode cX13_page 62 = .ok (.iload_n 3, 1) := dk_29 (dk_at dksX13_page_2 16 rfl rfl)
theorem dX13_page_63 : decode cX13_page 63 = .ok (.iaload, 1) := dk_46 (dk_at dksX13_page_2 17 rfl rfl)
theorem dX13_page_64 : decode cX13_page 64 = .ok (.iload_n 3, 1) := dk_29 (dk_at dksX13_page_2 18 rfl rfl)
theorem dX13_page_65 : decode cX13_page 65 = .ok (.invokestatic 96, 3) := dk_184 0 96 (dk_at dksX13_page_2 19 rfl rfl)
theorem dX13_page_68 : decode cX13_page 68 = .ok (.ireturn, 1) := dk_172 (dk_at dksX13_page_2 22 rfl rfl)
abbrev cX13_owner : ByteArray := prog_18_method_45_code
def yX13_owner : MethodName := ⟨RX13, "owner", "(I)I"⟩
def dkwX13_owner_1 : List UInt8 := [3, 167, 0, 12, 42, 180, 0, 7, 27, 184, 0, 103, 46, 172]
abbrev dktX13_owner_1 : List UInt8 := dkwX13_owner_1 ++ []
def dkwX13_owner_0 : List UInt8 := [42, 42, 27, 182, 0, 106, 153, 0, 7, 3, 167, 0, 4, 4, 181, 0, 45, 42, 180, 0, 45, 158, 0, 7]
abbrev dktX13_owner_0 : List UInt8 := dkwX13_owner_0 ++ dktX13_owner_1
theorem dksX13_owner_0 : cX13_owner.data.toList.drop 0 = dktX13_owner_0 := by decide +kernel
theorem dksX13_owner_1 : cX13_owner.data.toList.drop 24 = dktX13_owner_1 := dk_seg dksX13_owner_0 24 rfl rfl
theorem dX13_owner_0 : decode cX13_owner 0 = .ok (.aload_n 0, 1) := dk_42 (dk_at dksX13_owner_0 0 rfl rfl)
theorem dX13_owner_1 : decode cX13_owner 1 = .ok (.aload_n 0, 1) := dk_42 (dk_at dksX13_owner_0 1 rfl rfl)
theorem dX13_owner_2 : decode cX13_owner 2 = .ok (.iload_n 1, 1) := dk_27 (dk_at dksX13_owner_0 2 rfl rfl)
theorem dX13_owner_3 : decode cX13_owner 3 = .ok (.invokevirtual 106, 3) := dk_182 0 106 (dk_at dksX13_owner_0 3 rfl rfl)
theorem dX13_owner_6 : decode cX13_owner 6 = .ok (.ifCond .eq 7, 3) := dk_153 0 7 (dk_at dksX13_owner_0 6 rfl rfl)
theorem dX13_owner_9 : decode cX13_owner 9 = .ok (.iconst 0, 1) := dk_3 (dk_at dksX13_owner_0 9 rfl rfl)
theorem dX13_owner_10 : decode cX13_owner 10 = .ok (.goto 4, 3) := dk_167 0 4 (dk_at dksX13_owner_0 10 rfl rfl)
theorem dX13_owner_13 : decode cX13_owner 13 = .ok (.iconst 1, 1) := dk_4 (dk_at dksX13_owner_0 13 rfl rfl)
theorem dX13_owner_14 : decode cX13_owner 14 = .ok (.putfield 45, 3) := dk_181 0 45 (dk_at dksX13_owner_0 14 rfl rfl)
theorem dX13_owner_17 : decode cX13_owner 17 = .ok (.aload_n 0, 1) := dk_42 (dk_at dksX13_owner_0 17 rfl rfl)
theorem dX13_owner_18 : decode cX13_owner 18 = .ok (.getfield 45, 3) := dk_180 0 45 (dk_at dksX13_owner_0 18 rfl rfl)
theorem dX13_owner_21 : decode cX13_owner 21 = .ok (.ifCond .le 7, 3) := dk_158 0 7 (dk_at dksX13_owner_0 21 rfl rfl)
theorem dX13_owner_24 : decode cX13_owner 24 = .ok (.iconst 0, 1) := dk_3 (dk_at dksX13_owner_1 0 rfl rfl)
theorem dX13_owner_25 : decode cX13_owner 25 = .ok (.goto 12, 3) := dk_167 0 12 (dk_at dksX13_owner_1 1 rfl rfl)
theorem dX13_owner_28 : decode cX13_owner 28 = .ok (.aload_n 0, 1) := dk_42 (dk_at dksX13_owner_1 4 rfl rfl)
theorem dX13_owner_29 : decode cX13_owner 29 = .ok (.getfield 7, 3) := dk_180 0 7 (dk_at dksX13_owner_1 5 rfl rfl)
theorem dX13_owner_32 : decode cX13_owner 32 = .ok (.iload_n 1, 1) := dk_27 (dk_at dksX13_owner_1 8 rfl rfl)
theorem dX13_owner_33 : decode cX13_owner 33 = .ok (.invokestatic 103, 3) := dk_184 0 103 (dk_at dksX13_owner_1 9 rfl rfl)
theorem dX13_owner_36 : decode cX13_owner 36 = .ok (.iaload, 1) := dk_46 (dk_at dksX13_owner_1 12 rfl rfl)
theorem dX13_owner_37 : decode cX13_owner 37 = .ok (.ireturn, 1) := dk_172 (dk_at dksX13_owner_1 13 rfl rfl)
abbrev cX13_isAlive : ByteArray := prog_18_method_46_code
def yX13_isAlive : MethodName := ⟨RX13, "isAlive", "(I)Z"⟩
def dkwX13_isAlive_0 : List UInt8 := [42, 3, 181, 0, 45, 42, 27, 182, 0, 106, 172]
abbrev dktX13_isAlive_0 : List UInt8 := dkwX13_isAlive_0 ++ []
theorem dksX13_isAlive_0 : cX13_isAlive.data.toList.drop 0 = dktX13_isAlive_0 := by decide +kernel
theorem dX13_isAlive_0 : decode cX13_isAlive 0 = .ok (.aload_n 0, 1) := dk_42 (dk_at dksX13_isAlive_0 0 rfl rfl)
theorem dX13_isAlive_1 : decode cX13_isAlive 1 = .ok (.iconst 0, 1) := dk_3 (dk_at dksX13_isAlive_0 1 rfl rfl)
theorem dX13_isAlive_2 : decode cX13_isAlive 2 = .ok (.putfield 45, 3) := dk_181 0 45 (dk_at dksX13_isAlive_0 2 rfl rfl)
theorem dX13_isAlive_5 : decode cX13_isAlive 5 = .ok (.aload_n 0, 1) := dk_42 (dk_at dksX13_isAlive_0 5 rfl rfl)
theorem dX13_isAlive_6 : decode cX13_isAlive 6 = .ok (.iload_n 1, 1) := dk_27 (dk_at dksX13_isAlive_0 6 rfl rfl)
theorem dX13_isAlive_7 : decode cX13_isAlive 7 = .ok (.invokevirtual 106, 3) := dk_182 0 106 (dk_at dksX13_isAlive_0 7 rfl rfl)
theorem dX13_isAlive_10 : decode cX13_isAlive 10 = .ok (.ireturn, 1) := dk_172 (dk_at dksX13_isAlive_0 10 rfl rfl)
abbrev cX13_refused : ByteArray := prog_18_method_47_code
def yX13_refused : MethodName := ⟨RX13, "refused", "()I"⟩
def dkwX13_refused_0 : List UInt8 := [42, 3, 181, 0, 45, 42, 180, 0, 41, 172]
abbrev dktX13_refused_0 : List UInt8 := dkwX13_refused_0 ++ []
theorem dksX13_refused_0 : cX13_refused.data.toList.drop 0 = dktX13_refused_0 := by decide +kernel
theorem dX13_refused_0 : decode cX13_refused 0 = .ok (.aload_n 0, 1) := dk_42 (dk_at dksX13_refused_0 0 rfl rfl)
theorem dX13_refused_1 : decode cX13_refused 1 = .ok (.iconst 0, 1) := dk_3 (dk_at dksX13_refused_0 1 rfl rfl)
theorem dX13_refused_2 : decode cX13_refused 2 = .ok (.putfield 45, 3) := dk_181 0 45 (dk_at dksX13_refused_0 2 rfl rfl)
theorem dX13_refused_5 : decode cX13_refused 5 = .ok (.aload_n 0, 1) := dk_42 (dk_at dksX13_refused_0 5 rfl rfl)
theorem dX13_refused_6 : decode cX13_refused 6 = .ok (.getfield 41, 3) := dk_180 0 41 (dk_at dksX13_refused_0 6 rfl rfl)
theorem dX13_refused_9 : decode cX13_refused 9 = .ok (.ireturn, 1) := dk_172 (dk_at dksX13_refused_0 9 rfl rfl)
abbrev cX13_count : ByteArray := prog_18_method_48_code
def yX13_count : MethodName := ⟨RX13, "count", "(I)I"⟩
def dkwX13_count_5 : List UInt8 := [153, 0, 7, 28, 167, 0, 4, 2, 172]
abbrev dktX13_count_5 : List UInt8 := dkwX13_count_5 ++ []
def dkwX13_count_4 : List UInt8 := [167, 255, 172, 27, 6, 160, 0, 11, 42, 3, 182, 0, 131, 167, 0, 17, 27, 3, 5, 184, 0, 48]
abbrev dktX13_count_4 : List UInt8 := dkwX13_count_4 ++ dktX13_count_5
def dkwX13_count_3 : List UInt8 := [4, 167, 0, 4, 3, 54, 4, 28, 21, 4, 153, 0, 7, 4, 167, 0, 4, 3, 96, 61, 132, 3, 1]
abbrev dktX13_count_3 : List UInt8 := dkwX13_count_3 ++ dktX13_count_4
def dkwX13_count_2 : List UInt8 := [29, 46, 16, 7, 160, 0, 7, 4, 167, 0, 21, 3, 167, 0, 17, 42, 180, 0, 7, 29, 46, 155, 0, 7]
abbrev dktX13_count_2 : List UInt8 := dkwX13_count_2 ++ dktX13_count_3
def dkwX13_count_1 : List UInt8 := [182, 0, 77, 167, 0, 50, 27, 4, 160, 0, 31, 42, 180, 0, 7, 29, 46, 156, 0, 18, 42, 180, 0, 13]
abbrev dktX13_count_1 : List UInt8 := dkwX13_count_1 ++ dktX13_count_2
def dkwX13_count_0 : List UInt8 := [42, 3, 181, 0, 45, 3, 61, 3, 62, 29, 17, 0, 192, 162, 0, 83, 27, 154, 0, 11, 42, 29]
abbrev dktX13_count_0 : List UInt8 := dkwX13_count_0 ++ dktX13_count_1
theorem dksX13_count_0 : cX13_count.data.toList.drop 0 = dktX13_count_0 := by decide +kernel
theorem dksX13_count_1 : cX13_count.data.toList.drop 22 = dktX13_count_1 := dk_seg dksX13_count_0 22 rfl rfl
theorem dksX13_count_2 : cX13_count.data.toList.drop 46 = dktX13_count_2 := dk_seg dksX13_count_1 24 rfl rfl
theorem dksX13_count_3 : cX13_count.data.toList.drop 70 = dktX13_count_3 := dk_seg dksX13_count_2 24 rfl rfl
theorem dksX13_count_4 : cX13_count.data.toList.drop 93 = dktX13_count_4 := dk_seg dksX13_count_3 23 rfl rfl
theorem dksX13_count_5 : cX13_count.data.toList.drop 115 = dktX13_count_5 := dk_seg dksX13_count_4 22 rfl rfl
theorem dX13_count_0 : decode cX13_count 0 = .ok (.aload_n 0, 1) := dk_42 (dk_at dksX13_count_0 0 rfl rfl)
theorem dX13_count_1 : decode cX13_count 1 = .ok (.iconst 0, 1) := dk_3 (dk_at dksX13_count_0 1 rfl rfl)
theorem dX13_count_2 : decode cX13_count 2 = .ok (.putfield 45, 3) := dk_181 0 45 (dk_at dksX13_count_0 2 rfl rfl)
theorem dX13_count_5 : decode cX13_count 5 = .ok (.iconst 0, 1) := dk_3 (dk_at dksX13_count_0 5 rfl rfl)
theorem dX13_count_6 : decode cX13_count 6 = .ok (.istore_n 2, 1) := dk_61 (dk_at dksX13_count_0 6 rfl rfl)
theorem dX13_count_7 : decode cX13_count 7 = .ok (.iconst 0, 1) := dk_3 (dk_at dksX13_count_0 7 rfl rfl)
theorem dX13_count_8 : decode cX13_count 8 = .ok (.istore_n 3, 1) := dk_62 (dk_at dksX13_count_0 8 rfl rfl)
theorem dX13_count_9 : decode cX13_count 9 = .ok (.iload_n 3, 1) := dk_29 (dk_at dksX13_count_0 9 rfl rfl)
theorem dX13_count_10 : decode cX13_count 10 = .ok (.sipush 192, 3) := dk_17 0 192 (dk_at dksX13_count_0 10 rfl rfl)
theorem dX13_count_13 : decode cX13_count 13 = .ok (.if_icmp .ge 83, 3) := dk_162 0 83 (dk_at dksX13_count_0 13 rfl rfl)
theorem dX13_count_16 : decode cX13_count 16 = .ok (.iload_n 1, 1) := dk_27 (dk_at dksX13_count_0 16 rfl rfl)
theorem dX13_count_17 : decode cX13_count 17 = .ok (.ifCond .ne 11, 3) := dk_154 0 11 (dk_at dksX13_count_0 17 rfl rfl)
theorem dX13_count_20 : decode cX13_count 20 = .ok (.aload_n 0, 1) := dk_42 (dk_at dksX13_count_0 20 rfl rfl)
theorem dX13_count_21 : decode cX13_count 21 = .ok (.iload_n 3, 1) := dk_29 (dk_at dksX13_count_0 21 rfl rfl)
theorem dX13_count_22 : decode cX13_count 22 = .ok (.invokevirtual 77, 3) := dk_182 0 77 (dk_at dksX13_count_1 0 rfl rfl)
theorem dX13_count_25 : decode cX13_count 25 = .ok (.goto 50, 3) := dk_167 0 50 (dk_at dksX13_count_1 3 rfl rfl)
theorem dX13_count_28 : decode cX13_count 28 = .ok (.iload_n 1, 1) := dk_27 (dk_at dksX13_count_1 6 rfl rfl)
theorem dX13_count_29 : decode cX13_count 29 = .ok (.iconst 1, 1) := dk_4 (dk_at dksX13_count_1 7 rfl rfl)
theorem dX13_count_30 : decode cX13_count 30 = .ok (.if_icmp .ne 31, 3) := dk_160 0 31 (dk_at dksX13_count_1 8 rfl rfl)
theorem dX13_count_33 : decode cX13_count 33 = .ok (.aload_n 0, 1) := dk_42 (dk_at dksX13_count_1 11 rfl rfl)
theorem dX13_count_34 : decode cX13_count 34 = .ok (.getfield 7, 3) := dk_180 0 7 (dk_at dksX13_count_1 12 rfl rfl)
theorem dX13_count_37 : decode cX13_count 37 = .ok (.iload_n 3, 1) := dk_29 (dk_at dksX13_count_1 15 rfl rfl)
theorem dX13_count_38 : decode cX13_count 38 = .ok (.iaload, 1) := dk_46 (dk_at dksX13_count_1 16 rfl rfl)
theorem dX13_count_39 : decode cX13_count 39 = .ok (.ifCond .ge 18, 3) := dk_156 0 18 (dk_at dksX13_count_1 17 rfl rfl)
theorem dX13_count_42 : decode cX13_count 42 = .ok (.aload_n 0, 1) := dk_42 (dk_at dksX13_count_1 20 rfl rfl)
theorem dX13_count_43 : decode cX13_count 43 = .ok (.getfield 13, 3) := dk_180 0 13 (dk_at dksX13_count_1 21 rfl rfl)
theorem dX13_count_46 : decode cX13_count 46 = .ok (.iload_n 3, 1) := dk_29 (dk_at dksX13_count_2 0 rfl rfl)
theorem dX13_count_47 : decode cX13_count 47 = .ok (.iaload, 1) := dk_46 (dk_at dksX13_count_2 1 rfl rfl)
theorem dX13_count_48 : decode cX13_count 48 = .ok (.bipush 7, 2) := dk_16 7 (dk_at dksX13_count_2 2 rfl rfl)
theorem dX13_count_50 : decode cX13_count 50 = .ok (.if_icmp .ne 7, 3) := dk_160 0 7 (dk_at dksX13_count_2 4 rfl rfl)
theorem dX13_count_53 : decode cX13_count 53 = .ok (.iconst 1, 1) := dk_4 (dk_at dksX13_count_2 7 rfl rfl)
theorem dX13_count_54 : decode cX13_count 54 = .ok (.goto 21, 3) := dk_167 0 21 (dk_at dksX13_count_2 8 rfl rfl)
theorem dX13_count_57 : decode cX13_count 57 = .ok (.iconst 0, 1) := dk_3 (dk_at dksX13_count_2 11 rfl rfl)
theorem dX13_count_58 : decode cX13_count 58 = .ok (.goto 17, 3) := dk_167 0 17 (dk_at dksX13_count_2 12 rfl rfl)
theorem dX13_count_61 : decode cX13_count 61 = .ok (.aload_n 0, 1) := dk_42 (dk_at dksX13_count_2 15 rfl rfl)
theorem dX13_count_62 : decode cX13_count 62 = .ok (.getfield 7, 3) := dk_180 0 7 (dk_at dksX13_count_2 16 rfl rfl)
theorem dX13_count_65 : decode cX13_count 65 = .ok (.iload_n 3, 1) := dk_29 (dk_at dksX13_count_2 19 rfl rfl)
theorem dX13_count_66 : decode cX13_count 66 = .ok (.iaload, 1) := dk_46 (dk_at dksX13_count_2 20 rfl rfl)
theorem dX13_count_67 : decode cX13_count 67 = .ok (.ifCond .lt 7, 3) := dk_155 0 7 (dk_at dksX13_count_2 21 rfl rfl)
theorem dX13_count_70 : decode cX13_count 70 = .ok (.iconst 1, 1) := dk_4 (dk_at dksX13_count_3 0 rfl rfl)
theorem dX13_count_71 : decode cX13_count 71 = .ok (.goto 4, 3) := dk_167 0 4 (dk_at dksX13_count_3 1 rfl rfl)
theorem dX13_count_74 : decode cX13_count 74 = .ok (.iconst 0, 1) := dk_3 (dk_at dksX13_count_3 4 rfl rfl)
theorem dX13_count_75 : decode cX13_count 75 = .ok (.istore 4, 2) := dk_54 4 (dk_at dksX13_count_3 5 rfl rfl)
theorem dX13_count_77 : decode cX13_count 77 = .ok (.iload_n 2, 1) := dk_28 (dk_at dksX13_count_3 7 rfl rfl)
theorem dX13_count_78 : decode cX13_count 78 = .ok (.iload 4, 2) := dk_21 4 (dk_at dksX13_count_3 8 rfl rfl)
theorem dX13_count_80 : decode cX13_count 80 = .ok (.ifCond .eq 7, 3) := dk_153 0 7 (dk_at dksX13_count_3 10 rfl rfl)
theorem dX13_count_83 : decode cX13_count 83 = .ok (.iconst 1, 1) := dk_4 (dk_at dksX13_count_3 13 rfl rfl)
theorem dX13_count_84 : decode cX13_count 84 = .ok (.goto 4, 3) := dk_167 0 4 (dk_at dksX13_count_3 14 rfl rfl)
theorem dX13_count_87 : decode cX13_count 87 = .ok (.iconst 0, 1) := dk_3 (dk_at dksX13_count_3 17 rfl rfl)
theorem dX13_count_88 : decode cX13_count 88 = .ok (.iadd, 1) := dk_96 (dk_at dksX13_count_3 18 rfl rfl)
theorem dX13_count_89 : decode cX13_count 89 = .ok (.istore_n 2, 1) := dk_61 (dk_at dksX13_count_3 19 rfl rfl)
theorem dX13_count_90 : decode cX13_count 90 = .ok (.iinc 3 1, 3) := dk_132 3 1 (dk_at dksX13_count_3 20 rfl rfl)
theorem dX13_count_93 : decode cX13_count 93 = .ok (.goto (-84), 3) := dk_167 255 172 (dk_at dksX13_count_4 0 rfl rfl)
theorem dX13_count_96 : decode cX13_count 96 = .ok (.iload_n 1, 1) := dk_27 (dk_at dksX13_count_4 3 rfl rfl)
theorem dX13_count_97 : decode cX13_count 97 = .ok (.iconst 3, 1) := dk_6 (dk_at dksX13_count_4 4 rfl rfl)
theorem dX13_count_98 : decode cX13_count 98 = .ok (.if_icmp .ne 11, 3) := dk_160 0 11 (dk_at dksX13_count_4 5 rfl rfl)
theorem dX13_count_101 : decode cX13_count 101 = .ok (.aload_n 0, 1) := dk_42 (dk_at dksX13_count_4 8 rfl rfl)
theorem dX13_count_102 : decode cX13_count 102 = .ok (.iconst 0, 1) := dk_3 (dk_at dksX13_count_4 9 rfl rfl)
theorem dX13_count_103 : decode cX13_count 103 = .ok (.invokevirtual 131, 3) := dk_182 0 131 (dk_at dksX13_count_4 10 rfl rfl)
theorem dX13_count_106 : decode cX13_count 106 = .ok (.goto 17, 3) := dk_167 0 17 (dk_at dksX13_count_4 13 rfl rfl)
theorem dX13_count_109 : decode cX13_count 109 = .ok (.iload_n 1, 1) := dk_27 (dk_at dksX13_count_4 16 rfl rfl)
theorem dX13_count_110 : decode cX13_count 110 = .ok (.iconst 0, 1) := dk_3 (dk_at dksX13_count_4 17 rfl rfl)
theorem dX13_count_111 : decode cX13_count 111 = .ok (.iconst 2, 1) := dk_5 (dk_at dksX13_count_4 18 rfl rfl)
theorem dX13_count_112 : decode cX13_count 112 = .ok (.invokestatic 48, 3) := dk_184 0 48 (dk_at dksX13_count_4 19 rfl rfl)
theorem dX13_count_115 : decode cX13_count 115 = .ok (.ifCond .eq 7, 3) := dk_153 0 7 (dk_at dksX13_count_5 0 rfl rfl)
theorem dX13_count_118 : decode cX13_count 118 = .ok (.iload_n 2, 1) := dk_28 (dk_at dksX13_count_5 3 rfl rfl)
theorem dX13_count_119 : decode cX13_count 119 = .ok (.goto 4, 3) := dk_167 0 4 (dk_at dksX13_count_5 4 rfl rfl)
theorem dX13_count_122 : decode cX13_count 122 = .ok (.iconst (-1), 1) := dk_2 (dk_at dksX13_count_5 7 rfl rfl)
theorem dX13_count_123 : decode cX13_count 123 = .ok (.ireturn, 1) := dk_172 (dk_at dksX13_count_5 8 rfl rfl)
abbrev cX13_astray : ByteArray := prog_18_method_49_code
def yX13_astray : MethodName := ⟨RX13, "astray", "()I"⟩
def dkwX13_astray_0 : List UInt8 := [42, 3, 181, 0, 45, 3, 172]
abbrev dktX13_astray_0 : List UInt8 := dkwX13_astray_0 ++ []
theorem dksX13_astray_0 : cX13_astray.data.toList.drop 0 = dktX13_astray_0 := by decide +kernel
theorem dX13_astray_0 : decode cX13_astray 0 = .ok (.aload_n 0, 1) := dk_42 (dk_at dksX13_astray_0 0 rfl rfl)
theorem dX13_astray_1 : decode cX13_astray 1 = .ok (.iconst 0, 1) := dk_3 (dk_at dksX13_astray_0 1 rfl rfl)
theorem dX13_astray_2 : decode cX13_astray 2 = .ok (.putfield 45, 3) := dk_181 0 45 (dk_at dksX13_astray_0 2 rfl rfl)
theorem dX13_astray_5 : decode cX13_astray 5 = .ok (.iconst 0, 1) := dk_3 (dk_at dksX13_astray_0 5 rfl rfl)
theorem dX13_astray_6 : decode cX13_astray 6 = .ok (.ireturn, 1) := dk_172 (dk_at dksX13_astray_0 6 rfl rfl)
theorem q58 : (Jvm.Cond.initialized "PageBanksModel") ∈ lw_all := lw_g (lw_at lw_m1 18 rfl) rfl
theorem q816 : (Jvm.Cond.selects "PageBanksModel" ({ cls := "java/lang/Object", name := "getClass", desc := "()Ljava/lang/Class;" } : Jvm.MethodName) ({ cls := "java/lang/Object", name := "getClass", desc := "()Ljava/lang/Class;" } : Jvm.MethodName)) ∈ lw_all := lw_g (lw_at lw_m4 56 rfl) rfl
theorem q1124 : (Jvm.Cond.instantiable "PageBanksModel" (14 : Nat)) ∈ lw_all := lw_g (lw_at lw_m5 124 rfl) rfl
theorem q1126 : (Jvm.Cond.instanceMethod ({ cls := "PageBanksModel", name := "<init>", desc := "()V" } : Jvm.MethodName)) ∈ lw_all := lw_g (lw_at lw_m5 126 rfl) rfl
theorem q1127 : (Jvm.Cond.code ({ cls := "PageBanksModel", name := "<init>", desc := "()V" } : Jvm.MethodName) prog_18_method_1_code (2 : Nat) (Option.none : Option Jvm.ClassFile.FieldType)) ∈ lw_all := lw_g (lw_at lw_m5 127 rfl) rfl
theorem q1128 : (Jvm.Cond.methodLink "PageBanksModel" (1 : Nat) ({ cls := "java/lang/Object", name := "<init>", desc := "()V" } : Jvm.MethodName)) ∈ lw_all := lw_g (lw_at lw_m5 128 rfl) rfl
theorem q1129 : (Jvm.Cond.fieldLink "PageBanksModel" (45 : Nat) "PageBanksModel" "code" "I") ∈ lw_all := lw_g (lw_at lw_m5 129 rfl) rfl
theorem q1130 : (Jvm.Cond.fieldLink "PageBanksModel" (7 : Nat) "PageBanksModel" "owners" "[I") ∈ lw_all := lw_g (lw_at lw_m5 130 rfl) rfl
theorem q1131 : (Jvm.Cond.fieldLink "PageBanksModel" (13 : Nat) "PageBanksModel" "versions" "[I") ∈ lw_all := lw_g (lw_at lw_m5 131 rfl) rfl
theorem q1132 : (Jvm.Cond.fieldLink "PageBanksModel" (16 : Nat) "PageBanksModel" "runs" "[I") ∈ lw_all := lw_g (lw_at lw_m5 132 rfl) rfl
theorem q1133 : (Jvm.Cond.fieldLink "PageBanksModel" (19 : Nat) "PageBanksModel" "stamps" "[I") ∈ lw_all := lw_g (lw_at lw_m5 133 rfl) rfl
theorem q1134 : (Jvm.Cond.fieldLink "PageBanksModel" (22 : Nat) "PageBanksModel" "words" "[I") ∈ lw_all := lw_g (lw_at lw_m5 134 rfl) rfl
theorem q1135 : (Jvm.Cond.fieldLink "PageBanksModel" (89 : Nat) "PageBanksModel" "runCount" "I") ∈ lw_all := lw_g (lw_at lw_m5 135 rfl) rfl
theorem q1136 : (Jvm.Cond.fieldLink "PageBanksModel" (80 : Nat) "PageBanksModel" "stampCount" "I") ∈ lw_all := lw_g (lw_at lw_m5 136 rfl) rfl
theorem q1137 : (Jvm.Cond.fieldLink "PageBanksModel" (25 : Nat) "PageBanksModel" "there" "[Z") ∈ lw_all := lw_g (lw_at lw_m5 137 rfl) rfl
theorem q1138 : (Jvm.Cond.fieldLink "PageBanksModel" (29 : Nat) "PageBanksModel" "parents" "[I") ∈ lw_all := lw_g (lw_at lw_m5 138 rfl) rfl
theorem q1139 : (Jvm.Cond.fieldLink "PageBanksModel" (32 : Nat) "PageBanksModel" "limits" "[I") ∈ lw_all := lw_g (lw_at lw_m5 139 rfl) rfl
theorem q1140 : (Jvm.Cond.fieldLink "PageBanksModel" (35 : Nat) "PageBanksModel" "states" "[I") ∈ lw_all := lw_g (lw_at lw_m5 140 rfl) rfl
theorem q1141 : (Jvm.Cond.fieldLink "PageBanksModel" (38 : Nat) "PageBanksModel" "reserves" "[I") ∈ lw_all := lw_g (lw_at lw_m5 141 rfl) rfl
theorem q1142 : (Jvm.Cond.fieldLink "PageBanksModel" (41 : Nat) "PageBanksModel" "refusedBy" "I") ∈ lw_all := lw_g (lw_at lw_m5 142 rfl) rfl
theorem q1143 : (Jvm.Cond.lays "PageBanksModel" "PageBanksModel" "code" "I") ∈ lw_all := lw_g (lw_at lw_m5 143 rfl) rfl
theorem q1144 : (Jvm.Cond.soleField "PageBanksModel" "code") ∈ lw_all := lw_g (lw_at lw_m5 144 rfl) rfl
theorem q1145 : (Jvm.Cond.laysFinal "PageBanksModel" "PageBanksModel" "owners" "[I") ∈ lw_all := lw_g (lw_at lw_m5 145 rfl) rfl
theorem q1146 : (Jvm.Cond.soleField "PageBanksModel" "owners") ∈ lw_all := lw_g (lw_at lw_m5 146 rfl) rfl
theorem q1147 : (Jvm.Cond.laysFinal "PageBanksModel" "PageBanksModel" "versions" "[I") ∈ lw_all := lw_g (lw_at lw_m5 147 rfl) rfl
theorem q1148 : (Jvm.Cond.soleField "PageBanksModel" "versions") ∈ lw_all := lw_g (lw_at lw_m5 148 rfl) rfl
theorem q1149 : (Jvm.Cond.laysFinal "PageBanksModel" "PageBanksModel" "runs" "[I") ∈ lw_all := lw_g (lw_at lw_m5 149 rfl) rfl
theorem q1150 : (Jvm.Cond.soleField "PageBanksModel" "runs") ∈ lw_all := lw_g (lw_at lw_m5 150 rfl) rfl
theorem q1151 : (Jvm.Cond.laysFinal "PageBanksModel" "PageBanksModel" "stamps" "[I") ∈ lw_all := lw_g (lw_at lw_m5 151 rfl) rfl
theorem q1152 : (Jvm.Cond.soleField "PageBanksModel" "stamps") ∈ lw_all := lw_g (lw_at lw_m5 152 rfl) rfl
theorem q1153 : (Jvm.Cond.laysFinal "PageBanksModel" "PageBanksModel" "words" "[I") ∈ lw_all := lw_g (lw_at lw_m5 153 rfl) rfl
theorem q1154 : (Jvm.Cond.soleField "PageBanksModel" "words") ∈ lw_all := lw_g (lw_at lw_m5 154 rfl) rfl
theorem q1155 : (Jvm.Cond.lays "PageBanksModel" "PageBanksModel" "runCount" "I") ∈ lw_all := lw_g (lw_at lw_m5 155 rfl) rfl
theorem q1156 : (Jvm.Cond.soleField "PageBanksModel" "runCount") ∈ lw_all := lw_g (lw_at lw_m5 156 rfl) rfl
theorem q1157 : (Jvm.Cond.lays "PageBanksModel" "PageBanksModel" "stampCount" "I") ∈ lw_all := lw_g (lw_at lw_m5 157 rfl) rfl
theorem q1158 : (Jvm.Cond.soleField "PageBanksModel" "stampCount") ∈ lw_all := lw_g (lw_at lw_m5 158 rfl) rfl
theorem q1159 : (Jvm.Cond.laysFinal "PageBanksModel" "PageBanksModel" "there" "[Z") ∈ lw_all := lw_g (lw_at lw_m5 159 rfl) rfl
theorem q1160 : (Jvm.Cond.soleField "PageBanksModel" "there") ∈ lw_all := lw_g (lw_at lw_m5 160 rfl) rfl
theorem q1161 : (Jvm.Cond.laysFinal "PageBanksModel" "PageBanksModel" "parents" "[I") ∈ lw_all := lw_g (lw_at lw_m5 161 rfl) rfl
theorem q1162 : (Jvm.Cond.soleField "PageBanksModel" "parents") ∈ lw_all := lw_g (lw_at lw_m5 162 rfl) rfl
theorem q1163 : (Jvm.Cond.laysFinal "PageBanksModel" "PageBanksModel" "limits" "[I") ∈ lw_all := lw_g (lw_at lw_m5 163 rfl) rfl
theorem q1164 : (Jvm.Cond.soleField "PageBanksModel" "limits") ∈ lw_all := lw_g (lw_at lw_m5 164 rfl) rfl
theorem q1165 : (Jvm.Cond.laysFinal "PageBanksModel" "PageBanksModel" "states" "[I") ∈ lw_all := lw_g (lw_at lw_m5 165 rfl) rfl
theorem q1166 : (Jvm.Cond.soleField "PageBanksModel" "states") ∈ lw_all := lw_g (lw_at lw_m5 166 rfl) rfl
theorem q1167 : (Jvm.Cond.laysFinal "PageBanksModel" "PageBanksModel" "reserves" "[I") ∈ lw_all := lw_g (lw_at lw_m5 167 rfl) rfl
theorem q1168 : (Jvm.Cond.soleField "PageBanksModel" "reserves") ∈ lw_all := lw_g (lw_at lw_m5 168 rfl) rfl
theorem q1169 : (Jvm.Cond.lays "PageBanksModel" "PageBanksModel" "refusedBy" "I") ∈ lw_all := lw_g (lw_at lw_m5 169 rfl) rfl
theorem q1170 : (Jvm.Cond.soleField "PageBanksModel" "refusedBy") ∈ lw_all := lw_g (lw_at lw_m5 170 rfl) rfl
theorem q1171 : (Jvm.Cond.superclass "PageBanksModel" "java/lang/Object") ∈ lw_all := lw_g (lw_at lw_m5 171 rfl) rfl
theorem q1174 : (Jvm.Cond.instanceMethod ({ cls := "PageBanksModel", name := "thrown", desc := "()I" } : Jvm.MethodName)) ∈ lw_all := lw_g (lw_at lw_m5 174 rfl) rfl
theorem q1175 : (Jvm.Cond.selects "PageBanksModel" ({ cls := "PageBanksModel", name := "thrown", desc := "()I" } : Jvm.MethodName) ({ cls := "PageBanksModel", name := "thrown", desc := "()I" } : Jvm.MethodName)) ∈ lw_all := lw_g (lw_at lw_m5 175 rfl) rfl
theorem q1176 : (Jvm.Cond.code ({ cls := "PageBanksModel", name := "thrown", desc := "()I" } : Jvm.MethodName) prog_18_method_2_code (1 : Nat) (Option.some Jvm.ClassFile.FieldType.int)) ∈ lw_all := lw_g (lw_at lw_m5 176 rfl) rfl
theorem q1178 : (Jvm.Cond.instanceMethod ({ cls := "PageBanksModel", name := "bank", desc := "(II)I" } : Jvm.MethodName)) ∈ lw_all := lw_g (lw_at lw_m5 178 rfl) rfl
theorem q1179 : (Jvm.Cond.selects "PageBanksModel" ({ cls := "PageBanksModel", name := "bank", desc := "(II)I" } : Jvm.MethodName) ({ cls := "PageBanksModel", name := "bank", desc := "(II)I" } : Jvm.MethodName)) ∈ lw_all := lw_g (lw_at lw_m5 179 rfl) rfl
theorem q1180 : (Jvm.Cond.code ({ cls := "PageBanksModel", name := "bank", desc := "(II)I" } : Jvm.MethodName) prog_18_method_12_code (4 : Nat) (Option.some Jvm.ClassFile.FieldType.int)) ∈ lw_all := lw_g (lw_at lw_m5 180 rfl) rfl
theorem q1181 : (Jvm.Cond.methodLink "PageBanksModel" (63 : Nat) ({ cls := "PageBanksModel", name := "isBank", desc := "(I)Z" } : Jvm.MethodName)) ∈ lw_all := lw_g (lw_at lw_m5 181 rfl) rfl
theorem q1182 : (Jvm.Cond.privateMethod ({ cls := "PageBanksModel", name := "isBank", desc := "(I)Z" } : Jvm.MethodName)) ∈ lw_tbl := lw_at lw_m5 182 rfl
theorem q1183 : (Jvm.Cond.instanceMethod ({ cls := "PageBanksModel", name := "isBank", desc := "(I)Z" } : Jvm.MethodName)) ∈ lw_all := lw_g (lw_at lw_m5 183 rfl) rfl
theorem q1184 : (Jvm.Cond.code ({ cls := "PageBanksModel", name := "isBank", desc := "(I)Z" } : Jvm.MethodName) prog_18_method_4_code (2 : Nat) (Option.some Jvm.ClassFile.FieldType.boolean)) ∈ lw_all := lw_g (lw_at lw_m5 184 rfl) rfl
theorem q1185 : (Jvm.Cond.methodLink "PageBanksModel" (48 : Nat) ({ cls := "PageBanksModel", name := "in", desc := "(III)Z" } : Jvm.MethodName)) ∈ lw_all := lw_g (lw_at lw_m5 185 rfl) rfl
theorem q1186 : (Jvm.Cond.static ({ cls := "PageBanksModel", name := "in", desc := "(III)Z" } : Jvm.MethodName)) ∈ lw_all := lw_g (lw_at lw_m5 186 rfl) rfl
theorem q1187 : (Jvm.Cond.code ({ cls := "PageBanksModel", name := "in", desc := "(III)Z" } : Jvm.MethodName) prog_18_method_3_code (3 : Nat) (Option.some Jvm.ClassFile.FieldType.boolean)) ∈ lw_all := lw_g (lw_at lw_m5 187 rfl) rfl
theorem q1188 : (Jvm.Cond.methodLink "PageBanksModel" (67 : Nat) ({ cls := "PageBanksModel", name := "isOpen", desc := "(I)Z" } : Jvm.MethodName)) ∈ lw_all := lw_g (lw_at lw_m5 188 rfl) rfl
theorem q1189 : (Jvm.Cond.privateMethod ({ cls := "PageBanksModel", name := "isOpen", desc := "(I)Z" } : Jvm.MethodName)) ∈ lw_tbl := lw_at lw_m5 189 rfl
theorem q1190 : (Jvm.Cond.instanceMethod ({ cls := "PageBanksModel", name := "isOpen", desc := "(I)Z" } : Jvm.MethodName)) ∈ lw_all := lw_g (lw_at lw_m5 190 rfl) rfl
theorem q1191 : (Jvm.Cond.code ({ cls := "PageBanksModel", name := "isOpen", desc := "(I)Z" } : Jvm.MethodName) prog_18_method_10_code (2 : Nat) (Option.some Jvm.ClassFile.FieldType.boolean)) ∈ lw_all := lw_g (lw_at lw_m5 191 rfl) rfl
theorem q1192 : (Jvm.Cond.methodLink "PageBanksModel" (70 : Nat) ({ cls := "PageBanksModel", name := "depthOf", desc := "(I)I" } : Jvm.MethodName)) ∈ lw_all := lw_g (lw_at lw_m5 192 rfl) rfl
theorem q1193 : (Jvm.Cond.privateMethod ({ cls := "PageBanksModel", name := "depthOf", desc := "(I)I" } : Jvm.MethodName)) ∈ lw_tbl := lw_at lw_m5 193 rfl
theorem q1194 : (Jvm.Cond.instanceMethod ({ cls := "PageBanksModel", name := "depthOf", desc := "(I)I" } : Jvm.MethodName)) ∈ lw_all := lw_g (lw_at lw_m5 194 rfl) rfl
theorem q1195 : (Jvm.Cond.code ({ cls := "PageBanksModel", name := "depthOf", desc := "(I)I" } : Jvm.MethodName) prog_18_method_6_code (4 : Nat) (Option.some Jvm.ClassFile.FieldType.int)) ∈ lw_all := lw_g (lw_at lw_m5 195 rfl) rfl
theorem q1196 : (Jvm.Cond.methodLink "PageBanksModel" (73 : Nat) ({ cls := "PageBanksModel", name := "unsupported", desc := "(II)I" } : Jvm.MethodName)) ∈ lw_all := lw_g (lw_at lw_m5 196 rfl) rfl
theorem q1197 : (Jvm.Cond.privateMethod ({ cls := "PageBanksModel", name := "unsupported", desc := "(II)I" } : Jvm.MethodName)) ∈ lw_tbl := lw_at lw_m5 197 rfl
theorem q1198 : (Jvm.Cond.instanceMethod ({ cls := "PageBanksModel", name := "unsupported", desc := "(II)I" } : Jvm.MethodName)) ∈ lw_all := lw_g (lw_at lw_m5 198 rfl) rfl
theorem q1199 : (Jvm.Cond.code ({ cls := "PageBanksModel", name := "unsupported", desc := "(II)I" } : Jvm.MethodName) prog_18_method_11_code (3 : Nat) (Option.some Jvm.ClassFile.FieldType.int)) ∈ lw_all := lw_g (lw_at lw_m5 199 rfl) rfl
theorem q1201 : (Jvm.Cond.instanceMethod ({ cls := "PageBanksModel", name := "buy", desc := "(I)I" } : Jvm.MethodName)) ∈ lw_all := lw_g (lw_at lw_m5 201 rfl) rfl
theorem q1202 : (Jvm.Cond.selects "PageBanksModel" ({ cls := "PageBanksModel", name := "buy", desc := "(I)I" } : Jvm.MethodName) ({ cls := "PageBanksModel", name := "buy", desc := "(I)I" } : Jvm.MethodName)) ∈ lw_all := lw_g (lw_at lw_m5 202 rfl) rfl
theorem q1203 : (Jvm.Cond.code ({ cls := "PageBanksModel", name := "buy", desc := "(I)I" } : Jvm.MethodName) prog_18_method_18_code (2 : Nat) (Option.some Jvm.ClassFile.FieldType.int)) ∈ lw_all := lw_g (lw_at lw_m5 203 rfl) rfl
theorem q1204 : (Jvm.Cond.methodLink "PageBanksModel" (99 : Nat) ({ cls := "PageBanksModel", name := "bought", desc := "(III)I" } : Jvm.MethodName)) ∈ lw_all := lw_g (lw_at lw_m5 204 rfl) rfl
theorem q1205 : (Jvm.Cond.privateMethod ({ cls := "PageBanksModel", name := "bought", desc := "(III)I" } : Jvm.MethodName)) ∈ lw_tbl := lw_at lw_m5 205 rfl
theorem q1206 : (Jvm.Cond.instanceMethod ({ cls := "PageBanksModel", name := "bought", desc := "(III)I" } : Jvm.MethodName)) ∈ lw_all := lw_g (lw_at lw_m5 206 rfl) rfl
theorem q1207 : (Jvm.Cond.code ({ cls := "PageBanksModel", name := "bought", desc := "(III)I" } : Jvm.MethodName) prog_18_method_17_code (9 : Nat) (Option.some Jvm.ClassFile.FieldType.int)) ∈ lw_all := lw_g (lw_at lw_m5 207 rfl) rfl
theorem q1208 : (Jvm.Cond.methodLink "PageBanksModel" (83 : Nat) ({ cls := "PageBanksModel", name := "refuser", desc := "(II)I" } : Jvm.MethodName)) ∈ lw_all := lw_g (lw_at lw_m5 208 rfl) rfl
theorem q1209 : (Jvm.Cond.privateMethod ({ cls := "PageBanksModel", name := "refuser", desc := "(II)I" } : Jvm.MethodName)) ∈ lw_tbl := lw_at lw_m5 209 rfl
theorem q1210 : (Jvm.Cond.instanceMethod ({ cls := "PageBanksModel", name := "refuser", desc := "(II)I" } : Jvm.MethodName)) ∈ lw_all := lw_g (lw_at lw_m5 210 rfl) rfl
theorem q1211 : (Jvm.Cond.code ({ cls := "PageBanksModel", name := "refuser", desc := "(II)I" } : Jvm.MethodName) prog_18_method_9_code (4 : Nat) (Option.some Jvm.ClassFile.FieldType.int)) ∈ lw_all := lw_g (lw_at lw_m5 211 rfl) rfl
theorem q1212 : (Jvm.Cond.methodLink "PageBanksModel" (60 : Nat) ({ cls := "PageBanksModel", name := "useOf", desc := "(I)I" } : Jvm.MethodName)) ∈ lw_all := lw_g (lw_at lw_m5 212 rfl) rfl
theorem q1213 : (Jvm.Cond.privateMethod ({ cls := "PageBanksModel", name := "useOf", desc := "(I)I" } : Jvm.MethodName)) ∈ lw_tbl := lw_at lw_m5 213 rfl
theorem q1214 : (Jvm.Cond.instanceMethod ({ cls := "PageBanksModel", name := "useOf", desc := "(I)I" } : Jvm.MethodName)) ∈ lw_all := lw_g (lw_at lw_m5 214 rfl) rfl
theorem q1215 : (Jvm.Cond.code ({ cls := "PageBanksModel", name := "useOf", desc := "(I)I" } : Jvm.MethodName) prog_18_method_8_code (4 : Nat) (Option.some Jvm.ClassFile.FieldType.int)) ∈ lw_all := lw_g (lw_at lw_m5 215 rfl) rfl
theorem q1216 : (Jvm.Cond.methodLink "PageBanksModel" (52 : Nat) ({ cls := "PageBanksModel", name := "isUnder", desc := "(II)Z" } : Jvm.MethodName)) ∈ lw_all := lw_g (lw_at lw_m5 216 rfl) rfl
theorem q1217 : (Jvm.Cond.privateMethod ({ cls := "PageBanksModel", name := "isUnder", desc := "(II)Z" } : Jvm.MethodName)) ∈ lw_tbl := lw_at lw_m5 217 rfl
theorem q1218 : (Jvm.Cond.instanceMethod ({ cls := "PageBanksModel", name := "isUnder", desc := "(II)Z" } : Jvm.MethodName)) ∈ lw_all := lw_g (lw_at lw_m5 218 rfl) rfl
theorem q1219 : (Jvm.Cond.code ({ cls := "PageBanksModel", name := "isUnder", desc := "(II)Z" } : Jvm.MethodName) prog_18_method_5_code (4 : Nat) (Option.some Jvm.ClassFile.FieldType.boolean)) ∈ lw_all := lw_g (lw_at lw_m5 219 rfl) rfl
theorem q1220 : (Jvm.Cond.methodLink "PageBanksModel" (56 : Nat) ({ cls := "PageBanksModel", name := "owned", desc := "(I)I" } : Jvm.MethodName)) ∈ lw_all := lw_g (lw_at lw_m5 220 rfl) rfl
theorem q1221 : (Jvm.Cond.privateMethod ({ cls := "PageBanksModel", name := "owned", desc := "(I)I" } : Jvm.MethodName)) ∈ lw_tbl := lw_at lw_m5 221 rfl
theorem q1222 : (Jvm.Cond.instanceMethod ({ cls := "PageBanksModel", name := "owned", desc := "(I)I" } : Jvm.MethodName)) ∈ lw_all := lw_g (lw_at lw_m5 222 rfl) rfl
theorem q1223 : (Jvm.Cond.code ({ cls := "PageBanksModel", name := "owned", desc := "(I)I" } : Jvm.MethodName) prog_18_method_7_code (4 : Nat) (Option.some Jvm.ClassFile.FieldType.int)) ∈ lw_all := lw_g (lw_at lw_m5 223 rfl) rfl
theorem q1224 : (Jvm.Cond.methodLink "PageBanksModel" (86 : Nat) ({ cls := "PageBanksModel", name := "room", desc := "(I)I" } : Jvm.MethodName)) ∈ lw_all := lw_g (lw_at lw_m5 224 rfl) rfl
theorem q1225 : (Jvm.Cond.privateMethod ({ cls := "PageBanksModel", name := "room", desc := "(I)I" } : Jvm.MethodName)) ∈ lw_tbl := lw_at lw_m5 225 rfl
theorem q1226 : (Jvm.Cond.instanceMethod ({ cls := "PageBanksModel", name := "room", desc := "(I)I" } : Jvm.MethodName)) ∈ lw_all := lw_g (lw_at lw_m5 226 rfl) rfl
theorem q1227 : (Jvm.Cond.code ({ cls := "PageBanksModel", name := "room", desc := "(I)I" } : Jvm.MethodName) prog_18_method_14_code (6 : Nat) (Option.some Jvm.ClassFile.FieldType.int)) ∈ lw_all := lw_g (lw_at lw_m5 227 rfl) rfl
theorem q1228 : (Jvm.Cond.methodLink "PageBanksModel" (77 : Nat) ({ cls := "PageBanksModel", name := "isFree", desc := "(I)Z" } : Jvm.MethodName)) ∈ lw_all := lw_g (lw_at lw_m5 228 rfl) rfl
theorem q1229 : (Jvm.Cond.privateMethod ({ cls := "PageBanksModel", name := "isFree", desc := "(I)Z" } : Jvm.MethodName)) ∈ lw_tbl := lw_at lw_m5 229 rfl
theorem q1230 : (Jvm.Cond.instanceMethod ({ cls := "PageBanksModel", name := "isFree", desc := "(I)Z" } : Jvm.MethodName)) ∈ lw_all := lw_g (lw_at lw_m5 230 rfl) rfl
theorem q1231 : (Jvm.Cond.code ({ cls := "PageBanksModel", name := "isFree", desc := "(I)Z" } : Jvm.MethodName) prog_18_method_13_code (2 : Nat) (Option.some Jvm.ClassFile.FieldType.boolean)) ∈ lw_all := lw_g (lw_at lw_m5 231 rfl) rfl
theorem q1232 : (Jvm.Cond.methodLink "PageBanksModel" (92 : Nat) ({ cls := "PageBanksModel", name := "own", desc := "(II)V" } : Jvm.MethodName)) ∈ lw_all := lw_g (lw_at lw_m5 232 rfl) rfl
theorem q1233 : (Jvm.Cond.privateMethod ({ cls := "PageBanksModel", name := "own", desc := "(II)V" } : Jvm.MethodName)) ∈ lw_tbl := lw_at lw_m5 233 rfl
theorem q1234 : (Jvm.Cond.instanceMethod ({ cls := "PageBanksModel", name := "own", desc := "(II)V" } : Jvm.MethodName)) ∈ lw_all := lw_g (lw_at lw_m5 234 rfl) rfl
theorem q1235 : (Jvm.Cond.code ({ cls := "PageBanksModel", name := "own", desc := "(II)V" } : Jvm.MethodName) prog_18_method_16_code (3 : Nat) (Option.none : Option Jvm.ClassFile.FieldType)) ∈ lw_all := lw_g (lw_at lw_m5 235 rfl) rfl
theorem q1236 : (Jvm.Cond.methodLink "PageBanksModel" (96 : Nat) ({ cls := "PageBanksModel", name := "keyOf", desc := "(II)I" } : Jvm.MethodName)) ∈ lw_all := lw_g (lw_at lw_m5 236 rfl) rfl
theorem q1237 : (Jvm.Cond.static ({ cls := "PageBanksModel", name := "keyOf", desc := "(II)I" } : Jvm.MethodName)) ∈ lw_all := lw_g (lw_at lw_m5 237 rfl) rfl
theorem q1238 : (Jvm.Cond.code ({ cls := "PageBanksModel", name := "keyOf", desc := "(II)I" } : Jvm.MethodName) prog_18_method_15_code (2 : Nat) (Option.some Jvm.ClassFile.FieldType.int)) ∈ lw_all := lw_g (lw_at lw_m5 238 rfl) rfl
theorem q1240 : (Jvm.Cond.instanceMethod ({ cls := "PageBanksModel", name := "buyRun", desc := "(II)I" } : Jvm.MethodName)) ∈ lw_all := lw_g (lw_at lw_m6 0 rfl) rfl
theorem q1241 : (Jvm.Cond.selects "PageBanksModel" ({ cls := "PageBanksModel", name := "buyRun", desc := "(II)I" } : Jvm.MethodName) ({ cls := "PageBanksModel", name := "buyRun", desc := "(II)I" } : Jvm.MethodName)) ∈ lw_all := lw_g (lw_at lw_m6 1 rfl) rfl
theorem q1242 : (Jvm.Cond.code ({ cls := "PageBanksModel", name := "buyRun", desc := "(II)I" } : Jvm.MethodName) prog_18_method_19_code (3 : Nat) (Option.some Jvm.ClassFile.FieldType.int)) ∈ lw_all := lw_g (lw_at lw_m6 2 rfl) rfl
theorem q1244 : (Jvm.Cond.instanceMethod ({ cls := "PageBanksModel", name := "runKey", desc := "(II)I" } : Jvm.MethodName)) ∈ lw_all := lw_g (lw_at lw_m6 4 rfl) rfl
theorem q1245 : (Jvm.Cond.selects "PageBanksModel" ({ cls := "PageBanksModel", name := "runKey", desc := "(II)I" } : Jvm.MethodName) ({ cls := "PageBanksModel", name := "runKey", desc := "(II)I" } : Jvm.MethodName)) ∈ lw_all := lw_g (lw_at lw_m6 5 rfl) rfl
theorem q1246 : (Jvm.Cond.code ({ cls := "PageBanksModel", name := "runKey", desc := "(II)I" } : Jvm.MethodName) prog_18_method_23_code (5 : Nat) (Option.some Jvm.ClassFile.FieldType.int)) ∈ lw_all := lw_g (lw_at lw_m6 6 rfl) rfl
theorem q1247 : (Jvm.Cond.methodLink "PageBanksModel" (106 : Nat) ({ cls := "PageBanksModel", name := "lives", desc := "(I)Z" } : Jvm.MethodName)) ∈ lw_all := lw_g (lw_at lw_m6 7 rfl) rfl
theorem q1248 : (Jvm.Cond.privateMethod ({ cls := "PageBanksModel", name := "lives", desc := "(I)Z" } : Jvm.MethodName)) ∈ lw_tbl := lw_at lw_m6 8 rfl
theorem q1249 : (Jvm.Cond.instanceMethod ({ cls := "PageBanksModel", name := "lives", desc := "(I)Z" } : Jvm.MethodName)) ∈ lw_all := lw_g (lw_at lw_m6 9 rfl) rfl
theorem q1250 : (Jvm.Cond.code ({ cls := "PageBanksModel", name := "lives", desc := "(I)Z" } : Jvm.MethodName) prog_18_method_22_code (3 : Nat) (Option.some Jvm.ClassFile.FieldType.boolean)) ∈ lw_all := lw_g (lw_at lw_m6 10 rfl) rfl
theorem q1251 : (Jvm.Cond.methodLink "PageBanksModel" (103 : Nat) ({ cls := "PageBanksModel", name := "placeOf", desc := "(I)I" } : Jvm.MethodName)) ∈ lw_all := lw_g (lw_at lw_m6 11 rfl) rfl
theorem q1252 : (Jvm.Cond.static ({ cls := "PageBanksModel", name := "placeOf", desc := "(I)I" } : Jvm.MethodName)) ∈ lw_all := lw_g (lw_at lw_m6 12 rfl) rfl
theorem q1253 : (Jvm.Cond.code ({ cls := "PageBanksModel", name := "placeOf", desc := "(I)I" } : Jvm.MethodName) prog_18_method_20_code (1 : Nat) (Option.some Jvm.ClassFile.FieldType.int)) ∈ lw_all := lw_g (lw_at lw_m6 13 rfl) rfl
theorem q1254 : (Jvm.Cond.methodLink "PageBanksModel" (109 : Nat) ({ cls := "PageBanksModel", name := "isWeak", desc := "(I)Z" } : Jvm.MethodName)) ∈ lw_all := lw_g (lw_at lw_m6 14 rfl) rfl
theorem q1255 : (Jvm.Cond.static ({ cls := "PageBanksModel", name := "isWeak", desc := "(I)Z" } : Jvm.MethodName)) ∈ lw_all := lw_g (lw_at lw_m6 15 rfl) rfl
theorem q1256 : (Jvm.Cond.code ({ cls := "PageBanksModel", name := "isWeak", desc := "(I)Z" } : Jvm.MethodName) prog_18_method_21_code (1 : Nat) (Option.some Jvm.ClassFile.FieldType.boolean)) ∈ lw_all := lw_g (lw_at lw_m6 16 rfl) rfl
theorem q1258 : (Jvm.Cond.instanceMethod ({ cls := "PageBanksModel", name := "sell", desc := "(I)I" } : Jvm.MethodName)) ∈ lw_all := lw_g (lw_at lw_m6 18 rfl) rfl
theorem q1259 : (Jvm.Cond.selects "PageBanksModel" ({ cls := "PageBanksModel", name := "sell", desc := "(I)I" } : Jvm.MethodName) ({ cls := "PageBanksModel", name := "sell", desc := "(I)I" } : Jvm.MethodName)) ∈ lw_all := lw_g (lw_at lw_m6 19 rfl) rfl
theorem q1260 : (Jvm.Cond.code ({ cls := "PageBanksModel", name := "sell", desc := "(I)I" } : Jvm.MethodName) prog_18_method_24_code (3 : Nat) (Option.some Jvm.ClassFile.FieldType.int)) ∈ lw_all := lw_g (lw_at lw_m6 20 rfl) rfl
theorem q1262 : (Jvm.Cond.instanceMethod ({ cls := "PageBanksModel", name := "weak", desc := "(I)I" } : Jvm.MethodName)) ∈ lw_all := lw_g (lw_at lw_m6 22 rfl) rfl
theorem q1263 : (Jvm.Cond.selects "PageBanksModel" ({ cls := "PageBanksModel", name := "weak", desc := "(I)I" } : Jvm.MethodName) ({ cls := "PageBanksModel", name := "weak", desc := "(I)I" } : Jvm.MethodName)) ∈ lw_all := lw_g (lw_at lw_m6 23 rfl) rfl
theorem q1264 : (Jvm.Cond.code ({ cls := "PageBanksModel", name := "weak", desc := "(I)I" } : Jvm.MethodName) prog_18_method_25_code (2 : Nat) (Option.some Jvm.ClassFile.FieldType.int)) ∈ lw_all := lw_g (lw_at lw_m6 24 rfl) rfl
theorem q1266 : (Jvm.Cond.instanceMethod ({ cls := "PageBanksModel", name := "read", desc := "(II)I" } : Jvm.MethodName)) ∈ lw_all := lw_g (lw_at lw_m6 26 rfl) rfl
theorem q1267 : (Jvm.Cond.selects "PageBanksModel" ({ cls := "PageBanksModel", name := "read", desc := "(II)I" } : Jvm.MethodName) ({ cls := "PageBanksModel", name := "read", desc := "(II)I" } : Jvm.MethodName)) ∈ lw_all := lw_g (lw_at lw_m6 27 rfl) rfl
theorem q1268 : (Jvm.Cond.code ({ cls := "PageBanksModel", name := "read", desc := "(II)I" } : Jvm.MethodName) prog_18_method_26_code (3 : Nat) (Option.some Jvm.ClassFile.FieldType.int)) ∈ lw_all := lw_g (lw_at lw_m6 28 rfl) rfl
theorem q1270 : (Jvm.Cond.instanceMethod ({ cls := "PageBanksModel", name := "write", desc := "(III)I" } : Jvm.MethodName)) ∈ lw_all := lw_g (lw_at lw_m6 30 rfl) rfl
theorem q1271 : (Jvm.Cond.selects "PageBanksModel" ({ cls := "PageBanksModel", name := "write", desc := "(III)I" } : Jvm.MethodName) ({ cls := "PageBanksModel", name := "write", desc := "(III)I" } : Jvm.MethodName)) ∈ lw_all := lw_g (lw_at lw_m6 31 rfl) rfl
theorem q1272 : (Jvm.Cond.code ({ cls := "PageBanksModel", name := "write", desc := "(III)I" } : Jvm.MethodName) prog_18_method_27_code (6 : Nat) (Option.some Jvm.ClassFile.FieldType.int)) ∈ lw_all := lw_g (lw_at lw_m6 32 rfl) rfl
theorem q1274 : (Jvm.Cond.instanceMethod ({ cls := "PageBanksModel", name := "move", desc := "(II)I" } : Jvm.MethodName)) ∈ lw_all := lw_g (lw_at lw_m6 34 rfl) rfl
theorem q1275 : (Jvm.Cond.selects "PageBanksModel" ({ cls := "PageBanksModel", name := "move", desc := "(II)I" } : Jvm.MethodName) ({ cls := "PageBanksModel", name := "move", desc := "(II)I" } : Jvm.MethodName)) ∈ lw_all := lw_g (lw_at lw_m6 35 rfl) rfl
theorem q1276 : (Jvm.Cond.code ({ cls := "PageBanksModel", name := "move", desc := "(II)I" } : Jvm.MethodName) prog_18_method_28_code (6 : Nat) (Option.some Jvm.ClassFile.FieldType.int)) ∈ lw_all := lw_g (lw_at lw_m6 36 rfl) rfl
theorem q1278 : (Jvm.Cond.instanceMethod ({ cls := "PageBanksModel", name := "limit", desc := "(II)I" } : Jvm.MethodName)) ∈ lw_all := lw_g (lw_at lw_m6 38 rfl) rfl
theorem q1279 : (Jvm.Cond.selects "PageBanksModel" ({ cls := "PageBanksModel", name := "limit", desc := "(II)I" } : Jvm.MethodName) ({ cls := "PageBanksModel", name := "limit", desc := "(II)I" } : Jvm.MethodName)) ∈ lw_all := lw_g (lw_at lw_m6 39 rfl) rfl
theorem q1280 : (Jvm.Cond.code ({ cls := "PageBanksModel", name := "limit", desc := "(II)I" } : Jvm.MethodName) prog_18_method_29_code (4 : Nat) (Option.some Jvm.ClassFile.FieldType.int)) ∈ lw_all := lw_g (lw_at lw_m6 40 rfl) rfl
theorem q1282 : (Jvm.Cond.instanceMethod ({ cls := "PageBanksModel", name := "reserve", desc := "(II)I" } : Jvm.MethodName)) ∈ lw_all := lw_g (lw_at lw_m6 42 rfl) rfl
theorem q1283 : (Jvm.Cond.selects "PageBanksModel" ({ cls := "PageBanksModel", name := "reserve", desc := "(II)I" } : Jvm.MethodName) ({ cls := "PageBanksModel", name := "reserve", desc := "(II)I" } : Jvm.MethodName)) ∈ lw_all := lw_g (lw_at lw_m6 43 rfl) rfl
theorem q1284 : (Jvm.Cond.code ({ cls := "PageBanksModel", name := "reserve", desc := "(II)I" } : Jvm.MethodName) prog_18_method_30_code (4 : Nat) (Option.some Jvm.ClassFile.FieldType.int)) ∈ lw_all := lw_g (lw_at lw_m6 44 rfl) rfl
theorem q1286 : (Jvm.Cond.instanceMethod ({ cls := "PageBanksModel", name := "unreserve", desc := "(II)I" } : Jvm.MethodName)) ∈ lw_all := lw_g (lw_at lw_m6 46 rfl) rfl
theorem q1287 : (Jvm.Cond.selects "PageBanksModel" ({ cls := "PageBanksModel", name := "unreserve", desc := "(II)I" } : Jvm.MethodName) ({ cls := "PageBanksModel", name := "unreserve", desc := "(II)I" } : Jvm.MethodName)) ∈ lw_all := lw_g (lw_at lw_m6 47 rfl) rfl
theorem q1288 : (Jvm.Cond.code ({ cls := "PageBanksModel", name := "unreserve", desc := "(II)I" } : Jvm.MethodName) prog_18_method_31_code (3 : Nat) (Option.some Jvm.ClassFile.FieldType.int)) ∈ lw_all := lw_g (lw_at lw_m6 48 rfl) rfl
theorem q1290 : (Jvm.Cond.instanceMethod ({ cls := "PageBanksModel", name := "freeze", desc := "(IZ)Z" } : Jvm.MethodName)) ∈ lw_all := lw_g (lw_at lw_m6 50 rfl) rfl
theorem q1291 : (Jvm.Cond.selects "PageBanksModel" ({ cls := "PageBanksModel", name := "freeze", desc := "(IZ)Z" } : Jvm.MethodName) ({ cls := "PageBanksModel", name := "freeze", desc := "(IZ)Z" } : Jvm.MethodName)) ∈ lw_all := lw_g (lw_at lw_m6 51 rfl) rfl
theorem q1292 : (Jvm.Cond.code ({ cls := "PageBanksModel", name := "freeze", desc := "(IZ)Z" } : Jvm.MethodName) prog_18_method_33_code (4 : Nat) (Option.some Jvm.ClassFile.FieldType.boolean)) ∈ lw_all := lw_g (lw_at lw_m6 52 rfl) rfl
theorem q1293 : (Jvm.Cond.methodLink "PageBanksModel" (112 : Nat) ({ cls := "PageBanksModel", name := "wrong", desc := "(I)I" } : Jvm.MethodName)) ∈ lw_all := lw_g (lw_at lw_m6 53 rfl) rfl
theorem q1294 : (Jvm.Cond.privateMethod ({ cls := "PageBanksModel", name := "wrong", desc := "(I)I" } : Jvm.MethodName)) ∈ lw_tbl := lw_at lw_m6 54 rfl
theorem q1295 : (Jvm.Cond.instanceMethod ({ cls := "PageBanksModel", name := "wrong", desc := "(I)I" } : Jvm.MethodName)) ∈ lw_all := lw_g (lw_at lw_m6 55 rfl) rfl
theorem q1296 : (Jvm.Cond.code ({ cls := "PageBanksModel", name := "wrong", desc := "(I)I" } : Jvm.MethodName) prog_18_method_32_code (2 : Nat) (Option.some Jvm.ClassFile.FieldType.int)) ∈ lw_all := lw_g (lw_at lw_m6 56 rfl) rfl
theorem q1298 : (Jvm.Cond.instanceMethod ({ cls := "PageBanksModel", name := "destroy", desc := "(I)I" } : Jvm.MethodName)) ∈ lw_all := lw_g (lw_at lw_m6 58 rfl) rfl
theorem q1299 : (Jvm.Cond.selects "PageBanksModel" ({ cls := "PageBanksModel", name := "destroy", desc := "(I)I" } : Jvm.MethodName) ({ cls := "PageBanksModel", name := "destroy", desc := "(I)I" } : Jvm.MethodName)) ∈ lw_all := lw_g (lw_at lw_m6 59 rfl) rfl
theorem q1300 : (Jvm.Cond.code ({ cls := "PageBanksModel", name := "destroy", desc := "(I)I" } : Jvm.MethodName) prog_18_method_38_code (3 : Nat) (Option.some Jvm.ClassFile.FieldType.int)) ∈ lw_all := lw_g (lw_at lw_m6 60 rfl) rfl
theorem q1301 : (Jvm.Cond.methodLink "PageBanksModel" (121 : Nat) ({ cls := "PageBanksModel", name := "clear", desc := "()V" } : Jvm.MethodName)) ∈ lw_all := lw_g (lw_at lw_m6 61 rfl) rfl
theorem q1302 : (Jvm.Cond.privateMethod ({ cls := "PageBanksModel", name := "clear", desc := "()V" } : Jvm.MethodName)) ∈ lw_tbl := lw_at lw_m6 62 rfl
theorem q1303 : (Jvm.Cond.instanceMethod ({ cls := "PageBanksModel", name := "clear", desc := "()V" } : Jvm.MethodName)) ∈ lw_all := lw_g (lw_at lw_m6 63 rfl) rfl
theorem q1304 : (Jvm.Cond.code ({ cls := "PageBanksModel", name := "clear", desc := "()V" } : Jvm.MethodName) prog_18_method_35_code (3 : Nat) (Option.none : Option Jvm.ClassFile.FieldType)) ∈ lw_all := lw_g (lw_at lw_m6 64 rfl) rfl
theorem q1305 : (Jvm.Cond.methodLink "PageBanksModel" (115 : Nat) ({ cls := "PageBanksModel", name := "isParent", desc := "(I)Z" } : Jvm.MethodName)) ∈ lw_all := lw_g (lw_at lw_m6 65 rfl) rfl
theorem q1306 : (Jvm.Cond.privateMethod ({ cls := "PageBanksModel", name := "isParent", desc := "(I)Z" } : Jvm.MethodName)) ∈ lw_tbl := lw_at lw_m6 66 rfl
theorem q1307 : (Jvm.Cond.instanceMethod ({ cls := "PageBanksModel", name := "isParent", desc := "(I)Z" } : Jvm.MethodName)) ∈ lw_all := lw_g (lw_at lw_m6 67 rfl) rfl
theorem q1308 : (Jvm.Cond.code ({ cls := "PageBanksModel", name := "isParent", desc := "(I)Z" } : Jvm.MethodName) prog_18_method_34_code (4 : Nat) (Option.some Jvm.ClassFile.FieldType.boolean)) ∈ lw_all := lw_g (lw_at lw_m6 68 rfl) rfl
theorem q1309 : (Jvm.Cond.methodLink "PageBanksModel" (124 : Nat) ({ cls := "PageBanksModel", name := "toBeFreed", desc := "()I" } : Jvm.MethodName)) ∈ lw_all := lw_g (lw_at lw_m6 69 rfl) rfl
theorem q1310 : (Jvm.Cond.privateMethod ({ cls := "PageBanksModel", name := "toBeFreed", desc := "()I" } : Jvm.MethodName)) ∈ lw_tbl := lw_at lw_m6 70 rfl
theorem q1311 : (Jvm.Cond.instanceMethod ({ cls := "PageBanksModel", name := "toBeFreed", desc := "()I" } : Jvm.MethodName)) ∈ lw_all := lw_g (lw_at lw_m6 71 rfl) rfl
theorem q1312 : (Jvm.Cond.code ({ cls := "PageBanksModel", name := "toBeFreed", desc := "()I" } : Jvm.MethodName) prog_18_method_37_code (3 : Nat) (Option.some Jvm.ClassFile.FieldType.int)) ∈ lw_all := lw_g (lw_at lw_m6 72 rfl) rfl
theorem q1313 : (Jvm.Cond.methodLink "PageBanksModel" (118 : Nat) ({ cls := "PageBanksModel", name := "isToBeFreed", desc := "(I)Z" } : Jvm.MethodName)) ∈ lw_all := lw_g (lw_at lw_m6 73 rfl) rfl
theorem q1314 : (Jvm.Cond.privateMethod ({ cls := "PageBanksModel", name := "isToBeFreed", desc := "(I)Z" } : Jvm.MethodName)) ∈ lw_tbl := lw_at lw_m6 74 rfl
theorem q1315 : (Jvm.Cond.instanceMethod ({ cls := "PageBanksModel", name := "isToBeFreed", desc := "(I)Z" } : Jvm.MethodName)) ∈ lw_all := lw_g (lw_at lw_m6 75 rfl) rfl
theorem q1316 : (Jvm.Cond.code ({ cls := "PageBanksModel", name := "isToBeFreed", desc := "(I)Z" } : Jvm.MethodName) prog_18_method_36_code (2 : Nat) (Option.some Jvm.ClassFile.FieldType.boolean)) ∈ lw_all := lw_g (lw_at lw_m6 76 rfl) rfl
theorem q1318 : (Jvm.Cond.instanceMethod ({ cls := "PageBanksModel", name := "work", desc := "(I)I" } : Jvm.MethodName)) ∈ lw_all := lw_g (lw_at lw_m6 78 rfl) rfl
theorem q1319 : (Jvm.Cond.selects "PageBanksModel" ({ cls := "PageBanksModel", name := "work", desc := "(I)I" } : Jvm.MethodName) ({ cls := "PageBanksModel", name := "work", desc := "(I)I" } : Jvm.MethodName)) ∈ lw_all := lw_g (lw_at lw_m6 79 rfl) rfl
theorem q1320 : (Jvm.Cond.code ({ cls := "PageBanksModel", name := "work", desc := "(I)I" } : Jvm.MethodName) prog_18_method_39_code (4 : Nat) (Option.some Jvm.ClassFile.FieldType.int)) ∈ lw_all := lw_g (lw_at lw_m6 80 rfl) rfl
theorem q1322 : (Jvm.Cond.instanceMethod ({ cls := "PageBanksModel", name := "handUp", desc := "(I)I" } : Jvm.MethodName)) ∈ lw_all := lw_g (lw_at lw_m6 82 rfl) rfl
theorem q1323 : (Jvm.Cond.selects "PageBanksModel" ({ cls := "PageBanksModel", name := "handUp", desc := "(I)I" } : Jvm.MethodName) ({ cls := "PageBanksModel", name := "handUp", desc := "(I)I" } : Jvm.MethodName)) ∈ lw_all := lw_g (lw_at lw_m6 83 rfl) rfl
theorem q1324 : (Jvm.Cond.code ({ cls := "PageBanksModel", name := "handUp", desc := "(I)I" } : Jvm.MethodName) prog_18_method_41_code (5 : Nat) (Option.some Jvm.ClassFile.FieldType.int)) ∈ lw_all := lw_g (lw_at lw_m6 84 rfl) rfl
theorem q1325 : (Jvm.Cond.methodLink "PageBanksModel" (128 : Nat) ({ cls := "PageBanksModel", name := "placeOfPage", desc := "(II)I" } : Jvm.MethodName)) ∈ lw_all := lw_g (lw_at lw_m6 85 rfl) rfl
theorem q1326 : (Jvm.Cond.privateMethod ({ cls := "PageBanksModel", name := "placeOfPage", desc := "(II)I" } : Jvm.MethodName)) ∈ lw_tbl := lw_at lw_m6 86 rfl
theorem q1327 : (Jvm.Cond.instanceMethod ({ cls := "PageBanksModel", name := "placeOfPage", desc := "(II)I" } : Jvm.MethodName)) ∈ lw_all := lw_g (lw_at lw_m6 87 rfl) rfl
theorem q1328 : (Jvm.Cond.code ({ cls := "PageBanksModel", name := "placeOfPage", desc := "(II)I" } : Jvm.MethodName) prog_18_method_40_code (7 : Nat) (Option.some Jvm.ClassFile.FieldType.int)) ∈ lw_all := lw_g (lw_at lw_m6 88 rfl) rfl
theorem q1330 : (Jvm.Cond.instanceMethod ({ cls := "PageBanksModel", name := "told", desc := "(II)I" } : Jvm.MethodName)) ∈ lw_all := lw_g (lw_at lw_m6 90 rfl) rfl
theorem q1331 : (Jvm.Cond.selects "PageBanksModel" ({ cls := "PageBanksModel", name := "told", desc := "(II)I" } : Jvm.MethodName) ({ cls := "PageBanksModel", name := "told", desc := "(II)I" } : Jvm.MethodName)) ∈ lw_all := lw_g (lw_at lw_m6 91 rfl) rfl
theorem q1332 : (Jvm.Cond.code ({ cls := "PageBanksModel", name := "told", desc := "(II)I" } : Jvm.MethodName) prog_18_method_43_code (3 : Nat) (Option.some Jvm.ClassFile.FieldType.int)) ∈ lw_all := lw_g (lw_at lw_m6 92 rfl) rfl
theorem q1333 : (Jvm.Cond.methodLink "PageBanksModel" (131 : Nat) ({ cls := "PageBanksModel", name := "banksUnder", desc := "(I)I" } : Jvm.MethodName)) ∈ lw_all := lw_g (lw_at lw_m6 93 rfl) rfl
theorem q1334 : (Jvm.Cond.privateMethod ({ cls := "PageBanksModel", name := "banksUnder", desc := "(I)I" } : Jvm.MethodName)) ∈ lw_tbl := lw_at lw_m6 94 rfl
theorem q1335 : (Jvm.Cond.instanceMethod ({ cls := "PageBanksModel", name := "banksUnder", desc := "(I)I" } : Jvm.MethodName)) ∈ lw_all := lw_g (lw_at lw_m6 95 rfl) rfl
theorem q1336 : (Jvm.Cond.code ({ cls := "PageBanksModel", name := "banksUnder", desc := "(I)I" } : Jvm.MethodName) prog_18_method_42_code (4 : Nat) (Option.some Jvm.ClassFile.FieldType.int)) ∈ lw_all := lw_g (lw_at lw_m6 96 rfl) rfl
theorem q1338 : (Jvm.Cond.instanceMethod ({ cls := "PageBanksModel", name := "page", desc := "(II)I" } : Jvm.MethodName)) ∈ lw_all := lw_g (lw_at lw_m6 98 rfl) rfl
theorem q1339 : (Jvm.Cond.selects "PageBanksModel" ({ cls := "PageBanksModel", name := "page", desc := "(II)I" } : Jvm.MethodName) ({ cls := "PageBanksModel", name := "page", desc := "(II)I" } : Jvm.MethodName)) ∈ lw_all := lw_g (lw_at lw_m6 99 rfl) rfl
theorem q1340 : (Jvm.Cond.code ({ cls := "PageBanksModel", name := "page", desc := "(II)I" } : Jvm.MethodName) prog_18_method_44_code (4 : Nat) (Option.some Jvm.ClassFile.FieldType.int)) ∈ lw_all := lw_g (lw_at lw_m6 100 rfl) rfl
theorem q1342 : (Jvm.Cond.instanceMethod ({ cls := "PageBanksModel", name := "owner", desc := "(I)I" } : Jvm.MethodName)) ∈ lw_all := lw_g (lw_at lw_m6 102 rfl) rfl
theorem q1343 : (Jvm.Cond.selects "PageBanksModel" ({ cls := "PageBanksModel", name := "owner", desc := "(I)I" } : Jvm.MethodName) ({ cls := "PageBanksModel", name := "owner", desc := "(I)I" } : Jvm.MethodName)) ∈ lw_all := lw_g (lw_at lw_m6 103 rfl) rfl
theorem q1344 : (Jvm.Cond.code ({ cls := "PageBanksModel", name := "owner", desc := "(I)I" } : Jvm.MethodName) prog_18_method_45_code (2 : Nat) (Option.some Jvm.ClassFile.FieldType.int)) ∈ lw_all := lw_g (lw_at lw_m6 104 rfl) rfl
theorem q1346 : (Jvm.Cond.instanceMethod ({ cls := "PageBanksModel", name := "isAlive", desc := "(I)Z" } : Jvm.MethodName)) ∈ lw_all := lw_g (lw_at lw_m6 106 rfl) rfl
theorem q1347 : (Jvm.Cond.selects "PageBanksModel" ({ cls := "PageBanksModel", name := "isAlive", desc := "(I)Z" } : Jvm.MethodName) ({ cls := "PageBanksModel", name := "isAlive", desc := "(I)Z" } : Jvm.MethodName)) ∈ lw_all := lw_g (lw_at lw_m6 107 rfl) rfl
theorem q1348 : (Jvm.Cond.code ({ cls := "PageBanksModel", name := "isAlive", desc := "(I)Z" } : Jvm.MethodName) prog_18_method_46_code (2 : Nat) (Option.some Jvm.ClassFile.FieldType.boolean)) ∈ lw_all := lw_g (lw_at lw_m6 108 rfl) rfl
theorem q1350 : (Jvm.Cond.instanceMethod ({ cls := "PageBanksModel", name := "refused", desc := "()I" } : Jvm.MethodName)) ∈ lw_all := lw_g (lw_at lw_m6 110 rfl) rfl
theorem q1351 : (Jvm.Cond.selects "PageBanksModel" ({ cls := "PageBanksModel", name := "refused", desc := "()I" } : Jvm.MethodName) ({ cls := "PageBanksModel", name := "refused", desc := "()I" } : Jvm.MethodName)) ∈ lw_all := lw_g (lw_at lw_m6 111 rfl) rfl
theorem q1352 : (Jvm.Cond.code ({ cls := "PageBanksModel", name := "refused", desc := "()I" } : Jvm.MethodName) prog_18_method_47_code (1 : Nat) (Option.some Jvm.ClassFile.FieldType.int)) ∈ lw_all := lw_g (lw_at lw_m6 112 rfl) rfl
theorem q1354 : (Jvm.Cond.instanceMethod ({ cls := "PageBanksModel", name := "count", desc := "(I)I" } : Jvm.MethodName)) ∈ lw_all := lw_g (lw_at lw_m6 114 rfl) rfl
theorem q1355 : (Jvm.Cond.selects "PageBanksModel" ({ cls := "PageBanksModel", name := "count", desc := "(I)I" } : Jvm.MethodName) ({ cls := "PageBanksModel", name := "count", desc := "(I)I" } : Jvm.MethodName)) ∈ lw_all := lw_g (lw_at lw_m6 115 rfl) rfl
theorem q1356 : (Jvm.Cond.code ({ cls := "PageBanksModel", name := "count", desc := "(I)I" } : Jvm.MethodName) prog_18_method_48_code (5 : Nat) (Option.some Jvm.ClassFile.FieldType.int)) ∈ lw_all := lw_g (lw_at lw_m6 116 rfl) rfl
theorem q1358 : (Jvm.Cond.instanceMethod ({ cls := "PageBanksModel", name := "astray", desc := "()I" } : Jvm.MethodName)) ∈ lw_all := lw_g (lw_at lw_m6 118 rfl) rfl
theorem q1359 : (Jvm.Cond.selects "PageBanksModel" ({ cls := "PageBanksModel", name := "astray", desc := "()I" } : Jvm.MethodName) ({ cls := "PageBanksModel", name := "astray", desc := "()I" } : Jvm.MethodName)) ∈ lw_all := lw_g (lw_at lw_m6 119 rfl) rfl
theorem q1360 : (Jvm.Cond.code ({ cls := "PageBanksModel", name := "astray", desc := "()I" } : Jvm.MethodName) prog_18_method_49_code (1 : Nat) (Option.some Jvm.ClassFile.FieldType.int)) ∈ lw_all := lw_g (lw_at lw_m6 120 rfl) rfl
theorem q1376 : (Jvm.Cond.castable "PageBanksModel" "java/lang/Object") ∈ lw_tbl := lw_at lw_m6 136 rfl
theorem in_X13 : ∀ w ∈ wsX130, w ∈ lw_all := lw_in wsX130 [1143, 1145, 1147, 1149, 1151, 1153, 1155, 1157, 1159, 1161, 1163, 1165, 1167, 1169] (by decide +kernel) (by decide +kernel)

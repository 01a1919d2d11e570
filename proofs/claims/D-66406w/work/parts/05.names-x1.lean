/-! PageBanks -/
set_option maxRecDepth 100000
def RX1 : String := "PageBanks"
def TX1 : u_T := fun k => match k with
  | 0 => ("PageBanks", "places", "[LPageBanks$Page;", true)
  | 1 => ("PageBanks", "free", "LPageBanks$Bits;", true)
  | 2 => ("PageBanks", "dying", "LPageBanks$Bits;", true)
  | 3 => ("PageBanks", "retired", "I", false)
  | 4 => ("PageBanks", "banks", "[LPageBanks$Bank;", true)
  | 5 => ("PageBanks", "many", "I", false)
  | 6 => ("PageBanks", "runs", "I", false)
  | 7 => ("PageBanks", "refused", "I", false)
  | 8 => ("PageBanks", "buying", "LPageBanks$Rule;", true)
  | 9 => ("PageBanks", "buyingRun", "LPageBanks$Rule;", true)
  | 10 => ("PageBanks", "receiving", "LPageBanks$Rule;", true)
  | 11 => ("PageBanks", "reserving", "LPageBanks$Rule;", true)
  | 12 => ("PageBanks", "founding", "LPageBanks$Rule;", true)
  | _ => ("PageBanks", "ending", "LPageBanks$Rule;", true)
def tyX1 : Nat → FieldType := fun k => match k with
  | 0 => .array (.object "PageBanks$Page")
  | 1 => .object "PageBanks$Bits"
  | 2 => .object "PageBanks$Bits"
  | 3 => .int
  | 4 => .array (.object "PageBanks$Bank")
  | 5 => .int
  | 6 => .int
  | 7 => .int
  | 8 => .object "PageBanks$Rule"
  | 9 => .object "PageBanks$Rule"
  | 10 => .object "PageBanks$Rule"
  | 11 => .object "PageBanks$Rule"
  | 12 => .object "PageBanks$Rule"
  | _ => .object "PageBanks$Rule"
abbrev wsX10 : List Cond := u_ws RX1 TX1 14
set_option maxRecDepth 100000 in
theorem nmX1 : ∀ a, a < 14 → ∀ b, b < 14 → a ≠ b → (TX1 a).2.1 ≠ (TX1 b).2.1 := by decide +kernel
set_option maxRecDepth 100000 in
theorem tyX1_ok : ∀ k, k < 14 → parseFieldDescriptor (TX1 k).2.2.1 = some (tyX1 k) := by decide +kernel
abbrev cX1_init : ByteArray := prog_1_method_2_code
def yX1_init : MethodName := ⟨RX1, "<init>", "()V"⟩
def dkwX1_init_10 : List UInt8 := [3, 187, 0, 25, 89, 3, 1, 17, 0, 192, 183, 0, 89, 83, 177]
abbrev dktX1_init_10 : List UInt8 := dkwX1_init_10 ++ []
def dkwX1_init_9 : List UInt8 := [27, 183, 0, 82, 83, 42, 180, 0, 18, 27, 4, 182, 0, 85, 132, 1, 1, 167, 255, 223, 42, 180, 0, 27]
abbrev dktX1_init_9 : List UInt8 := dkwX1_init_9 ++ dktX1_init_10
def dkwX1_init_8 : List UInt8 := [182, 0, 78, 181, 0, 79, 3, 60, 27, 17, 0, 192, 162, 0, 32, 42, 180, 0, 11, 27, 187, 0, 9, 89]
abbrev dktX1_init_8 : List UInt8 := dkwX1_init_8 ++ dktX1_init_9
def dkwX1_init_7 : List UInt8 := [183, 0, 40, 182, 0, 59, 181, 0, 69, 42, 187, 0, 72, 89, 183, 0, 74, 187, 0, 75, 89, 183, 0, 77]
abbrev dktX1_init_7 : List UInt8 := dkwX1_init_7 ++ dktX1_init_8
def dkwX1_init_6 : List UInt8 := [182, 0, 59, 181, 0, 66, 42, 187, 0, 54, 89, 3, 17, 0, 192, 183, 0, 56, 187, 0, 38, 89]
abbrev dktX1_init_6 : List UInt8 := dkwX1_init_6 ++ dktX1_init_7
def dkwX1_init_5 : List UInt8 := [182, 0, 46, 181, 0, 63, 42, 187, 0, 54, 89, 3, 17, 0, 192, 183, 0, 56, 42, 180, 0, 63]
abbrev dktX1_init_5 : List UInt8 := dkwX1_init_5 ++ dktX1_init_6
def dkwX1_init_4 : List UInt8 := [182, 0, 59, 181, 0, 60, 42, 187, 0, 38, 89, 183, 0, 40, 187, 0, 41, 89, 3, 183, 0, 43]
abbrev dktX1_init_4 : List UInt8 := dkwX1_init_4 ++ dktX1_init_5
def dkwX1_init_3 : List UInt8 := [183, 0, 43, 182, 0, 46, 181, 0, 50, 42, 187, 0, 54, 89, 4, 16, 16, 183, 0, 56, 42, 180, 0, 50]
abbrev dktX1_init_3 : List UInt8 := dkwX1_init_3 ++ dktX1_init_4
def dkwX1_init_2 : List UInt8 := [4, 181, 0, 31, 42, 2, 181, 0, 35, 42, 187, 0, 38, 89, 183, 0, 40, 187, 0, 41, 89, 4]
abbrev dktX1_init_2 : List UInt8 := dkwX1_init_2 ++ dktX1_init_3
def dkwX1_init_1 : List UInt8 := [181, 0, 18, 42, 187, 0, 15, 89, 183, 0, 17, 181, 0, 22, 42, 16, 40, 189, 0, 25, 181, 0, 27, 42]
abbrev dktX1_init_1 : List UInt8 := dkwX1_init_1 ++ dktX1_init_2
def dkwX1_init_0 : List UInt8 := [42, 183, 0, 1, 42, 17, 0, 192, 189, 0, 9, 181, 0, 11, 42, 187, 0, 15, 89, 183, 0, 17]
abbrev dktX1_init_0 : List UInt8 := dkwX1_init_0 ++ dktX1_init_1
theorem dksX1_init_0 : cX1_init.data.toList.drop 0 = dktX1_init_0 := by decide +kernel
theorem dksX1_init_1 : cX1_init.data.toList.drop 22 = dktX1_init_1 := dk_seg dksX1_init_0 22 rfl rfl
theorem dksX1_init_2 : cX1_init.data.toList.drop 46 = dktX1_init_2 := dk_seg dksX1_init_1 24 rfl rfl
theorem dksX1_init_3 : cX1_init.data.toList.drop 68 = dktX1_init_3 := dk_seg dksX1_init_2 22 rfl rfl
theorem dksX1_init_4 : cX1_init.data.toList.drop 92 = dktX1_init_4 := dk_seg dksX1_init_3 24 rfl rfl
theorem dksX1_init_5 : cX1_init.data.toList.drop 114 = dktX1_init_5 := dk_seg dksX1_init_4 22 rfl rfl
theorem dksX1_init_6 : cX1_init.data.toList.drop 136 = dktX1_init_6 := dk_seg dksX1_init_5 22 rfl rfl
theorem dksX1_init_7 : cX1_init.data.toList.drop 158 = dktX1_init_7 := dk_seg dksX1_init_6 22 rfl rfl
theorem dksX1_init_8 : cX1_init.data.toList.drop 182 = dktX1_init_8 := dk_seg dksX1_init_7 24 rfl rfl
theorem dksX1_init_9 : cX1_init.data.toList.drop 206 = dktX1_init_9 := dk_seg dksX1_init_8 24 rfl rfl
theorem dksX1_init_10 : cX1_init.data.toList.drop 230 = dktX1_init_10 := dk_seg dksX1_init_9 24 rfl rfl
theorem dX1_init_0 : decode cX1_init 0 = .ok (.aload_n 0, 1) := dk_42 (dk_at dksX1_init_0 0 rfl rfl)
theorem dX1_init_1 : decode cX1_init 1 = .ok (.invokespecial 1, 3) := dk_183 0 1 (dk_at dksX1_init_0 1 rfl rfl)
theorem dX1_init_4 : decode cX1_init 4 = .ok (.aload_n 0, 1) := dk_42 (dk_at dksX1_init_0 4 rfl rfl)
theorem dX1_init_5 : decode cX1_init 5 = .ok (.sipush 192, 3) := dk_17 0 192 (dk_at dksX1_init_0 5 rfl rfl)
theorem dX1_init_8 : decode cX1_init 8 = .ok (.anewarray 9, 3) := dk_189 0 9 (dk_at dksX1_init_0 8 rfl rfl)
theorem dX1_init_11 : decode cX1_init 11 = .ok (.putfield 11, 3) := dk_181 0 11 (dk_at dksX1_init_0 11 rfl rfl)
theorem dX1_init_14 : decode cX1_init 14 = .ok (.aload_n 0, 1) := dk_42 (dk_at dksX1_init_0 14 rfl rfl)
theorem dX1_init_15 : decode cX1_init 15 = .ok (.new 15, 3) := dk_187 0 15 (dk_at dksX1_init_0 15 rfl rfl)
theorem dX1_init_18 : decode cX1_init 18 = .ok (.dup, 1) := dk_89 (dk_at dksX1_init_0 18 rfl rfl)
theorem dX1_init_19 : decode cX1_init 19 = .ok (.invokespecial 17, 3) := dk_183 0 17 (dk_at dksX1_init_0 19 rfl rfl)
theorem dX1_init_22 : decode cX1_init 22 = .ok (.putfield 18, 3) := dk_181 0 18 (dk_at dksX1_init_1 0 rfl rfl)
theorem dX1_init_25 : decode cX1_init 25 = .ok (.aload_n 0, 1) := dk_42 (dk_at dksX1_init_1 3 rfl rfl)
theorem dX1_init_26 : decode cX1_init 26 = .ok (.new 15, 3) := dk_187 0 15 (dk_at dksX1_init_1 4 rfl rfl)
theorem dX1_init_29 : decode cX1_init 29 = .ok (.dup, 1) := dk_89 (dk_at dksX1_init_1 7 rfl rfl)
theorem dX1_init_30 : decode cX1_init 30 = .ok (.invokespecial 17, 3) := dk_183 0 17 (dk_at dksX1_init_1 8 rfl rfl)
theorem dX1_init_33 : decode cX1_init 33 = .ok (.putfield 22, 3) := dk_181 0 22 (dk_at dksX1_init_1 11 rfl rfl)
theorem dX1_init_36 : decode cX1_init 36 = .ok (.aload_n 0, 1) := dk_42 (dk_at dksX1_init_1 14 rfl rfl)
theorem dX1_init_37 : decode cX1_init 37 = .ok (.bipush 40, 2) := dk_16 40 (dk_at dksX1_init_1 15 rfl rfl)
theorem dX1_init_39 : decode cX1_init 39 = .ok (.anewarray 25, 3) := dk_189 0 25 (dk_at dksX1_init_1 17 rfl rfl)
theorem dX1_init_42 : decode cX1_init 42 = .ok (.putfield 27, 3) := dk_181 0 27 (dk_at dksX1_init_1 20 rfl rfl)
theorem dX1_init_45 : decode cX1_init 45 = .ok (.aload_n 0, 1) := dk_42 (dk_at dksX1_init_1 23 rfl rfl)
theorem dX1_init_46 : decode cX1_init 46 = .ok (.iconst 1, 1) := dk_4 (dk_at dksX1_init_2 0 rfl rfl)
theorem dX1_init_47 : decode cX1_init 47 = .ok (.putfield 31, 3) := dk_181 0 31 (dk_at dksX1_init_2 1 rfl rfl)
theorem dX1_init_50 : decode cX1_init 50 = .ok (.aload_n 0, 1) := dk_42 (dk_at dksX1_init_2 4 rfl rfl)
theorem dX1_init_51 : decode cX1_init 51 = .ok (.iconst (-1), 1) := dk_2 (dk_at dksX1_init_2 5 rfl rfl)
theorem dX1_init_52 : decode cX1_init 52 = .ok (.putfield 35, 3) := dk_181 0 35 (dk_at dksX1_init_2 6 rfl rfl)
theorem dX1_init_55 : decode cX1_init 55 = .ok (.aload_n 0, 1) := dk_42 (dk_at dksX1_init_2 9 rfl rfl)
theorem dX1_init_56 : decode cX1_init 56 = .ok (.new 38, 3) := dk_187 0 38 (dk_at dksX1_init_2 10 rfl rfl)
theorem dX1_init_59 : decode cX1_init 59 = .ok (.dup, 1) := dk_89 (dk_at dksX1_init_2 13 rfl rfl)
theorem dX1_init_60 : decode cX1_init 60 = .ok (.invokespecial 40, 3) := dk_183 0 40 (dk_at dksX1_init_2 14 rfl rfl)
theorem dX1_init_63 : decode cX1_init 63 = .ok (.new 41, 3) := dk_187 0 41 (dk_at dksX1_init_2 17 rfl rfl)
theorem dX1_init_66 : decode cX1_init 66 = .ok (.dup, 1) := dk_89 (dk_at dksX1_init_2 20 rfl rfl)
theorem dX1_init_67 : decode cX1_init 67 = .ok (.iconst 1, 1) := dk_4 (dk_at dksX1_init_2 21 rfl rfl)
theorem dX1_init_68 : decode cX1_init 68 = .ok (.invokespecial 43, 3) := dk_183 0 43 (dk_at dksX1_init_3 0 rfl rfl)
theorem dX1_init_71 : decode cX1_init 71 = .ok (.invokevirtual 46, 3) := dk_182 0 46 (dk_at dksX1_init_3 3 rfl rfl)
theorem dX1_init_74 : decode cX1_init 74 = .ok (.putfield 50, 3) := dk_181 0 50 (dk_at dksX1_init_3 6 rfl rfl)
theorem dX1_init_77 : decode cX1_init 77 = .ok (.aload_n 0, 1) := dk_42 (dk_at dksX1_init_3 9 rfl rfl)
theorem dX1_init_78 : decode cX1_init 78 = .ok (.new 54, 3) := dk_187 0 54 (dk_at dksX1_init_3 10 rfl rfl)
theorem dX1_init_81 : decode cX1_init 81 = .ok (.dup, 1) := dk_89 (dk_at dksX1_init_3 13 rfl rfl)
theorem dX1_init_82 : decode cX1_init 82 = .ok (.iconst 1, 1) := dk_4 (dk_at dksX1_init_3 14 rfl rfl)
theorem dX1_init_83 : decode cX1_init 83 = .ok (.bipush 16, 2) := dk_16 16 (dk_at dksX1_init_3 15 rfl rfl)
theorem dX1_init_85 : decode cX1_init 85 = .ok (.invokespecial 56, 3) := dk_183 0 56 (dk_at dksX1_init_3 17 rfl rfl)
theorem dX1_init_88 : decode cX1_init 88 = .ok (.aload_n 0, 1) := dk_42 (dk_at dksX1_init_3 20 rfl rfl)
theorem dX1_init_89 : decode cX1_init 89 = .ok (.getfield 50, 3) := dk_180 0 50 (dk_at dksX1_init_3 21 rfl rfl)
theorem dX1_init_92 : decode cX1_init 92 = .ok (.invokevirtual 59, 3) := dk_182 0 59 (dk_at dksX1_init_4 0 rfl rfl)
theorem dX1_init_95 : decode cX1_init 95 = .ok (.putfield 60, 3) := dk_181 0 60 (dk_at dksX1_init_4 3 rfl rfl)
theorem dX1_init_98 : decode cX1_init 98 = .ok (.aload_n 0, 1) := dk_42 (dk_at dksX1_init_4 6 rfl rfl)
theorem dX1_init_99 : decode cX1_init 99 = .ok (.new 38, 3) := dk_187 0 38 (dk_at dksX1_init_4 7 rfl rfl)
theorem dX1_init_102 : decode cX1_init 102 = .ok (.dup, 1) := dk_89 (dk_at dksX1_init_4 10 rfl rfl)
theorem dX1_init_103 : decode cX1_init 103 = .ok (.invokespecial 40, 3) := dk_183 0 40 (dk_at dksX1_init_4 11 rfl rfl)
theorem dX1_init_106 : decode cX1_init 106 = .ok (.new 41, 3) := dk_187 0 41 (dk_at dksX1_init_4 14 rfl rfl)
theorem dX1_init_109 : decode cX1_init 109 = .ok (.dup, 1) := dk_89 (dk_at dksX1_init_4 17 rfl rfl)
theorem dX1_init_110 : decode cX1_init 110 = .ok (.iconst 0, 1) := dk_3 (dk_at dksX1_init_4 18 rfl rfl)
theorem dX1_init_111 : decode cX1_init 111 = .ok (.invokespecial 43, 3) := dk_183 0 43 (dk_at dksX1_init_4 19 rfl rfl)
theorem dX1_init_114 : decode cX1_init 114 = .ok (.invokevirtual 46, 3) := dk_182 0 46 (dk_at dksX1_init_5 0 rfl rfl)
theorem dX1_init_117 : decode cX1_init 117 = .ok (.putfield 63, 3) := dk_181 0 63 (dk_at dksX1_init_5 3 rfl rfl)
theorem dX1_init_120 : decode cX1_init 120 = .ok (.aload_n 0, 1) := dk_42 (dk_at dksX1_init_5 6 rfl rfl)
theorem dX1_init_121 : decode cX1_init 121 = .ok (.new 54, 3) := dk_187 0 54 (dk_at dksX1_init_5 7 rfl rfl)
theorem dX1_init_124 : decode cX1_init 124 = .ok (.dup, 1) := dk_89 (dk_at dksX1_init_5 10 rfl rfl)
theorem dX1_init_125 : decode cX1_init 125 = .ok (.iconst 0, 1) := dk_3 (dk_at dksX1_init_5 11 rfl rfl)
theorem dX1_init_126 : decode cX1_init 126 = .ok (.sipush 192, 3) := dk_17 0 192 (dk_at dksX1_init_5 12 rfl rfl)
theorem dX1_init_129 : decode cX1_init 129 = .ok (.invokespecial 56, 3) := dk_183 0 56 (dk_at dksX1_init_5 15 rfl rfl)
theorem dX1_init_132 : decode cX1_init 132 = .ok (.aload_n 0, 1) := dk_42 (dk_at dksX1_init_5 18 rfl rfl)
theorem dX1_init_133 : decode cX1_init 133 = .ok (.getfield 63, 3) := dk_180 0 63 (dk_at dksX1_init_5 19 rfl rfl)
theorem dX1_init_136 : decode cX1_init 136 = .ok (.invokevirtual 59, 3) := dk_182 0 59 (dk_at dksX1_init_6 0 rfl rfl)
theorem dX1_init_139 : decode cX1_init 139 = .ok (.putfield 66, 3) := dk_181 0 66 (dk_at dksX1_init_6 3 rfl rfl)
theorem dX1_init_142 : decode cX1_init 142 = .ok (.aload_n 0, 1) := dk_42 (dk_at dksX1_init_6 6 rfl rfl)
theorem dX1_init_143 : decode cX1_init 143 = .ok (.new 54, 3) := dk_187 0 54 (dk_at dksX1_init_6 7 rfl rfl)
theorem dX1_init_146 : decode cX1_init 146 = .ok (.dup, 1) := dk_89 (dk_at dksX1_init_6 10 rfl rfl)
theorem dX1_init_147 : decode cX1_init 147 = .ok (.iconst 0, 1) := dk_3 (dk_at dksX1_init_6 11 rfl rfl)
theorem dX1_init_148 : decode cX1_init 148 = .ok (.sipush 192, 3) := dk_17 0 192 (dk_at dksX1_init_6 12 rfl rfl)
theorem dX1_init_151 : decode cX1_init 151 = .ok (.invokespecial 56, 3) := dk_183 0 56 (dk_at dksX1_init_6 15 rfl rfl)
theorem dX1_init_154 : decode cX1_init 154 = .ok (.new 38, 3) := dk_187 0 38 (dk_at dksX1_init_6 18 rfl rfl)
theorem dX1_init_157 : decode cX1_init 157 = .ok (.dup, 1) := dk_89 (dk_at dksX1_init_6 21 rfl rfl)
theorem dX1_init_158 : decode cX1_init 158 = .ok (.invokespecial 40, 3) := dk_183 0 40 (dk_at dksX1_init_7 0 rfl rfl)
theorem dX1_init_161 : decode cX1_init 161 = .ok (.invokevirtual 59, 3) := dk_182 0 59 (dk_at dksX1_init_7 3 rfl rfl)
theorem dX1_init_164 : decode cX1_init 164 = .ok (.putfield 69, 3) := dk_181 0 69 (dk_at dksX1_init_7 6 rfl rfl)
theorem dX1_init_167 : decode cX1_init 167 = .ok (.aload_n 0, 1) := dk_42 (dk_at dksX1_init_7 9 rfl rfl)
theorem dX1_init_168 : decode cX1_init 168 = .ok (.new 72, 3) := dk_187 0 72 (dk_at dksX1_init_7 10 rfl rfl)
theorem dX1_init_171 : decode cX1_init 171 = .ok (.dup, 1) := dk_89 (dk_at dksX1_init_7 13 rfl rfl)
theorem dX1_init_172 : decode cX1_init 172 = .ok (.invokespecial 74, 3) := dk_183 0 74 (dk_at dksX1_init_7 14 rfl rfl)
theorem dX1_init_175 : decode cX1_init 175 = .ok (.new 75, 3) := dk_187 0 75 (dk_at dksX1_init_7 17 rfl rfl)
theorem dX1_init_178 : decode cX1_init 178 = .ok (.dup, 1) := dk_89 (dk_at dksX1_init_7 20 rfl rfl)
theorem dX1_init_179 : decode cX1_init 179 = .ok (.invokespecial 77, 3) := dk_183 0 77 (dk_at dksX1_init_7 21 rfl rfl)
theorem dX1_init_182 : decode cX1_init 182 = .ok (.invokevirtual 78, 3) := dk_182 0 78 (dk_at dksX1_init_8 0 rfl rfl)
theorem dX1_init_185 : decode cX1_init 185 = .ok (.putfield 79, 3) := dk_181 0 79 (dk_at dksX1_init_8 3 rfl rfl)
theorem dX1_init_188 : decode cX1_init 188 = .ok (.iconst 0, 1) := dk_3 (dk_at dksX1_init_8 6 rfl rfl)
theorem dX1_init_189 : decode cX1_init 189 = .ok (.istore_n 1, 1) := dk_60 (dk_at dksX1_init_8 7 rfl rfl)
theorem dX1_init_190 : decode cX1_init 190 = .ok (.iload_n 1, 1) := dk_27 (dk_at dksX1_init_8 8 rfl rfl)
theorem dX1_init_191 : decode cX1_init 191 = .ok (.sipush 192, 3) := dk_17 0 192 (dk_at dksX1_init_8 9 rfl rfl)
theorem dX1_init_194 : decode cX1_init 194 = .ok (.if_icmp .ge 32, 3) := dk_162 0 32 (dk_at dksX1_init_8 12 rfl rfl)
theorem dX1_init_197 : decode cX1_init 197 = .ok (.aload_n 0, 1) := dk_42 (dk_at dksX1_init_8 15 rfl rfl)
theorem dX1_init_198 : decode cX1_init 198 = .ok (.getfield 11, 3) := dk_180 0 11 (dk_at dksX1_init_8 16 rfl rfl)
theorem dX1_init_201 : decode cX1_init 201 = .ok (.iload_n 1, 1) := dk_27 (dk_at dksX1_init_8 19 rfl rfl)
theorem dX1_init_202 : decode cX1_init 202 = .ok (.new 9, 3) := dk_187 0 9 (dk_at dksX1_init_8 20 rfl rfl)
theorem dX1_init_205 : decode cX1_init 205 = .ok (.dup, 1) := dk_89 (dk_at dksX1_init_8 23 rfl rfl)
theorem dX1_init_206 : decode cX1_init 206 = .ok (.iload_n 1, 1) := dk_27 (dk_at dksX1_init_9 0 rfl rfl)
theorem dX1_init_207 : decode cX1_init 207 = .ok (.invokespecial 82, 3) := dk_183 0 82 (dk_at dksX1_init_9 1 rfl rfl)
theorem dX1_init_210 : decode cX1_init 210 = .ok (.aastore, 1) := dk_83 (dk_at dksX1_init_9 4 rfl rfl)
theorem dX1_init_211 : decode cX1_init 211 = .ok (.aload_n 0, 1) := dk_42 (dk_at dksX1_init_9 5 rfl rfl)
theorem dX1_init_212 : decode cX1_init 212 = .ok (.getfield 18, 3) := dk_180 0 18 (dk_at dksX1_init_9 6 rfl rfl)
theorem dX1_init_215 : decode cX1_init 215 = .ok (.iload_n 1, 1) := dk_27 (dk_at dksX1_init_9 9 rfl rfl)
theorem dX1_init_216 : decode cX1_init 216 = .ok (.iconst 1, 1) := dk_4 (dk_at dksX1_init_9 10 rfl rfl)
theorem dX1_init_217 : decode cX1_init 217 = .ok (.invokevirtual 85, 3) := dk_182 0 85 (dk_at dksX1_init_9 11 rfl rfl)
theorem dX1_init_220 : decode cX1_init 220 = .ok (.iinc 1 1, 3) := dk_132 1 1 (dk_at dksX1_init_9 14 rfl rfl)
theorem dX1_init_223 : decode cX1_init 223 = .ok (.goto (-33), 3) := dk_167 255 223 (dk_at dksX1_init_9 17 rfl rfl)
theorem dX1_init_226 : decode cX1_init 226 = .ok (.aload_n 0, 1) := dk_42 (dk_at dksX1_init_9 20 rfl rfl)
theorem dX1_init_227 : decode cX1_init 227 = .ok (.getfield 27, 3) := dk_180 0 27 (dk_at dksX1_init_9 21 rfl rfl)
theorem dX1_init_230 : decode cX1_init 230 = .ok (.iconst 0, 1) := dk_3 (dk_at dksX1_init_10 0 rfl rfl)
theorem dX1_init_231 : decode cX1_init 231 = .ok (.new 25, 3) := dk_187 0 25 (dk_at dksX1_init_10 1 rfl rfl)
theorem dX1_init_234 : decode cX1_init 234 = .ok (.dup, 1) := dk_89 (dk_at dksX1_init_10 4 rfl rfl)
theorem dX1_init_235 : decode cX1_init 235 = .ok (.iconst 0, 1) := dk_3 (dk_at dksX1_init_10 5 rfl rfl)
theorem dX1_init_236 : decode cX1_init 236 = .ok (.aconst_null, 1) := dk_1 (dk_at dksX1_init_10 6 rfl rfl)
theorem dX1_init_237 : decode cX1_init 237 = .ok (.sipush 192, 3) := dk_17 0 192 (dk_at dksX1_init_10 7 rfl rfl)
theorem dX1_init_240 : decode cX1_init 240 = .ok (.invokespecial 89, 3) := dk_183 0 89 (dk_at dksX1_init_10 10 rfl rfl)
theorem dX1_init_243 : decode cX1_init 243 = .ok (.aastore, 1) := dk_83 (dk_at dksX1_init_10 13 rfl rfl)
theorem dX1_init_244 : decode cX1_init 244 = .ok (.return_, 1) := dk_177 (dk_at dksX1_init_10 14 rfl rfl)
abbrev cX1_isAlive : ByteArray := prog_1_method_38_code
def yX1_isAlive : MethodName := ⟨RX1, "isAlive", "(I)Z"⟩
def dkwX1_isAlive_0 : List UInt8 := [42, 27, 182, 0, 138, 198, 0, 7, 4, 167, 0, 4, 3, 172]
abbrev dktX1_isAlive_0 : List UInt8 := dkwX1_isAlive_0 ++ []
theorem dksX1_isAlive_0 : cX1_isAlive.data.toList.drop 0 = dktX1_isAlive_0 := by decide +kernel
theorem dX1_isAlive_0 : decode cX1_isAlive 0 = .ok (.aload_n 0, 1) := dk_42 (dk_at dksX1_isAlive_0 0 rfl rfl)
theorem dX1_isAlive_1 : decode cX1_isAlive 1 = .ok (.iload_n 1, 1) := dk_27 (dk_at dksX1_isAlive_0 1 rfl rfl)
theorem dX1_isAlive_2 : decode cX1_isAlive 2 = .ok (.invokevirtual 138, 3) := dk_182 0 138 (dk_at dksX1_isAlive_0 2 rfl rfl)
theorem dX1_isAlive_5 : decode cX1_isAlive 5 = .ok (.ifnull 7, 3) := dk_198 0 7 (dk_at dksX1_isAlive_0 5 rfl rfl)
theorem dX1_isAlive_8 : decode cX1_isAlive 8 = .ok (.iconst 1, 1) := dk_4 (dk_at dksX1_isAlive_0 8 rfl rfl)
theorem dX1_isAlive_9 : decode cX1_isAlive 9 = .ok (.goto 4, 3) := dk_167 0 4 (dk_at dksX1_isAlive_0 9 rfl rfl)
theorem dX1_isAlive_12 : decode cX1_isAlive 12 = .ok (.iconst 0, 1) := dk_3 (dk_at dksX1_isAlive_0 12 rfl rfl)
theorem dX1_isAlive_13 : decode cX1_isAlive 13 = .ok (.ireturn, 1) := dk_172 (dk_at dksX1_isAlive_0 13 rfl rfl)
abbrev cX1_find : ByteArray := prog_1_method_6_code
def yX1_find : MethodName := ⟨RX1, "find", "(I)LPageBanks$Page;"⟩
def dkwX1_find_2 : List UInt8 := [62, 29, 153, 0, 12, 42, 180, 0, 11, 28, 50, 167, 0, 4, 1, 176]
abbrev dktX1_find_2 : List UInt8 := dkwX1_find_2 ++ []
def dkwX1_find_1 : List UInt8 := [153, 0, 23, 42, 180, 0, 11, 28, 50, 180, 0, 135, 27, 16, 10, 122, 160, 0, 7, 4, 167, 0, 4, 3]
abbrev dktX1_find_1 : List UInt8 := dkwX1_find_1 ++ dktX1_find_2
def dkwX1_find_0 : List UInt8 := [27, 17, 3, 255, 126, 4, 122, 61, 28, 17, 0, 192, 162, 0, 35, 42, 180, 0, 11, 28, 50, 182, 0, 131]
abbrev dktX1_find_0 : List UInt8 := dkwX1_find_0 ++ dktX1_find_1
theorem dksX1_find_0 : cX1_find.data.toList.drop 0 = dktX1_find_0 := by decide +kernel
theorem dksX1_find_1 : cX1_find.data.toList.drop 24 = dktX1_find_1 := dk_seg dksX1_find_0 24 rfl rfl
theorem dksX1_find_2 : cX1_find.data.toList.drop 48 = dktX1_find_2 := dk_seg dksX1_find_1 24 rfl rfl
theorem dX1_find_0 : decode cX1_find 0 = .ok (.iload_n 1, 1) := dk_27 (dk_at dksX1_find_0 0 rfl rfl)
theorem dX1_find_1 : decode cX1_find 1 = .ok (.sipush 1023, 3) := dk_17 3 255 (dk_at dksX1_find_0 1 rfl rfl)
theorem dX1_find_4 : decode cX1_find 4 = .ok (.iand, 1) := dk_126 (dk_at dksX1_find_0 4 rfl rfl)
theorem dX1_find_5 : decode cX1_find 5 = .ok (.iconst 1, 1) := dk_4 (dk_at dksX1_find_0 5 rfl rfl)
theorem dX1_find_6 : decode cX1_find 6 = .ok (.ishr, 1) := dk_122 (dk_at dksX1_find_0 6 rfl rfl)
theorem dX1_find_7 : decode cX1_find 7 = .ok (.istore_n 2, 1) := dk_61 (dk_at dksX1_find_0 7 rfl rfl)
theorem dX1_find_8 : decode cX1_find 8 = .ok (.iload_n 2, 1) := dk_28 (dk_at dksX1_find_0 8 rfl rfl)
theorem dX1_find_9 : decode cX1_find 9 = .ok (.sipush 192, 3) := dk_17 0 192 (dk_at dksX1_find_0 9 rfl rfl)
theorem dX1_find_12 : decode cX1_find 12 = .ok (.if_icmp .ge 35, 3) := dk_162 0 35 (dk_at dksX1_find_0 12 rfl rfl)
theorem dX1_find_15 : decode cX1_find 15 = .ok (.aload_n 0, 1) := dk_42 (dk_at dksX1_find_0 15 rfl rfl)
theorem dX1_find_16 : decode cX1_find 16 = .ok (.getfield 11, 3) := dk_180 0 11 (dk_at dksX1_find_0 16 rfl rfl)
theorem dX1_find_19 : decode cX1_find 19 = .ok (.iload_n 2, 1) := dk_28 (dk_at dksX1_find_0 19 rfl rfl)
theorem dX1_find_20 : decode cX1_find 20 = .ok (.aaload, 1) := dk_50 (dk_at dksX1_find_0 20 rfl rfl)
theorem dX1_find_21 : decode cX1_find 21 = .ok (.invokevirtual 131, 3) := dk_182 0 131 (dk_at dksX1_find_0 21 rfl rfl)
theorem dX1_find_24 : decode cX1_find 24 = .ok (.ifCond .eq 23, 3) := dk_153 0 23 (dk_at dksX1_find_1 0 rfl rfl)
theorem dX1_find_27 : decode cX1_find 27 = .ok (.aload_n 0, 1) := dk_42 (dk_at dksX1_find_1 3 rfl rfl)
theorem dX1_find_28 : decode cX1_find 28 = .ok (.getfield 11, 3) := dk_180 0 11 (dk_at dksX1_find_1 4 rfl rfl)
theorem dX1_find_31 : decode cX1_find 31 = .ok (.iload_n 2, 1) := dk_28 (dk_at dksX1_find_1 7 rfl rfl)
theorem dX1_find_32 : decode cX1_find 32 = .ok (.aaload, 1) := dk_50 (dk_at dksX1_find_1 8 rfl rfl)
theorem dX1_find_33 : decode cX1_find 33 = .ok (.getfield 135, 3) := dk_180 0 135 (dk_at dksX1_find_1 9 rfl rfl)
theorem dX1_find_36 : decode cX1_find 36 = .ok (.iload_n 1, 1) := dk_27 (dk_at dksX1_find_1 12 rfl rfl)
theorem dX1_find_37 : decode cX1_find 37 = .ok (.bipush 10, 2) := dk_16 10 (dk_at dksX1_find_1 13 rfl rfl)
theorem dX1_find_39 : decode cX1_find 39 = .ok (.ishr, 1) := dk_122 (dk_at dksX1_find_1 15 rfl rfl)
theorem dX1_find_40 : decode cX1_find 40 = .ok (.if_icmp .ne 7, 3) := dk_160 0 7 (dk_at dksX1_find_1 16 rfl rfl)
theorem dX1_find_43 : decode cX1_find 43 = .ok (.iconst 1, 1) := dk_4 (dk_at dksX1_find_1 19 rfl rfl)
theorem dX1_find_44 : decode cX1_find 44 = .ok (.goto 4, 3) := dk_167 0 4 (dk_at dksX1_find_1 20 rfl rfl)
theorem dX1_find_47 : decode cX1_find 47 = .ok (.iconst 0, 1) := dk_3 (dk_at dksX1_find_1 23 rfl rfl)
theorem dX1_find_48 : decode cX1_find 48 = .ok (.istore_n 3, 1) := dk_62 (dk_at dksX1_find_2 0 rfl rfl)
theorem dX1_find_49 : decode cX1_find 49 = .ok (.iload_n 3, 1) := dk_29 (dk_at dksX1_find_2 1 rfl rfl)
theorem dX1_find_50 : decode cX1_find 50 = .ok (.ifCond .eq 12, 3) := dk_153 0 12 (dk_at dksX1_find_2 2 rfl rfl)
theorem dX1_find_53 : decode cX1_find 53 = .ok (.aload_n 0, 1) := dk_42 (dk_at dksX1_find_2 5 rfl rfl)
theorem dX1_find_54 : decode cX1_find 54 = .ok (.getfield 11, 3) := dk_180 0 11 (dk_at dksX1_find_2 6 rfl rfl)
theorem dX1_find_57 : decode cX1_find 57 = .ok (.iload_n 2, 1) := dk_28 (dk_at dksX1_find_2 9 rfl rfl)
theorem dX1_find_58 : decode cX1_find 58 = .ok (.aaload, 1) := dk_50 (dk_at dksX1_find_2 10 rfl rfl)
theorem dX1_find_59 : decode cX1_find 59 = .ok (.goto 4, 3) := dk_167 0 4 (dk_at dksX1_find_2 11 rfl rfl)
theorem dX1_find_62 : decode cX1_find 62 = .ok (.aconst_null, 1) := dk_1 (dk_at dksX1_find_2 14 rfl rfl)
theorem dX1_find_63 : decode cX1_find 63 = .ok (.areturn, 1) := dk_176 (dk_at dksX1_find_2 15 rfl rfl)
abbrev cX1_refused : ByteArray := prog_1_method_39_code
def yX1_refused : MethodName := ⟨RX1, "refused", "()I"⟩
theorem dX1_refused_0 : decode cX1_refused 0 = .ok (.aload_n 0, 1) := by decide +kernel
theorem dX1_refused_1 : decode cX1_refused 1 = .ok (.getfield 35, 3) := by decide +kernel
theorem dX1_refused_4 : decode cX1_refused 4 = .ok (.ireturn, 1) := by decide +kernel
abbrev cX1_count : ByteArray := prog_1_method_40_code
def yX1_count : MethodName := ⟨RX1, "count", "(I)I"⟩
def dkwX1_count_3 : List UInt8 := [180, 1, 50, 100, 42, 180, 0, 180, 100, 167, 0, 11, 42, 180, 0, 31, 167, 0, 4, 2, 172]
abbrev dktX1_count_3 : List UInt8 := dkwX1_count_3 ++ []
def dkwX1_count_2 : List UInt8 := [42, 180, 0, 18, 180, 1, 50, 167, 0, 37, 42, 180, 0, 180, 167, 0, 30, 17, 0, 192, 42, 180, 0, 18]
abbrev dktX1_count_2 : List UInt8 := dkwX1_count_2 ++ dktX1_count_3
def dkwX1_count_1 : List UInt8 := [170, 0, 0, 0, 0, 0, 74, 0, 0, 0, 0, 0, 0, 0, 3, 0, 0, 0, 31, 0, 0, 0, 41, 0, 0, 0, 48, 0, 0, 0, 67]
abbrev dktX1_count_1 : List UInt8 := dkwX1_count_1 ++ dktX1_count_2
def dkwX1_count_0 : List UInt8 := [27]
abbrev dktX1_count_0 : List UInt8 := dkwX1_count_0 ++ dktX1_count_1
theorem dksX1_count_0 : cX1_count.data.toList.drop 0 = dktX1_count_0 := by decide +kernel
theorem dksX1_count_1 : cX1_count.data.toList.drop 1 = dktX1_count_1 := dk_seg dksX1_count_0 1 rfl rfl
theorem dksX1_count_2 : cX1_count.data.toList.drop 32 = dktX1_count_2 := dk_seg dksX1_count_1 31 rfl rfl
theorem dksX1_count_3 : cX1_count.data.toList.drop 56 = dktX1_count_3 := dk_seg dksX1_count_2 24 rfl rfl
theorem dX1_count_0 : decode cX1_count 0 = .ok (.iload_n 1, 1) := dk_27 (dk_at dksX1_count_0 0 rfl rfl)
theorem dX1_count_1 : decode cX1_count 1 = .ok (.tableswitch 74 0 3 #[31, 41, 48, 67], 31) := by decide +kernel
theorem dX1_count_32 : decode cX1_count 32 = .ok (.aload_n 0, 1) := dk_42 (dk_at dksX1_count_2 0 rfl rfl)
theorem dX1_count_33 : decode cX1_count 33 = .ok (.getfield 18, 3) := dk_180 0 18 (dk_at dksX1_count_2 1 rfl rfl)
theorem dX1_count_36 : decode cX1_count 36 = .ok (.getfield 306, 3) := dk_180 1 50 (dk_at dksX1_count_2 4 rfl rfl)
theorem dX1_count_39 : decode cX1_count 39 = .ok (.goto 37, 3) := dk_167 0 37 (dk_at dksX1_count_2 7 rfl rfl)
theorem dX1_count_42 : decode cX1_count 42 = .ok (.aload_n 0, 1) := dk_42 (dk_at dksX1_count_2 10 rfl rfl)
theorem dX1_count_43 : decode cX1_count 43 = .ok (.getfield 180, 3) := dk_180 0 180 (dk_at dksX1_count_2 11 rfl rfl)
theorem dX1_count_46 : decode cX1_count 46 = .ok (.goto 30, 3) := dk_167 0 30 (dk_at dksX1_count_2 14 rfl rfl)
theorem dX1_count_49 : decode cX1_count 49 = .ok (.sipush 192, 3) := dk_17 0 192 (dk_at dksX1_count_2 17 rfl rfl)
theorem dX1_count_52 : decode cX1_count 52 = .ok (.aload_n 0, 1) := dk_42 (dk_at dksX1_count_2 20 rfl rfl)
theorem dX1_count_53 : decode cX1_count 53 = .ok (.getfield 18, 3) := dk_180 0 18 (dk_at dksX1_count_2 21 rfl rfl)
theorem dX1_count_56 : decode cX1_count 56 = .ok (.getfield 306, 3) := dk_180 1 50 (dk_at dksX1_count_3 0 rfl rfl)
theorem dX1_count_59 : decode cX1_count 59 = .ok (.isub, 1) := dk_100 (dk_at dksX1_count_3 3 rfl rfl)
theorem dX1_count_60 : decode cX1_count 60 = .ok (.aload_n 0, 1) := dk_42 (dk_at dksX1_count_3 4 rfl rfl)
theorem dX1_count_61 : decode cX1_count 61 = .ok (.getfield 180, 3) := dk_180 0 180 (dk_at dksX1_count_3 5 rfl rfl)
theorem dX1_count_64 : decode cX1_count 64 = .ok (.isub, 1) := dk_100 (dk_at dksX1_count_3 8 rfl rfl)
theorem dX1_count_65 : decode cX1_count 65 = .ok (.goto 11, 3) := dk_167 0 11 (dk_at dksX1_count_3 9 rfl rfl)
theorem dX1_count_68 : decode cX1_count 68 = .ok (.aload_n 0, 1) := dk_42 (dk_at dksX1_count_3 12 rfl rfl)
theorem dX1_count_69 : decode cX1_count 69 = .ok (.getfield 31, 3) := dk_180 0 31 (dk_at dksX1_count_3 13 rfl rfl)
theorem dX1_count_72 : decode cX1_count 72 = .ok (.goto 4, 3) := dk_167 0 4 (dk_at dksX1_count_3 16 rfl rfl)
theorem dX1_count_75 : decode cX1_count 75 = .ok (.iconst (-1), 1) := dk_2 (dk_at dksX1_count_3 19 rfl rfl)
theorem dX1_count_76 : decode cX1_count 76 = .ok (.ireturn, 1) := dk_172 (dk_at dksX1_count_3 20 rfl rfl)
abbrev cX1_astray : ByteArray := prog_1_method_42_code
def yX1_astray : MethodName := ⟨RX1, "astray", "()I"⟩
def dkwX1_astray_1 : List UInt8 := [160, 0, 7, 3, 167, 0, 4, 4, 96, 172]
abbrev dktX1_astray_1 : List UInt8 := dkwX1_astray_1 ++ []
def dkwX1_astray_0 : List UInt8 := [42, 42, 180, 0, 27, 3, 50, 182, 1, 71, 42, 180, 0, 27, 3, 50, 182, 1, 85, 42, 180, 0, 31]
abbrev dktX1_astray_0 : List UInt8 := dkwX1_astray_0 ++ dktX1_astray_1
theorem dksX1_astray_0 : cX1_astray.data.toList.drop 0 = dktX1_astray_0 := by decide +kernel
theorem dksX1_astray_1 : cX1_astray.data.toList.drop 23 = dktX1_astray_1 := dk_seg dksX1_astray_0 23 rfl rfl
theorem dX1_astray_0 : decode cX1_astray 0 = .ok (.aload_n 0, 1) := dk_42 (dk_at dksX1_astray_0 0 rfl rfl)
theorem dX1_astray_1 : decode cX1_astray 1 = .ok (.aload_n 0, 1) := dk_42 (dk_at dksX1_astray_0 1 rfl rfl)
theorem dX1_astray_2 : decode cX1_astray 2 = .ok (.getfield 27, 3) := dk_180 0 27 (dk_at dksX1_astray_0 2 rfl rfl)
theorem dX1_astray_5 : decode cX1_astray 5 = .ok (.iconst 0, 1) := dk_3 (dk_at dksX1_astray_0 5 rfl rfl)
theorem dX1_astray_6 : decode cX1_astray 6 = .ok (.aaload, 1) := dk_50 (dk_at dksX1_astray_0 6 rfl rfl)
theorem dX1_astray_7 : decode cX1_astray 7 = .ok (.invokevirtual 327, 3) := dk_182 1 71 (dk_at dksX1_astray_0 7 rfl rfl)
theorem dX1_astray_10 : decode cX1_astray 10 = .ok (.aload_n 0, 1) := dk_42 (dk_at dksX1_astray_0 10 rfl rfl)
theorem dX1_astray_11 : decode cX1_astray 11 = .ok (.getfield 27, 3) := dk_180 0 27 (dk_at dksX1_astray_0 11 rfl rfl)
theorem dX1_astray_14 : decode cX1_astray 14 = .ok (.iconst 0, 1) := dk_3 (dk_at dksX1_astray_0 14 rfl rfl)
theorem dX1_astray_15 : decode cX1_astray 15 = .ok (.aaload, 1) := dk_50 (dk_at dksX1_astray_0 15 rfl rfl)
theorem dX1_astray_16 : decode cX1_astray 16 = .ok (.invokevirtual 341, 3) := dk_182 1 85 (dk_at dksX1_astray_0 16 rfl rfl)
theorem dX1_astray_19 : decode cX1_astray 19 = .ok (.aload_n 0, 1) := dk_42 (dk_at dksX1_astray_0 19 rfl rfl)
theorem dX1_astray_20 : decode cX1_astray 20 = .ok (.getfield 31, 3) := dk_180 0 31 (dk_at dksX1_astray_0 20 rfl rfl)
theorem dX1_astray_23 : decode cX1_astray 23 = .ok (.if_icmp .ne 7, 3) := dk_160 0 7 (dk_at dksX1_astray_1 0 rfl rfl)
theorem dX1_astray_26 : decode cX1_astray 26 = .ok (.iconst 0, 1) := dk_3 (dk_at dksX1_astray_1 3 rfl rfl)
theorem dX1_astray_27 : decode cX1_astray 27 = .ok (.goto 4, 3) := dk_167 0 4 (dk_at dksX1_astray_1 4 rfl rfl)
theorem dX1_astray_30 : decode cX1_astray 30 = .ok (.iconst 1, 1) := dk_4 (dk_at dksX1_astray_1 7 rfl rfl)
theorem dX1_astray_31 : decode cX1_astray 31 = .ok (.iadd, 1) := dk_96 (dk_at dksX1_astray_1 8 rfl rfl)
theorem dX1_astray_32 : decode cX1_astray 32 = .ok (.ireturn, 1) := dk_172 (dk_at dksX1_astray_1 9 rfl rfl)
abbrev cX1_wrongs : ByteArray := prog_1_method_41_code
def yX1_wrongs : MethodName := ⟨RX1, "wrongs", "(LPageBanks$Bank;)I"⟩
def dkwX1_wrongs_9 : List UInt8 := [160, 0, 15, 28, 43, 180, 1, 41, 163, 0, 7, 3, 167, 0, 4, 4, 96, 172]
abbrev dktX1_wrongs_9 : List UInt8 := dkwX1_wrongs_9 ++ []
def dkwX1_wrongs_8 : List UInt8 := [182, 0, 224, 160, 0, 7, 3, 167, 0, 4, 4, 96, 62, 167, 255, 173, 29, 28, 43, 180, 1, 39]
abbrev dktX1_wrongs_8 : List UInt8 := dkwX1_wrongs_8 ++ dktX1_wrongs_9
def dkwX1_wrongs_7 : List UInt8 := [180, 0, 183, 182, 1, 82, 154, 0, 26, 42, 180, 0, 22, 25, 5, 180, 0, 183, 182, 1, 82, 43]
abbrev dktX1_wrongs_7 : List UInt8 := dkwX1_wrongs_7 ++ dktX1_wrongs_8
def dkwX1_wrongs_6 : List UInt8 := [166, 0, 54, 25, 5, 180, 1, 75, 180, 1, 79, 25, 5, 166, 0, 41, 42, 180, 0, 18, 25, 5]
abbrev dktX1_wrongs_6 : List UInt8 := dkwX1_wrongs_6 ++ dktX1_wrongs_7
def dkwX1_wrongs_5 : List UInt8 := [185, 0, 245, 1, 0, 153, 0, 79, 25, 4, 185, 0, 250, 1, 0, 58, 5, 29, 25, 5, 180, 0, 152, 43]
abbrev dktX1_wrongs_5 : List UInt8 := dkwX1_wrongs_5 ++ dktX1_wrongs_6
def dkwX1_wrongs_4 : List UInt8 := [25, 5, 182, 1, 71, 96, 62, 167, 255, 200, 43, 180, 0, 156, 182, 0, 241, 58, 4, 25, 4]
abbrev dktX1_wrongs_4 : List UInt8 := dkwX1_wrongs_4 ++ dktX1_wrongs_5
def dkwX1_wrongs_3 : List UInt8 := [180, 1, 39, 96, 61, 29, 25, 5, 180, 0, 208, 43, 166, 0, 7, 3, 167, 0, 4, 4, 96, 62, 29, 42]
abbrev dktX1_wrongs_3 : List UInt8 := dkwX1_wrongs_3 ++ dktX1_wrongs_4
def dkwX1_wrongs_2 : List UInt8 := [185, 1, 62, 1, 0, 153, 0, 52, 25, 4, 185, 1, 65, 1, 0, 192, 0, 25, 58, 5, 28, 25, 5]
abbrev dktX1_wrongs_2 : List UInt8 := dkwX1_wrongs_2 ++ dktX1_wrongs_3
def dkwX1_wrongs_1 : List UInt8 := [166, 0, 7, 3, 167, 0, 4, 4, 62, 43, 180, 0, 211, 185, 1, 58, 1, 0, 58, 4, 25, 4]
abbrev dktX1_wrongs_1 : List UInt8 := dkwX1_wrongs_1 ++ dktX1_wrongs_2
def dkwX1_wrongs_0 : List UInt8 := [43, 180, 0, 156, 180, 1, 54, 43, 180, 0, 186, 96, 61, 42, 180, 0, 27, 43, 180, 0, 99, 50, 43]
abbrev dktX1_wrongs_0 : List UInt8 := dkwX1_wrongs_0 ++ dktX1_wrongs_1
theorem dksX1_wrongs_0 : cX1_wrongs.data.toList.drop 0 = dktX1_wrongs_0 := by decide +kernel
theorem dksX1_wrongs_1 : cX1_wrongs.data.toList.drop 23 = dktX1_wrongs_1 := dk_seg dksX1_wrongs_0 23 rfl rfl
theorem dksX1_wrongs_2 : cX1_wrongs.data.toList.drop 45 = dktX1_wrongs_2 := dk_seg dksX1_wrongs_1 22 rfl rfl
theorem dksX1_wrongs_3 : cX1_wrongs.data.toList.drop 68 = dktX1_wrongs_3 := dk_seg dksX1_wrongs_2 23 rfl rfl
theorem dksX1_wrongs_4 : cX1_wrongs.data.toList.drop 92 = dktX1_wrongs_4 := dk_seg dksX1_wrongs_3 24 rfl rfl
theorem dksX1_wrongs_5 : cX1_wrongs.data.toList.drop 113 = dktX1_wrongs_5 := dk_seg dksX1_wrongs_4 21 rfl rfl
theorem dksX1_wrongs_6 : cX1_wrongs.data.toList.drop 137 = dktX1_wrongs_6 := dk_seg dksX1_wrongs_5 24 rfl rfl
theorem dksX1_wrongs_7 : cX1_wrongs.data.toList.drop 159 = dktX1_wrongs_7 := dk_seg dksX1_wrongs_6 22 rfl rfl
theorem dksX1_wrongs_8 : cX1_wrongs.data.toList.drop 181 = dktX1_wrongs_8 := dk_seg dksX1_wrongs_7 22 rfl rfl
theorem dksX1_wrongs_9 : cX1_wrongs.data.toList.drop 203 = dktX1_wrongs_9 := dk_seg dksX1_wrongs_8 22 rfl rfl
theorem dX1_wrongs_0 : decode cX1_wrongs 0 = .ok (.aload_n 1, 1) := dk_43 (dk_at dksX1_wrongs_0 0 rfl rfl)
theorem dX1_wrongs_1 : decode cX1_wrongs 1 = .ok (.getfield 156, 3) := dk_180 0 156 (dk_at dksX1_wrongs_0 1 rfl rfl)
theorem dX1_wrongs_4 : decode cX1_wrongs 4 = .ok (.getfield 310, 3) := dk_180 1 54 (dk_at dksX1_wrongs_0 4 rfl rfl)
theorem dX1_wrongs_7 : decode cX1_wrongs 7 = .ok (.aload_n 1, 1) := dk_43 (dk_at dksX1_wrongs_0 7 rfl rfl)
theorem dX1_wrongs_8 : decode cX1_wrongs 8 = .ok (.getfield 186, 3) := dk_180 0 186 (dk_at dksX1_wrongs_0 8 rfl rfl)
theorem dX1_wrongs_11 : decode cX1_wrongs 11 = .ok (.iadd, 1) := dk_96 (dk_at dksX1_wrongs_0 11 rfl rfl)
theorem dX1_wrongs_12 : decode cX1_wrongs 12 = .ok (.istore_n 2, 1) := dk_61 (dk_at dksX1_wrongs_0 12 rfl rfl)
theorem dX1_wrongs_13 : decode cX1_wrongs 13 = .ok (.aload_n 0, 1) := dk_42 (dk_at dksX1_wrongs_0 13 rfl rfl)
theorem dX1_wrongs_14 : decode cX1_wrongs 14 = .ok (.getfield 27, 3) := dk_180 0 27 (dk_at dksX1_wrongs_0 14 rfl rfl)
theorem dX1_wrongs_17 : decode cX1_wrongs 17 = .ok (.aload_n 1, 1) := dk_43 (dk_at dksX1_wrongs_0 17 rfl rfl)
theorem dX1_wrongs_18 : decode cX1_wrongs 18 = .ok (.getfield 99, 3) := dk_180 0 99 (dk_at dksX1_wrongs_0 18 rfl rfl)
theorem dX1_wrongs_21 : decode cX1_wrongs 21 = .ok (.aaload, 1) := dk_50 (dk_at dksX1_wrongs_0 21 rfl rfl)
theorem dX1_wrongs_22 : decode cX1_wrongs 22 = .ok (.aload_n 1, 1) := dk_43 (dk_at dksX1_wrongs_0 22 rfl rfl)
theorem dX1_wrongs_23 : decode cX1_wrongs 23 = .ok (.if_acmp .ne 7, 3) := dk_166 0 7 (dk_at dksX1_wrongs_1 0 rfl rfl)
theorem dX1_wrongs_26 : decode cX1_wrongs 26 = .ok (.iconst 0, 1) := dk_3 (dk_at dksX1_wrongs_1 3 rfl rfl)
theorem dX1_wrongs_27 : decode cX1_wrongs 27 = .ok (.goto 4, 3) := dk_167 0 4 (dk_at dksX1_wrongs_1 4 rfl rfl)
theorem dX1_wrongs_30 : decode cX1_wrongs 30 = .ok (.iconst 1, 1) := dk_4 (dk_at dksX1_wrongs_1 7 rfl rfl)
theorem dX1_wrongs_31 : decode cX1_wrongs 31 = .ok (.istore_n 3, 1) := dk_62 (dk_at dksX1_wrongs_1 8 rfl rfl)
theorem dX1_wrongs_32 : decode cX1_wrongs 32 = .ok (.aload_n 1, 1) := dk_43 (dk_at dksX1_wrongs_1 9 rfl rfl)
theorem dX1_wrongs_33 : decode cX1_wrongs 33 = .ok (.getfield 211, 3) := dk_180 0 211 (dk_at dksX1_wrongs_1 10 rfl rfl)
theorem dX1_wrongs_36 : decode cX1_wrongs 36 = .ok (.invokeinterface 314 1, 5) := by decide +kernel
theorem dX1_wrongs_41 : decode cX1_wrongs 41 = .ok (.astore 4, 2) := dk_58 4 (dk_at dksX1_wrongs_1 18 rfl rfl)
theorem dX1_wrongs_43 : decode cX1_wrongs 43 = .ok (.aload 4, 2) := dk_25 4 (dk_at dksX1_wrongs_1 20 rfl rfl)
theorem dX1_wrongs_45 : decode cX1_wrongs 45 = .ok (.invokeinterface 318 1, 5) := by decide +kernel
theorem dX1_wrongs_50 : decode cX1_wrongs 50 = .ok (.ifCond .eq 52, 3) := dk_153 0 52 (dk_at dksX1_wrongs_2 5 rfl rfl)
theorem dX1_wrongs_53 : decode cX1_wrongs 53 = .ok (.aload 4, 2) := dk_25 4 (dk_at dksX1_wrongs_2 8 rfl rfl)
theorem dX1_wrongs_55 : decode cX1_wrongs 55 = .ok (.invokeinterface 321 1, 5) := by decide +kernel
theorem dX1_wrongs_60 : decode cX1_wrongs 60 = .ok (.checkcast 25, 3) := dk_192 0 25 (dk_at dksX1_wrongs_2 15 rfl rfl)
theorem dX1_wrongs_63 : decode cX1_wrongs 63 = .ok (.astore 5, 2) := dk_58 5 (dk_at dksX1_wrongs_2 18 rfl rfl)
theorem dX1_wrongs_65 : decode cX1_wrongs 65 = .ok (.iload_n 2, 1) := dk_28 (dk_at dksX1_wrongs_2 20 rfl rfl)
theorem dX1_wrongs_66 : decode cX1_wrongs 66 = .ok (.aload 5, 2) := dk_25 5 (dk_at dksX1_wrongs_2 21 rfl rfl)
theorem dX1_wrongs_68 : decode cX1_wrongs 68 = .ok (.getfield 295, 3) := dk_180 1 39 (dk_at dksX1_wrongs_3 0 rfl rfl)
theorem dX1_wrongs_71 : decode cX1_wrongs 71 = .ok (.iadd, 1) := dk_96 (dk_at dksX1_wrongs_3 3 rfl rfl)
theorem dX1_wrongs_72 : decode cX1_wrongs 72 = .ok (.istore_n 2, 1) := dk_61 (dk_at dksX1_wrongs_3 4 rfl rfl)
theorem dX1_wrongs_73 : decode cX1_wrongs 73 = .ok (.iload_n 3, 1) := dk_29 (dk_at dksX1_wrongs_3 5 rfl rfl)
theorem dX1_wrongs_74 : decode cX1_wrongs 74 = .ok (.aload 5, 2) := dk_25 5 (dk_at dksX1_wrongs_3 6 rfl rfl)
theorem dX1_wrongs_76 : decode cX1_wrongs 76 = .ok (.getfield 208, 3) := dk_180 0 208 (dk_at dksX1_wrongs_3 8 rfl rfl)
theorem dX1_wrongs_79 : decode cX1_wrongs 79 = .ok (.aload_n 1, 1) := dk_43 (dk_at dksX1_wrongs_3 11 rfl rfl)
theorem dX1_wrongs_80 : decode cX1_wrongs 80 = .ok (.if_acmp .ne 7, 3) := dk_166 0 7 (dk_at dksX1_wrongs_3 12 rfl rfl)
theorem dX1_wrongs_83 : decode cX1_wrongs 83 = .ok (.iconst 0, 1) := dk_3 (dk_at dksX1_wrongs_3 15 rfl rfl)
theorem dX1_wrongs_84 : decode cX1_wrongs 84 = .ok (.goto 4, 3) := dk_167 0 4 (dk_at dksX1_wrongs_3 16 rfl rfl)
theorem dX1_wrongs_87 : decode cX1_wrongs 87 = .ok (.iconst 1, 1) := dk_4 (dk_at dksX1_wrongs_3 19 rfl rfl)
theorem dX1_wrongs_88 : decode cX1_wrongs 88 = .ok (.iadd, 1) := dk_96 (dk_at dksX1_wrongs_3 20 rfl rfl)
theorem dX1_wrongs_89 : decode cX1_wrongs 89 = .ok (.istore_n 3, 1) := dk_62 (dk_at dksX1_wrongs_3 21 rfl rfl)
theorem dX1_wrongs_90 : decode cX1_wrongs 90 = .ok (.iload_n 3, 1) := dk_29 (dk_at dksX1_wrongs_3 22 rfl rfl)
theorem dX1_wrongs_91 : decode cX1_wrongs 91 = .ok (.aload_n 0, 1) := dk_42 (dk_at dksX1_wrongs_3 23 rfl rfl)
theorem dX1_wrongs_92 : decode cX1_wrongs 92 = .ok (.aload 5, 2) := dk_25 5 (dk_at dksX1_wrongs_4 0 rfl rfl)
theorem dX1_wrongs_94 : decode cX1_wrongs 94 = .ok (.invokevirtual 327, 3) := dk_182 1 71 (dk_at dksX1_wrongs_4 2 rfl rfl)
theorem dX1_wrongs_97 : decode cX1_wrongs 97 = .ok (.iadd, 1) := dk_96 (dk_at dksX1_wrongs_4 5 rfl rfl)
theorem dX1_wrongs_98 : decode cX1_wrongs 98 = .ok (.istore_n 3, 1) := dk_62 (dk_at dksX1_wrongs_4 6 rfl rfl)
theorem dX1_wrongs_99 : decode cX1_wrongs 99 = .ok (.goto (-56), 3) := dk_167 255 200 (dk_at dksX1_wrongs_4 7 rfl rfl)
theorem dX1_wrongs_102 : decode cX1_wrongs 102 = .ok (.aload_n 1, 1) := dk_43 (dk_at dksX1_wrongs_4 10 rfl rfl)
theorem dX1_wrongs_103 : decode cX1_wrongs 103 = .ok (.getfield 156, 3) := dk_180 0 156 (dk_at dksX1_wrongs_4 11 rfl rfl)
theorem dX1_wrongs_106 : decode cX1_wrongs 106 = .ok (.invokevirtual 241, 3) := dk_182 0 241 (dk_at dksX1_wrongs_4 14 rfl rfl)
theorem dX1_wrongs_109 : decode cX1_wrongs 109 = .ok (.astore 4, 2) := dk_58 4 (dk_at dksX1_wrongs_4 17 rfl rfl)
theorem dX1_wrongs_111 : decode cX1_wrongs 111 = .ok (.aload 4, 2) := dk_25 4 (dk_at dksX1_wrongs_4 19 rfl rfl)
theorem dX1_wrongs_113 : decode cX1_wrongs 113 = .ok (.invokeinterface 245 1, 5) := by decide +kernel
theorem dX1_wrongs_118 : decode cX1_wrongs 118 = .ok (.ifCond .eq 79, 3) := dk_153 0 79 (dk_at dksX1_wrongs_5 5 rfl rfl)
theorem dX1_wrongs_121 : decode cX1_wrongs 121 = .ok (.aload 4, 2) := dk_25 4 (dk_at dksX1_wrongs_5 8 rfl rfl)
theorem dX1_wrongs_123 : decode cX1_wrongs 123 = .ok (.invokeinterface 250 1, 5) := by decide +kernel
theorem dX1_wrongs_128 : decode cX1_wrongs 128 = .ok (.astore 5, 2) := dk_58 5 (dk_at dksX1_wrongs_5 15 rfl rfl)
theorem dX1_wrongs_130 : decode cX1_wrongs 130 = .ok (.iload_n 3, 1) := dk_29 (dk_at dksX1_wrongs_5 17 rfl rfl)
theorem dX1_wrongs_131 : decode cX1_wrongs 131 = .ok (.aload 5, 2) := dk_25 5 (dk_at dksX1_wrongs_5 18 rfl rfl)
theorem dX1_wrongs_133 : decode cX1_wrongs 133 = .ok (.getfield 152, 3) := dk_180 0 152 (dk_at dksX1_wrongs_5 20 rfl rfl)
theorem dX1_wrongs_136 : decode cX1_wrongs 136 = .ok (.aload_n 1, 1) := dk_43 (dk_at dksX1_wrongs_5 23 rfl rfl)
theorem dX1_wrongs_137 : decode cX1_wrongs 137 = .ok (.if_acmp .ne 54, 3) := dk_166 0 54 (dk_at dksX1_wrongs_6 0 rfl rfl)
theorem dX1_wrongs_140 : decode cX1_wrongs 140 = .ok (.aload 5, 2) := dk_25 5 (dk_at dksX1_wrongs_6 3 rfl rfl)
theorem dX1_wrongs_142 : decode cX1_wrongs 142 = .ok (.getfield 331, 3) := dk_180 1 75 (dk_at dksX1_wrongs_6 5 rfl rfl)
theorem dX1_wrongs_145 : decode cX1_wrongs 145 = .ok (.getfield 335, 3) := dk_180 1 79 (dk_at dksX1_wrongs_6 8 rfl rfl)
theorem dX1_wrongs_148 : decode cX1_wrongs 148 = .ok (.aload 5, 2) := dk_25 5 (dk_at dksX1_wrongs_6 11 rfl rfl)
theorem dX1_wrongs_150 : decode cX1_wrongs 150 = .ok (.if_acmp .ne 41, 3) := dk_166 0 41 (dk_at dksX1_wrongs_6 13 rfl rfl)
theorem dX1_wrongs_153 : decode cX1_wrongs 153 = .ok (.aload_n 0, 1) := dk_42 (dk_at dksX1_wrongs_6 16 rfl rfl)
theorem dX1_wrongs_154 : decode cX1_wrongs 154 = .ok (.getfield 18, 3) := dk_180 0 18 (dk_at dksX1_wrongs_6 17 rfl rfl)
theorem dX1_wrongs_157 : decode cX1_wrongs 157 = .ok (.aload 5, 2) := dk_25 5 (dk_at dksX1_wrongs_6 20 rfl rfl)
theorem dX1_wrongs_159 : decode cX1_wrongs 159 = .ok (.getfield 183, 3) := dk_180 0 183 (dk_at dksX1_wrongs_7 0 rfl rfl)
theorem dX1_wrongs_162 : decode cX1_wrongs 162 = .ok (.invokevirtual 338, 3) := dk_182 1 82 (dk_at dksX1_wrongs_7 3 rfl rfl)
theorem dX1_wrongs_165 : decode cX1_wrongs 165 = .ok (.ifCond .ne 26, 3) := dk_154 0 26 (dk_at dksX1_wrongs_7 6 rfl rfl)
theorem dX1_wrongs_168 : decode cX1_wrongs 168 = .ok (.aload_n 0, 1) := dk_42 (dk_at dksX1_wrongs_7 9 rfl rfl)
theorem dX1_wrongs_169 : decode cX1_wrongs 169 = .ok (.getfield 22, 3) := dk_180 0 22 (dk_at dksX1_wrongs_7 10 rfl rfl)
theorem dX1_wrongs_172 : decode cX1_wrongs 172 = .ok (.aload 5, 2) := dk_25 5 (dk_at dksX1_wrongs_7 13 rfl rfl)
theorem dX1_wrongs_174 : decode cX1_wrongs 174 = .ok (.getfield 183, 3) := dk_180 0 183 (dk_at dksX1_wrongs_7 15 rfl rfl)
theorem dX1_wrongs_177 : decode cX1_wrongs 177 = .ok (.invokevirtual 338, 3) := dk_182 1 82 (dk_at dksX1_wrongs_7 18 rfl rfl)
theorem dX1_wrongs_180 : decode cX1_wrongs 180 = .ok (.aload_n 1, 1) := dk_43 (dk_at dksX1_wrongs_7 21 rfl rfl)
theorem dX1_wrongs_181 : decode cX1_wrongs 181 = .ok (.invokevirtual 224, 3) := dk_182 0 224 (dk_at dksX1_wrongs_8 0 rfl rfl)
theorem dX1_wrongs_184 : decode cX1_wrongs 184 = .ok (.if_icmp .ne 7, 3) := dk_160 0 7 (dk_at dksX1_wrongs_8 3 rfl rfl)
theorem dX1_wrongs_187 : decode cX1_wrongs 187 = .ok (.iconst 0, 1) := dk_3 (dk_at dksX1_wrongs_8 6 rfl rfl)
theorem dX1_wrongs_188 : decode cX1_wrongs 188 = .ok (.goto 4, 3) := dk_167 0 4 (dk_at dksX1_wrongs_8 7 rfl rfl)
theorem dX1_wrongs_191 : decode cX1_wrongs 191 = .ok (.iconst 1, 1) := dk_4 (dk_at dksX1_wrongs_8 10 rfl rfl)
theorem dX1_wrongs_192 : decode cX1_wrongs 192 = .ok (.iadd, 1) := dk_96 (dk_at dksX1_wrongs_8 11 rfl rfl)
theorem dX1_wrongs_193 : decode cX1_wrongs 193 = .ok (.istore_n 3, 1) := dk_62 (dk_at dksX1_wrongs_8 12 rfl rfl)
theorem dX1_wrongs_194 : decode cX1_wrongs 194 = .ok (.goto (-83), 3) := dk_167 255 173 (dk_at dksX1_wrongs_8 13 rfl rfl)
theorem dX1_wrongs_197 : decode cX1_wrongs 197 = .ok (.iload_n 3, 1) := dk_29 (dk_at dksX1_wrongs_8 16 rfl rfl)
theorem dX1_wrongs_198 : decode cX1_wrongs 198 = .ok (.iload_n 2, 1) := dk_28 (dk_at dksX1_wrongs_8 17 rfl rfl)
theorem dX1_wrongs_199 : decode cX1_wrongs 199 = .ok (.aload_n 1, 1) := dk_43 (dk_at dksX1_wrongs_8 18 rfl rfl)
theorem dX1_wrongs_200 : decode cX1_wrongs 200 = .ok (.getfield 295, 3) := dk_180 1 39 (dk_at dksX1_wrongs_8 19 rfl rfl)
theorem dX1_wrongs_203 : decode cX1_wrongs 203 = .ok (.if_icmp .ne 15, 3) := dk_160 0 15 (dk_at dksX1_wrongs_9 0 rfl rfl)
theorem dX1_wrongs_206 : decode cX1_wrongs 206 = .ok (.iload_n 2, 1) := dk_28 (dk_at dksX1_wrongs_9 3 rfl rfl)
theorem dX1_wrongs_207 : decode cX1_wrongs 207 = .ok (.aload_n 1, 1) := dk_43 (dk_at dksX1_wrongs_9 4 rfl rfl)
theorem dX1_wrongs_208 : decode cX1_wrongs 208 = .ok (.getfield 297, 3) := dk_180 1 41 (dk_at dksX1_wrongs_9 5 rfl rfl)
theorem dX1_wrongs_211 : decode cX1_wrongs 211 = .ok (.if_icmp .gt 7, 3) := dk_163 0 7 (dk_at dksX1_wrongs_9 8 rfl rfl)
theorem dX1_wrongs_214 : decode cX1_wrongs 214 = .ok (.iconst 0, 1) := dk_3 (dk_at dksX1_wrongs_9 11 rfl rfl)
theorem dX1_wrongs_215 : decode cX1_wrongs 215 = .ok (.goto 4, 3) := dk_167 0 4 (dk_at dksX1_wrongs_9 12 rfl rfl)
theorem dX1_wrongs_218 : decode cX1_wrongs 218 = .ok (.iconst 1, 1) := dk_4 (dk_at dksX1_wrongs_9 15 rfl rfl)
theorem dX1_wrongs_219 : decode cX1_wrongs 219 = .ok (.iadd, 1) := dk_96 (dk_at dksX1_wrongs_9 16 rfl rfl)
theorem dX1_wrongs_220 : decode cX1_wrongs 220 = .ok (.ireturn, 1) := dk_172 (dk_at dksX1_wrongs_9 17 rfl rfl)
abbrev cX1_bank : ByteArray := prog_1_method_19_code
def yX1_bank : MethodName := ⟨RX1, "bank", "(II)I"⟩
def dkwX1_bank_4 : List UInt8 := [89, 180, 0, 31, 4, 96, 181, 0, 31, 21, 4, 172]
abbrev dktX1_bank_4 : List UInt8 := dkwX1_bank_4 ++ []
def dkwX1_bank_3 : List UInt8 := [45, 28, 183, 0, 89, 83, 45, 180, 0, 211, 42, 180, 0, 27, 21, 4, 50, 185, 1, 13, 2, 0, 87, 42]
abbrev dktX1_bank_3 : List UInt8 := dkwX1_bank_3 ++ dktX1_bank_4
def dkwX1_bank_2 : List UInt8 := [21, 4, 50, 198, 0, 9, 132, 4, 1, 167, 255, 243, 42, 180, 0, 27, 21, 4, 187, 0, 25, 89, 21, 4]
abbrev dktX1_bank_2 : List UInt8 := dkwX1_bank_2 ++ dktX1_bank_3
def dkwX1_bank_1 : List UInt8 := [159, 0, 12, 42, 180, 0, 31, 16, 40, 160, 0, 8, 42, 1, 182, 0, 127, 4, 54, 4, 42, 180, 0, 27]
abbrev dktX1_bank_1 : List UInt8 := dkwX1_bank_1 ++ dktX1_bank_2
def dkwX1_bank_0 : List UInt8 := [42, 27, 182, 1, 4, 78, 42, 42, 180, 0, 69, 45, 28, 3, 182, 1, 6, 45, 182, 1, 10, 16, 6]
abbrev dktX1_bank_0 : List UInt8 := dkwX1_bank_0 ++ dktX1_bank_1
theorem dksX1_bank_0 : cX1_bank.data.toList.drop 0 = dktX1_bank_0 := by decide +kernel
theorem dksX1_bank_1 : cX1_bank.data.toList.drop 23 = dktX1_bank_1 := dk_seg dksX1_bank_0 23 rfl rfl
theorem dksX1_bank_2 : cX1_bank.data.toList.drop 47 = dktX1_bank_2 := dk_seg dksX1_bank_1 24 rfl rfl
theorem dksX1_bank_3 : cX1_bank.data.toList.drop 71 = dktX1_bank_3 := dk_seg dksX1_bank_2 24 rfl rfl
theorem dksX1_bank_4 : cX1_bank.data.toList.drop 95 = dktX1_bank_4 := dk_seg dksX1_bank_3 24 rfl rfl
theorem dX1_bank_0 : decode cX1_bank 0 = .ok (.aload_n 0, 1) := dk_42 (dk_at dksX1_bank_0 0 rfl rfl)
theorem dX1_bank_1 : decode cX1_bank 1 = .ok (.iload_n 1, 1) := dk_27 (dk_at dksX1_bank_0 1 rfl rfl)
theorem dX1_bank_2 : decode cX1_bank 2 = .ok (.invokevirtual 260, 3) := dk_182 1 4 (dk_at dksX1_bank_0 2 rfl rfl)
theorem dX1_bank_5 : decode cX1_bank 5 = .ok (.astore_n 3, 1) := dk_78 (dk_at dksX1_bank_0 5 rfl rfl)
theorem dX1_bank_6 : decode cX1_bank 6 = .ok (.aload_n 0, 1) := dk_42 (dk_at dksX1_bank_0 6 rfl rfl)
theorem dX1_bank_7 : decode cX1_bank 7 = .ok (.aload_n 0, 1) := dk_42 (dk_at dksX1_bank_0 7 rfl rfl)
theorem dX1_bank_8 : decode cX1_bank 8 = .ok (.getfield 69, 3) := dk_180 0 69 (dk_at dksX1_bank_0 8 rfl rfl)
theorem dX1_bank_11 : decode cX1_bank 11 = .ok (.aload_n 3, 1) := dk_45 (dk_at dksX1_bank_0 11 rfl rfl)
theorem dX1_bank_12 : decode cX1_bank 12 = .ok (.iload_n 2, 1) := dk_28 (dk_at dksX1_bank_0 12 rfl rfl)
theorem dX1_bank_13 : decode cX1_bank 13 = .ok (.iconst 0, 1) := dk_3 (dk_at dksX1_bank_0 13 rfl rfl)
theorem dX1_bank_14 : decode cX1_bank 14 = .ok (.invokevirtual 262, 3) := dk_182 1 6 (dk_at dksX1_bank_0 14 rfl rfl)
theorem dX1_bank_17 : decode cX1_bank 17 = .ok (.aload_n 3, 1) := dk_45 (dk_at dksX1_bank_0 17 rfl rfl)
theorem dX1_bank_18 : decode cX1_bank 18 = .ok (.invokevirtual 266, 3) := dk_182 1 10 (dk_at dksX1_bank_0 18 rfl rfl)
theorem dX1_bank_21 : decode cX1_bank 21 = .ok (.bipush 6, 2) := dk_16 6 (dk_at dksX1_bank_0 21 rfl rfl)
theorem dX1_bank_23 : decode cX1_bank 23 = .ok (.if_icmp .eq 12, 3) := dk_159 0 12 (dk_at dksX1_bank_1 0 rfl rfl)
theorem dX1_bank_26 : decode cX1_bank 26 = .ok (.aload_n 0, 1) := dk_42 (dk_at dksX1_bank_1 3 rfl rfl)
theorem dX1_bank_27 : decode cX1_bank 27 = .ok (.getfield 31, 3) := dk_180 0 31 (dk_at dksX1_bank_1 4 rfl rfl)
theorem dX1_bank_30 : decode cX1_bank 30 = .ok (.bipush 40, 2) := dk_16 40 (dk_at dksX1_bank_1 7 rfl rfl)
theorem dX1_bank_32 : decode cX1_bank 32 = .ok (.if_icmp .ne 8, 3) := dk_160 0 8 (dk_at dksX1_bank_1 9 rfl rfl)
theorem dX1_bank_35 : decode cX1_bank 35 = .ok (.aload_n 0, 1) := dk_42 (dk_at dksX1_bank_1 12 rfl rfl)
theorem dX1_bank_36 : decode cX1_bank 36 = .ok (.aconst_null, 1) := dk_1 (dk_at dksX1_bank_1 13 rfl rfl)
theorem dX1_bank_37 : decode cX1_bank 37 = .ok (.invokevirtual 127, 3) := dk_182 0 127 (dk_at dksX1_bank_1 14 rfl rfl)
theorem dX1_bank_40 : decode cX1_bank 40 = .ok (.iconst 1, 1) := dk_4 (dk_at dksX1_bank_1 17 rfl rfl)
theorem dX1_bank_41 : decode cX1_bank 41 = .ok (.istore 4, 2) := dk_54 4 (dk_at dksX1_bank_1 18 rfl rfl)
theorem dX1_bank_43 : decode cX1_bank 43 = .ok (.aload_n 0, 1) := dk_42 (dk_at dksX1_bank_1 20 rfl rfl)
theorem dX1_bank_44 : decode cX1_bank 44 = .ok (.getfield 27, 3) := dk_180 0 27 (dk_at dksX1_bank_1 21 rfl rfl)
theorem dX1_bank_47 : decode cX1_bank 47 = .ok (.iload 4, 2) := dk_21 4 (dk_at dksX1_bank_2 0 rfl rfl)
theorem dX1_bank_49 : decode cX1_bank 49 = .ok (.aaload, 1) := dk_50 (dk_at dksX1_bank_2 2 rfl rfl)
theorem dX1_bank_50 : decode cX1_bank 50 = .ok (.ifnull 9, 3) := dk_198 0 9 (dk_at dksX1_bank_2 3 rfl rfl)
theorem dX1_bank_53 : decode cX1_bank 53 = .ok (.iinc 4 1, 3) := dk_132 4 1 (dk_at dksX1_bank_2 6 rfl rfl)
theorem dX1_bank_56 : decode cX1_bank 56 = .ok (.goto (-13), 3) := dk_167 255 243 (dk_at dksX1_bank_2 9 rfl rfl)
theorem dX1_bank_59 : decode cX1_bank 59 = .ok (.aload_n 0, 1) := dk_42 (dk_at dksX1_bank_2 12 rfl rfl)
theorem dX1_bank_60 : decode cX1_bank 60 = .ok (.getfield 27, 3) := dk_180 0 27 (dk_at dksX1_bank_2 13 rfl rfl)
theorem dX1_bank_63 : decode cX1_bank 63 = .ok (.iload 4, 2) := dk_21 4 (dk_at dksX1_bank_2 16 rfl rfl)
theorem dX1_bank_65 : decode cX1_bank 65 = .ok (.new 25, 3) := dk_187 0 25 (dk_at dksX1_bank_2 18 rfl rfl)
theorem dX1_bank_68 : decode cX1_bank 68 = .ok (.dup, 1) := dk_89 (dk_at dksX1_bank_2 21 rfl rfl)
theorem dX1_bank_69 : decode cX1_bank 69 = .ok (.iload 4, 2) := dk_21 4 (dk_at dksX1_bank_2 22 rfl rfl)
theorem dX1_bank_71 : decode cX1_bank 71 = .ok (.aload_n 3, 1) := dk_45 (dk_at dksX1_bank_3 0 rfl rfl)
theorem dX1_bank_72 : decode cX1_bank 72 = .ok (.iload_n 2, 1) := dk_28 (dk_at dksX1_bank_3 1 rfl rfl)
theorem dX1_bank_73 : decode cX1_bank 73 = .ok (.invokespecial 89, 3) := dk_183 0 89 (dk_at dksX1_bank_3 2 rfl rfl)
theorem dX1_bank_76 : decode cX1_bank 76 = .ok (.aastore, 1) := dk_83 (dk_at dksX1_bank_3 5 rfl rfl)
theorem dX1_bank_77 : decode cX1_bank 77 = .ok (.aload_n 3, 1) := dk_45 (dk_at dksX1_bank_3 6 rfl rfl)
theorem dX1_bank_78 : decode cX1_bank 78 = .ok (.getfield 211, 3) := dk_180 0 211 (dk_at dksX1_bank_3 7 rfl rfl)
theorem dX1_bank_81 : decode cX1_bank 81 = .ok (.aload_n 0, 1) := dk_42 (dk_at dksX1_bank_3 10 rfl rfl)
theorem dX1_bank_82 : decode cX1_bank 82 = .ok (.getfield 27, 3) := dk_180 0 27 (dk_at dksX1_bank_3 11 rfl rfl)
theorem dX1_bank_85 : decode cX1_bank 85 = .ok (.iload 4, 2) := dk_21 4 (dk_at dksX1_bank_3 14 rfl rfl)
theorem dX1_bank_87 : decode cX1_bank 87 = .ok (.aaload, 1) := dk_50 (dk_at dksX1_bank_3 16 rfl rfl)
theorem dX1_bank_88 : decode cX1_bank 88 = .ok (.invokeinterface 269 2, 5) := by decide +kernel
theorem dX1_bank_93 : decode cX1_bank 93 = .ok (.pop, 1) := dk_87 (dk_at dksX1_bank_3 22 rfl rfl)
theorem dX1_bank_94 : decode cX1_bank 94 = .ok (.aload_n 0, 1) := dk_42 (dk_at dksX1_bank_3 23 rfl rfl)
theorem dX1_bank_95 : decode cX1_bank 95 = .ok (.dup, 1) := dk_89 (dk_at dksX1_bank_4 0 rfl rfl)
theorem dX1_bank_96 : decode cX1_bank 96 = .ok (.getfield 31, 3) := dk_180 0 31 (dk_at dksX1_bank_4 1 rfl rfl)
theorem dX1_bank_99 : decode cX1_bank 99 = .ok (.iconst 1, 1) := dk_4 (dk_at dksX1_bank_4 4 rfl rfl)
theorem dX1_bank_100 : decode cX1_bank 100 = .ok (.iadd, 1) := dk_96 (dk_at dksX1_bank_4 5 rfl rfl)
theorem dX1_bank_101 : decode cX1_bank 101 = .ok (.putfield 31, 3) := dk_181 0 31 (dk_at dksX1_bank_4 6 rfl rfl)
theorem dX1_bank_104 : decode cX1_bank 104 = .ok (.iload 4, 2) := dk_21 4 (dk_at dksX1_bank_4 9 rfl rfl)
theorem dX1_bank_106 : decode cX1_bank 106 = .ok (.ireturn, 1) := dk_172 (dk_at dksX1_bank_4 11 rfl rfl)
abbrev cX1_get : ByteArray := prog_1_method_3_code
def yX1_get : MethodName := ⟨RX1, "get", "(I)LPageBanks$Bank;"⟩
def dkwX1_get_1 : List UInt8 := [183, 0, 98, 191, 42, 180, 0, 27, 27, 50, 176]
abbrev dktX1_get_1 : List UInt8 := dkwX1_get_1 ++ []
def dkwX1_get_0 : List UInt8 := [27, 3, 16, 39, 184, 0, 92, 153, 0, 12, 42, 180, 0, 27, 27, 50, 199, 0, 11, 187, 0, 96, 89]
abbrev dktX1_get_0 : List UInt8 := dkwX1_get_0 ++ dktX1_get_1
theorem dksX1_get_0 : cX1_get.data.toList.drop 0 = dktX1_get_0 := by decide +kernel
theorem dksX1_get_1 : cX1_get.data.toList.drop 23 = dktX1_get_1 := dk_seg dksX1_get_0 23 rfl rfl
theorem dX1_get_0 : decode cX1_get 0 = .ok (.iload_n 1, 1) := dk_27 (dk_at dksX1_get_0 0 rfl rfl)
theorem dX1_get_1 : decode cX1_get 1 = .ok (.iconst 0, 1) := dk_3 (dk_at dksX1_get_0 1 rfl rfl)
theorem dX1_get_2 : decode cX1_get 2 = .ok (.bipush 39, 2) := dk_16 39 (dk_at dksX1_get_0 2 rfl rfl)
theorem dX1_get_4 : decode cX1_get 4 = .ok (.invokestatic 92, 3) := dk_184 0 92 (dk_at dksX1_get_0 4 rfl rfl)
theorem dX1_get_7 : decode cX1_get 7 = .ok (.ifCond .eq 12, 3) := dk_153 0 12 (dk_at dksX1_get_0 7 rfl rfl)
theorem dX1_get_10 : decode cX1_get 10 = .ok (.aload_n 0, 1) := dk_42 (dk_at dksX1_get_0 10 rfl rfl)
theorem dX1_get_11 : decode cX1_get 11 = .ok (.getfield 27, 3) := dk_180 0 27 (dk_at dksX1_get_0 11 rfl rfl)
theorem dX1_get_14 : decode cX1_get 14 = .ok (.iload_n 1, 1) := dk_27 (dk_at dksX1_get_0 14 rfl rfl)
theorem dX1_get_15 : decode cX1_get 15 = .ok (.aaload, 1) := dk_50 (dk_at dksX1_get_0 15 rfl rfl)
theorem dX1_get_16 : decode cX1_get 16 = .ok (.ifnonnull 11, 3) := dk_199 0 11 (dk_at dksX1_get_0 16 rfl rfl)
theorem dX1_get_19 : decode cX1_get 19 = .ok (.new 96, 3) := dk_187 0 96 (dk_at dksX1_get_0 19 rfl rfl)
theorem dX1_get_22 : decode cX1_get 22 = .ok (.dup, 1) := dk_89 (dk_at dksX1_get_0 22 rfl rfl)
theorem dX1_get_23 : decode cX1_get 23 = .ok (.invokespecial 98, 3) := dk_183 0 98 (dk_at dksX1_get_1 0 rfl rfl)
theorem dX1_get_26 : decode cX1_get 26 = .ok (.athrow, 1) := dk_191 (dk_at dksX1_get_1 3 rfl rfl)
theorem dX1_get_27 : decode cX1_get 27 = .ok (.aload_n 0, 1) := dk_42 (dk_at dksX1_get_1 4 rfl rfl)
theorem dX1_get_28 : decode cX1_get 28 = .ok (.getfield 27, 3) := dk_180 0 27 (dk_at dksX1_get_1 5 rfl rfl)
theorem dX1_get_31 : decode cX1_get 31 = .ok (.iload_n 1, 1) := dk_27 (dk_at dksX1_get_1 8 rfl rfl)
theorem dX1_get_32 : decode cX1_get 32 = .ok (.aaload, 1) := dk_50 (dk_at dksX1_get_1 9 rfl rfl)
theorem dX1_get_33 : decode cX1_get 33 = .ok (.areturn, 1) := dk_176 (dk_at dksX1_get_1 10 rfl rfl)
abbrev cX1_within : ByteArray := prog_1_method_1_code
def yX1_within : MethodName := ⟨RX1, "within", "(III)Z"⟩
def dkwX1_within_0 : List UInt8 := [26, 27, 161, 0, 12, 26, 28, 163, 0, 7, 4, 167, 0, 4, 3, 172]
abbrev dktX1_within_0 : List UInt8 := dkwX1_within_0 ++ []
theorem dksX1_within_0 : cX1_within.data.toList.drop 0 = dktX1_within_0 := by decide +kernel
theorem dX1_within_0 : decode cX1_within 0 = .ok (.iload_n 0, 1) := dk_26 (dk_at dksX1_within_0 0 rfl rfl)
theorem dX1_within_1 : decode cX1_within 1 = .ok (.iload_n 1, 1) := dk_27 (dk_at dksX1_within_0 1 rfl rfl)
theorem dX1_within_2 : decode cX1_within 2 = .ok (.if_icmp .lt 12, 3) := dk_161 0 12 (dk_at dksX1_within_0 2 rfl rfl)
theorem dX1_within_5 : decode cX1_within 5 = .ok (.iload_n 0, 1) := dk_26 (dk_at dksX1_within_0 5 rfl rfl)
theorem dX1_within_6 : decode cX1_within 6 = .ok (.iload_n 2, 1) := dk_28 (dk_at dksX1_within_0 6 rfl rfl)
theorem dX1_within_7 : decode cX1_within 7 = .ok (.if_icmp .gt 7, 3) := dk_163 0 7 (dk_at dksX1_within_0 7 rfl rfl)
theorem dX1_within_10 : decode cX1_within 10 = .ok (.iconst 1, 1) := dk_4 (dk_at dksX1_within_0 10 rfl rfl)
theorem dX1_within_11 : decode cX1_within 11 = .ok (.goto 4, 3) := dk_167 0 4 (dk_at dksX1_within_0 11 rfl rfl)
theorem dX1_within_14 : decode cX1_within 14 = .ok (.iconst 0, 1) := dk_3 (dk_at dksX1_within_0 14 rfl rfl)
theorem dX1_within_15 : decode cX1_within 15 = .ok (.ireturn, 1) := dk_172 (dk_at dksX1_within_0 15 rfl rfl)
abbrev cX1_follow : ByteArray := prog_1_method_5_code
def yX1_follow : MethodName := ⟨RX1, "follow", "(LPageBanks$Rule;LPageBanks$Bank;II)V"⟩
def dkwX1_follow_3 : List UInt8 := [182, 0, 127, 167, 0, 3, 177]
abbrev dktX1_follow_3 : List UInt8 := dkwX1_follow_3 ++ []
def dkwX1_follow_2 : List UInt8 := [187, 0, 117, 89, 183, 0, 119, 191, 187, 0, 120, 89, 183, 0, 122, 191, 42, 44, 21, 4, 182, 0, 123]
abbrev dktX1_follow_2 : List UInt8 := dkwX1_follow_2 ++ dktX1_follow_3
def dkwX1_follow_1 : List UInt8 := [170, 0, 0, 0, 54, 0, 0, 0, 1, 0, 0, 0, 3, 0, 0, 0, 25, 0, 0, 0, 33, 0, 0, 0, 41]
abbrev dktX1_follow_1 : List UInt8 := dkwX1_follow_1 ++ dktX1_follow_2
def dkwX1_follow_0 : List UInt8 := [43, 44, 29, 185, 0, 105, 3, 0, 182, 0, 111]
abbrev dktX1_follow_0 : List UInt8 := dkwX1_follow_0 ++ dktX1_follow_1
theorem dksX1_follow_0 : cX1_follow.data.toList.drop 0 = dktX1_follow_0 := by decide +kernel
theorem dksX1_follow_1 : cX1_follow.data.toList.drop 11 = dktX1_follow_1 := dk_seg dksX1_follow_0 11 rfl rfl
theorem dksX1_follow_2 : cX1_follow.data.toList.drop 36 = dktX1_follow_2 := dk_seg dksX1_follow_1 25 rfl rfl
theorem dksX1_follow_3 : cX1_follow.data.toList.drop 59 = dktX1_follow_3 := dk_seg dksX1_follow_2 23 rfl rfl
theorem dX1_follow_0 : decode cX1_follow 0 = .ok (.aload_n 1, 1) := dk_43 (dk_at dksX1_follow_0 0 rfl rfl)
theorem dX1_follow_1 : decode cX1_follow 1 = .ok (.aload_n 2, 1) := dk_44 (dk_at dksX1_follow_0 1 rfl rfl)
theorem dX1_follow_2 : decode cX1_follow 2 = .ok (.iload_n 3, 1) := dk_29 (dk_at dksX1_follow_0 2 rfl rfl)
theorem dX1_follow_3 : decode cX1_follow 3 = .ok (.invokeinterface 105 3, 5) := by decide +kernel
theorem dX1_follow_8 : decode cX1_follow 8 = .ok (.invokevirtual 111, 3) := dk_182 0 111 (dk_at dksX1_follow_0 8 rfl rfl)
theorem dX1_follow_11 : decode cX1_follow 11 = .ok (.tableswitch 54 1 3 #[25, 33, 41], 25) := by decide +kernel
theorem dX1_follow_36 : decode cX1_follow 36 = .ok (.new 117, 3) := dk_187 0 117 (dk_at dksX1_follow_2 0 rfl rfl)
theorem dX1_follow_39 : decode cX1_follow 39 = .ok (.dup, 1) := dk_89 (dk_at dksX1_follow_2 3 rfl rfl)
theorem dX1_follow_40 : decode cX1_follow 40 = .ok (.invokespecial 119, 3) := dk_183 0 119 (dk_at dksX1_follow_2 4 rfl rfl)
theorem dX1_follow_43 : decode cX1_follow 43 = .ok (.athrow, 1) := dk_191 (dk_at dksX1_follow_2 7 rfl rfl)
theorem dX1_follow_44 : decode cX1_follow 44 = .ok (.new 120, 3) := dk_187 0 120 (dk_at dksX1_follow_2 8 rfl rfl)
theorem dX1_follow_47 : decode cX1_follow 47 = .ok (.dup, 1) := dk_89 (dk_at dksX1_follow_2 11 rfl rfl)
theorem dX1_follow_48 : decode cX1_follow 48 = .ok (.invokespecial 122, 3) := dk_183 0 122 (dk_at dksX1_follow_2 12 rfl rfl)
theorem dX1_follow_51 : decode cX1_follow 51 = .ok (.athrow, 1) := dk_191 (dk_at dksX1_follow_2 15 rfl rfl)
theorem dX1_follow_52 : decode cX1_follow 52 = .ok (.aload_n 0, 1) := dk_42 (dk_at dksX1_follow_2 16 rfl rfl)
theorem dX1_follow_53 : decode cX1_follow 53 = .ok (.aload_n 2, 1) := dk_44 (dk_at dksX1_follow_2 17 rfl rfl)
theorem dX1_follow_54 : decode cX1_follow 54 = .ok (.iload 4, 2) := dk_21 4 (dk_at dksX1_follow_2 18 rfl rfl)
theorem dX1_follow_56 : decode cX1_follow 56 = .ok (.invokevirtual 123, 3) := dk_182 0 123 (dk_at dksX1_follow_2 20 rfl rfl)
theorem dX1_follow_59 : decode cX1_follow 59 = .ok (.invokevirtual 127, 3) := dk_182 0 127 (dk_at dksX1_follow_3 0 rfl rfl)
theorem dX1_follow_62 : decode cX1_follow 62 = .ok (.goto 3, 3) := dk_167 0 3 (dk_at dksX1_follow_3 3 rfl rfl)
theorem dX1_follow_65 : decode cX1_follow 65 = .ok (.return_, 1) := dk_177 (dk_at dksX1_follow_3 6 rfl rfl)
abbrev cX1_refuse : ByteArray := prog_1_method_4_code
def yX1_refuse : MethodName := ⟨RX1, "refuse", "(LPageBanks$Bank;)V"⟩
def dkwX1_refuse_0 : List UInt8 := [42, 43, 199, 0, 7, 2, 167, 0, 7, 43, 180, 0, 99, 181, 0, 35, 187, 0, 102, 89, 183, 0, 104, 191]
abbrev dktX1_refuse_0 : List UInt8 := dkwX1_refuse_0 ++ []
theorem dksX1_refuse_0 : cX1_refuse.data.toList.drop 0 = dktX1_refuse_0 := by decide +kernel
theorem dX1_refuse_0 : decode cX1_refuse 0 = .ok (.aload_n 0, 1) := dk_42 (dk_at dksX1_refuse_0 0 rfl rfl)
theorem dX1_refuse_1 : decode cX1_refuse 1 = .ok (.aload_n 1, 1) := dk_43 (dk_at dksX1_refuse_0 1 rfl rfl)
theorem dX1_refuse_2 : decode cX1_refuse 2 = .ok (.ifnonnull 7, 3) := dk_199 0 7 (dk_at dksX1_refuse_0 2 rfl rfl)
theorem dX1_refuse_5 : decode cX1_refuse 5 = .ok (.iconst (-1), 1) := dk_2 (dk_at dksX1_refuse_0 5 rfl rfl)
theorem dX1_refuse_6 : decode cX1_refuse 6 = .ok (.goto 7, 3) := dk_167 0 7 (dk_at dksX1_refuse_0 6 rfl rfl)
theorem dX1_refuse_9 : decode cX1_refuse 9 = .ok (.aload_n 1, 1) := dk_43 (dk_at dksX1_refuse_0 9 rfl rfl)
theorem dX1_refuse_10 : decode cX1_refuse 10 = .ok (.getfield 99, 3) := dk_180 0 99 (dk_at dksX1_refuse_0 10 rfl rfl)
theorem dX1_refuse_13 : decode cX1_refuse 13 = .ok (.putfield 35, 3) := dk_181 0 35 (dk_at dksX1_refuse_0 13 rfl rfl)
theorem dX1_refuse_16 : decode cX1_refuse 16 = .ok (.new 102, 3) := dk_187 0 102 (dk_at dksX1_refuse_0 16 rfl rfl)
theorem dX1_refuse_19 : decode cX1_refuse 19 = .ok (.dup, 1) := dk_89 (dk_at dksX1_refuse_0 19 rfl rfl)
theorem dX1_refuse_20 : decode cX1_refuse 20 = .ok (.invokespecial 104, 3) := dk_183 0 104 (dk_at dksX1_refuse_0 20 rfl rfl)
theorem dX1_refuse_23 : decode cX1_refuse 23 = .ok (.athrow, 1) := dk_191 (dk_at dksX1_refuse_0 23 rfl rfl)
abbrev cX1_buy : ByteArray := prog_1_method_20_code
def yX1_buy : MethodName := ⟨RX1, "buy", "(I)I"⟩
def dkwX1_buy_1 : List UInt8 := [4, 182, 1, 16, 4, 182, 1, 19, 172]
abbrev dktX1_buy_1 : List UInt8 := dkwX1_buy_1 ++ []
def dkwX1_buy_0 : List UInt8 := [42, 27, 182, 1, 4, 77, 42, 42, 180, 0, 50, 44, 4, 4, 182, 1, 6, 42, 44, 42, 180, 0, 18, 3]
abbrev dktX1_buy_0 : List UInt8 := dkwX1_buy_0 ++ dktX1_buy_1
theorem dksX1_buy_0 : cX1_buy.data.toList.drop 0 = dktX1_buy_0 := by decide +kernel
theorem dksX1_buy_1 : cX1_buy.data.toList.drop 24 = dktX1_buy_1 := dk_seg dksX1_buy_0 24 rfl rfl
theorem dX1_buy_0 : decode cX1_buy 0 = .ok (.aload_n 0, 1) := dk_42 (dk_at dksX1_buy_0 0 rfl rfl)
theorem dX1_buy_1 : decode cX1_buy 1 = .ok (.iload_n 1, 1) := dk_27 (dk_at dksX1_buy_0 1 rfl rfl)
theorem dX1_buy_2 : decode cX1_buy 2 = .ok (.invokevirtual 260, 3) := dk_182 1 4 (dk_at dksX1_buy_0 2 rfl rfl)
theorem dX1_buy_5 : decode cX1_buy 5 = .ok (.astore_n 2, 1) := dk_77 (dk_at dksX1_buy_0 5 rfl rfl)
theorem dX1_buy_6 : decode cX1_buy 6 = .ok (.aload_n 0, 1) := dk_42 (dk_at dksX1_buy_0 6 rfl rfl)
theorem dX1_buy_7 : decode cX1_buy 7 = .ok (.aload_n 0, 1) := dk_42 (dk_at dksX1_buy_0 7 rfl rfl)
theorem dX1_buy_8 : decode cX1_buy 8 = .ok (.getfield 50, 3) := dk_180 0 50 (dk_at dksX1_buy_0 8 rfl rfl)
theorem dX1_buy_11 : decode cX1_buy 11 = .ok (.aload_n 2, 1) := dk_44 (dk_at dksX1_buy_0 11 rfl rfl)
theorem dX1_buy_12 : decode cX1_buy 12 = .ok (.iconst 1, 1) := dk_4 (dk_at dksX1_buy_0 12 rfl rfl)
theorem dX1_buy_13 : decode cX1_buy 13 = .ok (.iconst 1, 1) := dk_4 (dk_at dksX1_buy_0 13 rfl rfl)
theorem dX1_buy_14 : decode cX1_buy 14 = .ok (.invokevirtual 262, 3) := dk_182 1 6 (dk_at dksX1_buy_0 14 rfl rfl)
theorem dX1_buy_17 : decode cX1_buy 17 = .ok (.aload_n 0, 1) := dk_42 (dk_at dksX1_buy_0 17 rfl rfl)
theorem dX1_buy_18 : decode cX1_buy 18 = .ok (.aload_n 2, 1) := dk_44 (dk_at dksX1_buy_0 18 rfl rfl)
theorem dX1_buy_19 : decode cX1_buy 19 = .ok (.aload_n 0, 1) := dk_42 (dk_at dksX1_buy_0 19 rfl rfl)
theorem dX1_buy_20 : decode cX1_buy 20 = .ok (.getfield 18, 3) := dk_180 0 18 (dk_at dksX1_buy_0 20 rfl rfl)
theorem dX1_buy_23 : decode cX1_buy 23 = .ok (.iconst 0, 1) := dk_3 (dk_at dksX1_buy_0 23 rfl rfl)
theorem dX1_buy_24 : decode cX1_buy 24 = .ok (.iconst 1, 1) := dk_4 (dk_at dksX1_buy_1 0 rfl rfl)
theorem dX1_buy_25 : decode cX1_buy 25 = .ok (.invokevirtual 272, 3) := dk_182 1 16 (dk_at dksX1_buy_1 1 rfl rfl)
theorem dX1_buy_28 : decode cX1_buy 28 = .ok (.iconst 1, 1) := dk_4 (dk_at dksX1_buy_1 4 rfl rfl)
theorem dX1_buy_29 : decode cX1_buy 29 = .ok (.invokevirtual 275, 3) := dk_182 1 19 (dk_at dksX1_buy_1 5 rfl rfl)
theorem dX1_buy_32 : decode cX1_buy 32 = .ok (.ireturn, 1) := dk_172 (dk_at dksX1_buy_1 8 rfl rfl)
abbrev cX1_bought : ByteArray := prog_1_method_15_code
def yX1_bought : MethodName := ⟨RX1, "bought", "(LPageBanks$Bank;II)I"⟩
def dkwX1_bought_0 : List UInt8 := [28, 17, 0, 192, 160, 0, 8, 42, 1, 182, 0, 127, 42, 43, 28, 29, 182, 0, 204, 172]
abbrev dktX1_bought_0 : List UInt8 := dkwX1_bought_0 ++ []
theorem dksX1_bought_0 : cX1_bought.data.toList.drop 0 = dktX1_bought_0 := by decide +kernel
theorem dX1_bought_0 : decode cX1_bought 0 = .ok (.iload_n 2, 1) := dk_28 (dk_at dksX1_bought_0 0 rfl rfl)
theorem dX1_bought_1 : decode cX1_bought 1 = .ok (.sipush 192, 3) := dk_17 0 192 (dk_at dksX1_bought_0 1 rfl rfl)
theorem dX1_bought_4 : decode cX1_bought 4 = .ok (.if_icmp .ne 8, 3) := dk_160 0 8 (dk_at dksX1_bought_0 4 rfl rfl)
theorem dX1_bought_7 : decode cX1_bought 7 = .ok (.aload_n 0, 1) := dk_42 (dk_at dksX1_bought_0 7 rfl rfl)
theorem dX1_bought_8 : decode cX1_bought 8 = .ok (.aconst_null, 1) := dk_1 (dk_at dksX1_bought_0 8 rfl rfl)
theorem dX1_bought_9 : decode cX1_bought 9 = .ok (.invokevirtual 127, 3) := dk_182 0 127 (dk_at dksX1_bought_0 9 rfl rfl)
theorem dX1_bought_12 : decode cX1_bought 12 = .ok (.aload_n 0, 1) := dk_42 (dk_at dksX1_bought_0 12 rfl rfl)
theorem dX1_bought_13 : decode cX1_bought 13 = .ok (.aload_n 1, 1) := dk_43 (dk_at dksX1_bought_0 13 rfl rfl)
theorem dX1_bought_14 : decode cX1_bought 14 = .ok (.iload_n 2, 1) := dk_28 (dk_at dksX1_bought_0 14 rfl rfl)
theorem dX1_bought_15 : decode cX1_bought 15 = .ok (.iload_n 3, 1) := dk_29 (dk_at dksX1_bought_0 15 rfl rfl)
theorem dX1_bought_16 : decode cX1_bought 16 = .ok (.invokevirtual 204, 3) := dk_182 0 204 (dk_at dksX1_bought_0 16 rfl rfl)
theorem dX1_bought_19 : decode cX1_bought 19 = .ok (.ireturn, 1) := dk_172 (dk_at dksX1_bought_0 19 rfl rfl)
abbrev cX1_take : ByteArray := prog_1_method_14_code
def yX1_take : MethodName := ⟨RX1, "take", "(LPageBanks$Bank;II)I"⟩
def dkwX1_take_3 : List UInt8 := [28, 50, 182, 0, 201, 172]
abbrev dktX1_take_3 : List UInt8 := dkwX1_take_3 ++ []
def dkwX1_take_2 : List UInt8 := [162, 0, 20, 42, 21, 5, 43, 42, 180, 0, 195, 182, 0, 198, 132, 5, 1, 167, 255, 234, 42, 180, 0, 11]
abbrev dktX1_take_2 : List UInt8 := dkwX1_take_2 ++ dktX1_take_3
def dkwX1_take_1 : List UInt8 := [21, 4, 100, 182, 0, 177, 42, 89, 180, 0, 195, 4, 96, 181, 0, 195, 28, 54, 5, 21, 5, 28, 29, 96]
abbrev dktX1_take_1 : List UInt8 := dkwX1_take_1 ++ dktX1_take_2
def dkwX1_take_0 : List UInt8 := [29, 43, 180, 0, 186, 184, 0, 189, 54, 4, 43, 89, 180, 0, 186, 21, 4, 100, 181, 0, 186, 43, 29]
abbrev dktX1_take_0 : List UInt8 := dkwX1_take_0 ++ dktX1_take_1
theorem dksX1_take_0 : cX1_take.data.toList.drop 0 = dktX1_take_0 := by decide +kernel
theorem dksX1_take_1 : cX1_take.data.toList.drop 23 = dktX1_take_1 := dk_seg dksX1_take_0 23 rfl rfl
theorem dksX1_take_2 : cX1_take.data.toList.drop 47 = dktX1_take_2 := dk_seg dksX1_take_1 24 rfl rfl
theorem dksX1_take_3 : cX1_take.data.toList.drop 71 = dktX1_take_3 := dk_seg dksX1_take_2 24 rfl rfl
theorem dX1_take_0 : decode cX1_take 0 = .ok (.iload_n 3, 1) := dk_29 (dk_at dksX1_take_0 0 rfl rfl)
theorem dX1_take_1 : decode cX1_take 1 = .ok (.aload_n 1, 1) := dk_43 (dk_at dksX1_take_0 1 rfl rfl)
theorem dX1_take_2 : decode cX1_take 2 = .ok (.getfield 186, 3) := dk_180 0 186 (dk_at dksX1_take_0 2 rfl rfl)
theorem dX1_take_5 : decode cX1_take 5 = .ok (.invokestatic 189, 3) := dk_184 0 189 (dk_at dksX1_take_0 5 rfl rfl)
theorem dX1_take_8 : decode cX1_take 8 = .ok (.istore 4, 2) := dk_54 4 (dk_at dksX1_take_0 8 rfl rfl)
theorem dX1_take_10 : decode cX1_take 10 = .ok (.aload_n 1, 1) := dk_43 (dk_at dksX1_take_0 10 rfl rfl)
theorem dX1_take_11 : decode cX1_take 11 = .ok (.dup, 1) := dk_89 (dk_at dksX1_take_0 11 rfl rfl)
theorem dX1_take_12 : decode cX1_take 12 = .ok (.getfield 186, 3) := dk_180 0 186 (dk_at dksX1_take_0 12 rfl rfl)
theorem dX1_take_15 : decode cX1_take 15 = .ok (.iload 4, 2) := dk_21 4 (dk_at dksX1_take_0 15 rfl rfl)
theorem dX1_take_17 : decode cX1_take 17 = .ok (.isub, 1) := dk_100 (dk_at dksX1_take_0 17 rfl rfl)
theorem dX1_take_18 : decode cX1_take 18 = .ok (.putfield 186, 3) := dk_181 0 186 (dk_at dksX1_take_0 18 rfl rfl)
theorem dX1_take_21 : decode cX1_take 21 = .ok (.aload_n 1, 1) := dk_43 (dk_at dksX1_take_0 21 rfl rfl)
theorem dX1_take_22 : decode cX1_take 22 = .ok (.iload_n 3, 1) := dk_29 (dk_at dksX1_take_0 22 rfl rfl)
theorem dX1_take_23 : decode cX1_take 23 = .ok (.iload 4, 2) := dk_21 4 (dk_at dksX1_take_1 0 rfl rfl)
theorem dX1_take_25 : decode cX1_take 25 = .ok (.isub, 1) := dk_100 (dk_at dksX1_take_1 2 rfl rfl)
theorem dX1_take_26 : decode cX1_take 26 = .ok (.invokevirtual 177, 3) := dk_182 0 177 (dk_at dksX1_take_1 3 rfl rfl)
theorem dX1_take_29 : decode cX1_take 29 = .ok (.aload_n 0, 1) := dk_42 (dk_at dksX1_take_1 6 rfl rfl)
theorem dX1_take_30 : decode cX1_take 30 = .ok (.dup, 1) := dk_89 (dk_at dksX1_take_1 7 rfl rfl)
theorem dX1_take_31 : decode cX1_take 31 = .ok (.getfield 195, 3) := dk_180 0 195 (dk_at dksX1_take_1 8 rfl rfl)
theorem dX1_take_34 : decode cX1_take 34 = .ok (.iconst 1, 1) := dk_4 (dk_at dksX1_take_1 11 rfl rfl)
theorem dX1_take_35 : decode cX1_take 35 = .ok (.iadd, 1) := dk_96 (dk_at dksX1_take_1 12 rfl rfl)
theorem dX1_take_36 : decode cX1_take 36 = .ok (.putfield 195, 3) := dk_181 0 195 (dk_at dksX1_take_1 13 rfl rfl)
theorem dX1_take_39 : decode cX1_take 39 = .ok (.iload_n 2, 1) := dk_28 (dk_at dksX1_take_1 16 rfl rfl)
theorem dX1_take_40 : decode cX1_take 40 = .ok (.istore 5, 2) := dk_54 5 (dk_at dksX1_take_1 17 rfl rfl)
theorem dX1_take_42 : decode cX1_take 42 = .ok (.iload 5, 2) := dk_21 5 (dk_at dksX1_take_1 19 rfl rfl)
theorem dX1_take_44 : decode cX1_take 44 = .ok (.iload_n 2, 1) := dk_28 (dk_at dksX1_take_1 21 rfl rfl)
theorem dX1_take_45 : decode cX1_take 45 = .ok (.iload_n 3, 1) := dk_29 (dk_at dksX1_take_1 22 rfl rfl)
theorem dX1_take_46 : decode cX1_take 46 = .ok (.iadd, 1) := dk_96 (dk_at dksX1_take_1 23 rfl rfl)
theorem dX1_take_47 : decode cX1_take 47 = .ok (.if_icmp .ge 20, 3) := dk_162 0 20 (dk_at dksX1_take_2 0 rfl rfl)
theorem dX1_take_50 : decode cX1_take 50 = .ok (.aload_n 0, 1) := dk_42 (dk_at dksX1_take_2 3 rfl rfl)
theorem dX1_take_51 : decode cX1_take 51 = .ok (.iload 5, 2) := dk_21 5 (dk_at dksX1_take_2 4 rfl rfl)
theorem dX1_take_53 : decode cX1_take 53 = .ok (.aload_n 1, 1) := dk_43 (dk_at dksX1_take_2 6 rfl rfl)
theorem dX1_take_54 : decode cX1_take 54 = .ok (.aload_n 0, 1) := dk_42 (dk_at dksX1_take_2 7 rfl rfl)
theorem dX1_take_55 : decode cX1_take 55 = .ok (.getfield 195, 3) := dk_180 0 195 (dk_at dksX1_take_2 8 rfl rfl)
theorem dX1_take_58 : decode cX1_take 58 = .ok (.invokevirtual 198, 3) := dk_182 0 198 (dk_at dksX1_take_2 11 rfl rfl)
theorem dX1_take_61 : decode cX1_take 61 = .ok (.iinc 5 1, 3) := dk_132 5 1 (dk_at dksX1_take_2 14 rfl rfl)
theorem dX1_take_64 : decode cX1_take 64 = .ok (.goto (-22), 3) := dk_167 255 234 (dk_at dksX1_take_2 17 rfl rfl)
theorem dX1_take_67 : decode cX1_take 67 = .ok (.aload_n 0, 1) := dk_42 (dk_at dksX1_take_2 20 rfl rfl)
theorem dX1_take_68 : decode cX1_take 68 = .ok (.getfield 11, 3) := dk_180 0 11 (dk_at dksX1_take_2 21 rfl rfl)
theorem dX1_take_71 : decode cX1_take 71 = .ok (.iload_n 2, 1) := dk_28 (dk_at dksX1_take_3 0 rfl rfl)
theorem dX1_take_72 : decode cX1_take 72 = .ok (.aaload, 1) := dk_50 (dk_at dksX1_take_3 1 rfl rfl)
theorem dX1_take_73 : decode cX1_take 73 = .ok (.invokevirtual 201, 3) := dk_182 0 201 (dk_at dksX1_take_3 2 rfl rfl)
theorem dX1_take_76 : decode cX1_take 76 = .ok (.ireturn, 1) := dk_172 (dk_at dksX1_take_3 5 rfl rfl)
abbrev cX1_found : ByteArray := prog_1_method_12_code
def yX1_found : MethodName := ⟨RX1, "found", "(ILPageBanks$Bank;I)V"⟩
def dkwX1_found_2 : List UInt8 := [21, 5, 3, 79, 132, 5, 1, 167, 255, 238, 42, 25, 4, 44, 182, 0, 173, 177]
abbrev dktX1_found_2 : List UInt8 := dkwX1_found_2 ++ []
def dkwX1_found_1 : List UInt8 := [96, 181, 0, 135, 25, 4, 29, 181, 0, 166, 3, 54, 5, 21, 5, 7, 162, 0, 18, 25, 4, 180, 0, 169]
abbrev dktX1_found_1 : List UInt8 := dkwX1_found_1 ++ dktX1_found_2
def dkwX1_found_0 : List UInt8 := [42, 180, 0, 11, 27, 50, 58, 4, 42, 180, 0, 18, 27, 3, 182, 0, 85, 25, 4, 89, 180, 0, 135, 4]
abbrev dktX1_found_0 : List UInt8 := dkwX1_found_0 ++ dktX1_found_1
theorem dksX1_found_0 : cX1_found.data.toList.drop 0 = dktX1_found_0 := by decide +kernel
theorem dksX1_found_1 : cX1_found.data.toList.drop 24 = dktX1_found_1 := dk_seg dksX1_found_0 24 rfl rfl
theorem dksX1_found_2 : cX1_found.data.toList.drop 48 = dktX1_found_2 := dk_seg dksX1_found_1 24 rfl rfl
theorem dX1_found_0 : decode cX1_found 0 = .ok (.aload_n 0, 1) := dk_42 (dk_at dksX1_found_0 0 rfl rfl)
theorem dX1_found_1 : decode cX1_found 1 = .ok (.getfield 11, 3) := dk_180 0 11 (dk_at dksX1_found_0 1 rfl rfl)
theorem dX1_found_4 : decode cX1_found 4 = .ok (.iload_n 1, 1) := dk_27 (dk_at dksX1_found_0 4 rfl rfl)
theorem dX1_found_5 : decode cX1_found 5 = .ok (.aaload, 1) := dk_50 (dk_at dksX1_found_0 5 rfl rfl)
theorem dX1_found_6 : decode cX1_found 6 = .ok (.astore 4, 2) := dk_58 4 (dk_at dksX1_found_0 6 rfl rfl)
theorem dX1_found_8 : decode cX1_found 8 = .ok (.aload_n 0, 1) := dk_42 (dk_at dksX1_found_0 8 rfl rfl)
theorem dX1_found_9 : decode cX1_found 9 = .ok (.getfield 18, 3) := dk_180 0 18 (dk_at dksX1_found_0 9 rfl rfl)
theorem dX1_found_12 : decode cX1_found 12 = .ok (.iload_n 1, 1) := dk_27 (dk_at dksX1_found_0 12 rfl rfl)
theorem dX1_found_13 : decode cX1_found 13 = .ok (.iconst 0, 1) := dk_3 (dk_at dksX1_found_0 13 rfl rfl)
theorem dX1_found_14 : decode cX1_found 14 = .ok (.invokevirtual 85, 3) := dk_182 0 85 (dk_at dksX1_found_0 14 rfl rfl)
theorem dX1_found_17 : decode cX1_found 17 = .ok (.aload 4, 2) := dk_25 4 (dk_at dksX1_found_0 17 rfl rfl)
theorem dX1_found_19 : decode cX1_found 19 = .ok (.dup, 1) := dk_89 (dk_at dksX1_found_0 19 rfl rfl)
theorem dX1_found_20 : decode cX1_found 20 = .ok (.getfield 135, 3) := dk_180 0 135 (dk_at dksX1_found_0 20 rfl rfl)
theorem dX1_found_23 : decode cX1_found 23 = .ok (.iconst 1, 1) := dk_4 (dk_at dksX1_found_0 23 rfl rfl)
theorem dX1_found_24 : decode cX1_found 24 = .ok (.iadd, 1) := dk_96 (dk_at dksX1_found_1 0 rfl rfl)
theorem dX1_found_25 : decode cX1_found 25 = .ok (.putfield 135, 3) := dk_181 0 135 (dk_at dksX1_found_1 1 rfl rfl)
theorem dX1_found_28 : decode cX1_found 28 = .ok (.aload 4, 2) := dk_25 4 (dk_at dksX1_found_1 4 rfl rfl)
theorem dX1_found_30 : decode cX1_found 30 = .ok (.iload_n 3, 1) := dk_29 (dk_at dksX1_found_1 6 rfl rfl)
theorem dX1_found_31 : decode cX1_found 31 = .ok (.putfield 166, 3) := dk_181 0 166 (dk_at dksX1_found_1 7 rfl rfl)
theorem dX1_found_34 : decode cX1_found 34 = .ok (.iconst 0, 1) := dk_3 (dk_at dksX1_found_1 10 rfl rfl)
theorem dX1_found_35 : decode cX1_found 35 = .ok (.istore 5, 2) := dk_54 5 (dk_at dksX1_found_1 11 rfl rfl)
theorem dX1_found_37 : decode cX1_found 37 = .ok (.iload 5, 2) := dk_21 5 (dk_at dksX1_found_1 13 rfl rfl)
theorem dX1_found_39 : decode cX1_found 39 = .ok (.iconst 4, 1) := dk_7 (dk_at dksX1_found_1 15 rfl rfl)
theorem dX1_found_40 : decode cX1_found 40 = .ok (.if_icmp .ge 18, 3) := dk_162 0 18 (dk_at dksX1_found_1 16 rfl rfl)
theorem dX1_found_43 : decode cX1_found 43 = .ok (.aload 4, 2) := dk_25 4 (dk_at dksX1_found_1 19 rfl rfl)
theorem dX1_found_45 : decode cX1_found 45 = .ok (.getfield 169, 3) := dk_180 0 169 (dk_at dksX1_found_1 21 rfl rfl)
theorem dX1_found_48 : decode cX1_found 48 = .ok (.iload 5, 2) := dk_21 5 (dk_at dksX1_found_2 0 rfl rfl)
theorem dX1_found_50 : decode cX1_found 50 = .ok (.iconst 0, 1) := dk_3 (dk_at dksX1_found_2 2 rfl rfl)
theorem dX1_found_51 : decode cX1_found 51 = .ok (.iastore, 1) := dk_79 (dk_at dksX1_found_2 3 rfl rfl)
theorem dX1_found_52 : decode cX1_found 52 = .ok (.iinc 5 1, 3) := dk_132 5 1 (dk_at dksX1_found_2 4 rfl rfl)
theorem dX1_found_55 : decode cX1_found 55 = .ok (.goto (-18), 3) := dk_167 255 238 (dk_at dksX1_found_2 7 rfl rfl)
theorem dX1_found_58 : decode cX1_found 58 = .ok (.aload_n 0, 1) := dk_42 (dk_at dksX1_found_2 10 rfl rfl)
theorem dX1_found_59 : decode cX1_found 59 = .ok (.aload 4, 2) := dk_25 4 (dk_at dksX1_found_2 11 rfl rfl)
theorem dX1_found_61 : decode cX1_found 61 = .ok (.aload_n 2, 1) := dk_44 (dk_at dksX1_found_2 13 rfl rfl)
theorem dX1_found_62 : decode cX1_found 62 = .ok (.invokevirtual 173, 3) := dk_182 0 173 (dk_at dksX1_found_2 14 rfl rfl)
theorem dX1_found_65 : decode cX1_found 65 = .ok (.return_, 1) := dk_177 (dk_at dksX1_found_2 17 rfl rfl)
abbrev cX1_give : ByteArray := prog_1_method_11_code
def yX1_give : MethodName := ⟨RX1, "give", "(LPageBanks$Page;LPageBanks$Bank;)V"⟩
def dkwX1_give_0 : List UInt8 := [43, 44, 181, 0, 152, 44, 180, 0, 156, 43, 182, 0, 160, 177]
abbrev dktX1_give_0 : List UInt8 := dkwX1_give_0 ++ []
theorem dksX1_give_0 : cX1_give.data.toList.drop 0 = dktX1_give_0 := by decide +kernel
theorem dX1_give_0 : decode cX1_give 0 = .ok (.aload_n 1, 1) := dk_43 (dk_at dksX1_give_0 0 rfl rfl)
theorem dX1_give_1 : decode cX1_give 1 = .ok (.aload_n 2, 1) := dk_44 (dk_at dksX1_give_0 1 rfl rfl)
theorem dX1_give_2 : decode cX1_give 2 = .ok (.putfield 152, 3) := dk_181 0 152 (dk_at dksX1_give_0 2 rfl rfl)
theorem dX1_give_5 : decode cX1_give 5 = .ok (.aload_n 2, 1) := dk_44 (dk_at dksX1_give_0 5 rfl rfl)
theorem dX1_give_6 : decode cX1_give 6 = .ok (.getfield 156, 3) := dk_180 0 156 (dk_at dksX1_give_0 6 rfl rfl)
theorem dX1_give_9 : decode cX1_give 9 = .ok (.aload_n 1, 1) := dk_43 (dk_at dksX1_give_0 9 rfl rfl)
theorem dX1_give_10 : decode cX1_give 10 = .ok (.invokevirtual 160, 3) := dk_182 0 160 (dk_at dksX1_give_0 10 rfl rfl)
theorem dX1_give_13 : decode cX1_give 13 = .ok (.return_, 1) := dk_177 (dk_at dksX1_give_0 13 rfl rfl)
abbrev cX1_buyRun : ByteArray := prog_1_method_21_code
def yX1_buyRun : MethodName := ⟨RX1, "buyRun", "(II)I"⟩
def dkwX1_buyRun_1 : List UInt8 := [182, 1, 6, 42, 45, 42, 180, 0, 18, 28, 182, 1, 22, 28, 182, 1, 19, 172]
abbrev dktX1_buyRun_1 : List UInt8 := dkwX1_buyRun_1 ++ []
def dkwX1_buyRun_0 : List UInt8 := [42, 27, 182, 1, 4, 78, 42, 42, 180, 0, 60, 45, 28, 28, 28, 45, 180, 0, 186, 184, 0, 189, 100]
abbrev dktX1_buyRun_0 : List UInt8 := dkwX1_buyRun_0 ++ dktX1_buyRun_1
theorem dksX1_buyRun_0 : cX1_buyRun.data.toList.drop 0 = dktX1_buyRun_0 := by decide +kernel
theorem dksX1_buyRun_1 : cX1_buyRun.data.toList.drop 23 = dktX1_buyRun_1 := dk_seg dksX1_buyRun_0 23 rfl rfl
theorem dX1_buyRun_0 : decode cX1_buyRun 0 = .ok (.aload_n 0, 1) := dk_42 (dk_at dksX1_buyRun_0 0 rfl rfl)
theorem dX1_buyRun_1 : decode cX1_buyRun 1 = .ok (.iload_n 1, 1) := dk_27 (dk_at dksX1_buyRun_0 1 rfl rfl)
theorem dX1_buyRun_2 : decode cX1_buyRun 2 = .ok (.invokevirtual 260, 3) := dk_182 1 4 (dk_at dksX1_buyRun_0 2 rfl rfl)
theorem dX1_buyRun_5 : decode cX1_buyRun 5 = .ok (.astore_n 3, 1) := dk_78 (dk_at dksX1_buyRun_0 5 rfl rfl)
theorem dX1_buyRun_6 : decode cX1_buyRun 6 = .ok (.aload_n 0, 1) := dk_42 (dk_at dksX1_buyRun_0 6 rfl rfl)
theorem dX1_buyRun_7 : decode cX1_buyRun 7 = .ok (.aload_n 0, 1) := dk_42 (dk_at dksX1_buyRun_0 7 rfl rfl)
theorem dX1_buyRun_8 : decode cX1_buyRun 8 = .ok (.getfield 60, 3) := dk_180 0 60 (dk_at dksX1_buyRun_0 8 rfl rfl)
theorem dX1_buyRun_11 : decode cX1_buyRun 11 = .ok (.aload_n 3, 1) := dk_45 (dk_at dksX1_buyRun_0 11 rfl rfl)
theorem dX1_buyRun_12 : decode cX1_buyRun 12 = .ok (.iload_n 2, 1) := dk_28 (dk_at dksX1_buyRun_0 12 rfl rfl)
theorem dX1_buyRun_13 : decode cX1_buyRun 13 = .ok (.iload_n 2, 1) := dk_28 (dk_at dksX1_buyRun_0 13 rfl rfl)
theorem dX1_buyRun_14 : decode cX1_buyRun 14 = .ok (.iload_n 2, 1) := dk_28 (dk_at dksX1_buyRun_0 14 rfl rfl)
theorem dX1_buyRun_15 : decode cX1_buyRun 15 = .ok (.aload_n 3, 1) := dk_45 (dk_at dksX1_buyRun_0 15 rfl rfl)
theorem dX1_buyRun_16 : decode cX1_buyRun 16 = .ok (.getfield 186, 3) := dk_180 0 186 (dk_at dksX1_buyRun_0 16 rfl rfl)
theorem dX1_buyRun_19 : decode cX1_buyRun 19 = .ok (.invokestatic 189, 3) := dk_184 0 189 (dk_at dksX1_buyRun_0 19 rfl rfl)
theorem dX1_buyRun_22 : decode cX1_buyRun 22 = .ok (.isub, 1) := dk_100 (dk_at dksX1_buyRun_0 22 rfl rfl)
theorem dX1_buyRun_23 : decode cX1_buyRun 23 = .ok (.invokevirtual 262, 3) := dk_182 1 6 (dk_at dksX1_buyRun_1 0 rfl rfl)
theorem dX1_buyRun_26 : decode cX1_buyRun 26 = .ok (.aload_n 0, 1) := dk_42 (dk_at dksX1_buyRun_1 3 rfl rfl)
theorem dX1_buyRun_27 : decode cX1_buyRun 27 = .ok (.aload_n 3, 1) := dk_45 (dk_at dksX1_buyRun_1 4 rfl rfl)
theorem dX1_buyRun_28 : decode cX1_buyRun 28 = .ok (.aload_n 0, 1) := dk_42 (dk_at dksX1_buyRun_1 5 rfl rfl)
theorem dX1_buyRun_29 : decode cX1_buyRun 29 = .ok (.getfield 18, 3) := dk_180 0 18 (dk_at dksX1_buyRun_1 6 rfl rfl)
theorem dX1_buyRun_32 : decode cX1_buyRun 32 = .ok (.iload_n 2, 1) := dk_28 (dk_at dksX1_buyRun_1 9 rfl rfl)
theorem dX1_buyRun_33 : decode cX1_buyRun 33 = .ok (.invokevirtual 278, 3) := dk_182 1 22 (dk_at dksX1_buyRun_1 10 rfl rfl)
theorem dX1_buyRun_36 : decode cX1_buyRun 36 = .ok (.iload_n 2, 1) := dk_28 (dk_at dksX1_buyRun_1 13 rfl rfl)
theorem dX1_buyRun_37 : decode cX1_buyRun 37 = .ok (.invokevirtual 275, 3) := dk_182 1 19 (dk_at dksX1_buyRun_1 14 rfl rfl)
theorem dX1_buyRun_40 : decode cX1_buyRun 40 = .ok (.ireturn, 1) := dk_172 (dk_at dksX1_buyRun_1 17 rfl rfl)
abbrev cX1_runKey : ByteArray := prog_1_method_22_code
def yX1_runKey : MethodName := ⟨RX1, "runKey", "(II)I"⟩
def dkwX1_runKey_3 : List UInt8 := [25, 4, 182, 0, 201, 167, 0, 4, 3, 172]
abbrev dktX1_runKey_3 : List UInt8 := dkwX1_runKey_3 ++ []
def dkwX1_runKey_2 : List UInt8 := [50, 58, 4, 25, 4, 182, 0, 131, 153, 0, 23, 25, 4, 180, 0, 166, 45, 180, 0, 166, 160, 0, 11]
abbrev dktX1_runKey_2 : List UInt8 := dkwX1_runKey_2 ++ dktX1_runKey_3
def dkwX1_runKey_1 : List UInt8 := [45, 180, 0, 183, 28, 96, 17, 0, 192, 161, 0, 5, 3, 172, 42, 180, 0, 11, 45, 180, 0, 183, 28, 96]
abbrev dktX1_runKey_1 : List UInt8 := dkwX1_runKey_1 ++ dktX1_runKey_2
def dkwX1_runKey_0 : List UInt8 := [42, 27, 182, 1, 25, 78, 28, 3, 16, 15, 184, 0, 92, 154, 0, 11, 187, 0, 117, 89, 183, 0, 119, 191]
abbrev dktX1_runKey_0 : List UInt8 := dkwX1_runKey_0 ++ dktX1_runKey_1
theorem dksX1_runKey_0 : cX1_runKey.data.toList.drop 0 = dktX1_runKey_0 := by decide +kernel
theorem dksX1_runKey_1 : cX1_runKey.data.toList.drop 24 = dktX1_runKey_1 := dk_seg dksX1_runKey_0 24 rfl rfl
theorem dksX1_runKey_2 : cX1_runKey.data.toList.drop 48 = dktX1_runKey_2 := dk_seg dksX1_runKey_1 24 rfl rfl
theorem dksX1_runKey_3 : cX1_runKey.data.toList.drop 71 = dktX1_runKey_3 := dk_seg dksX1_runKey_2 23 rfl rfl
theorem dX1_runKey_0 : decode cX1_runKey 0 = .ok (.aload_n 0, 1) := dk_42 (dk_at dksX1_runKey_0 0 rfl rfl)
theorem dX1_runKey_1 : decode cX1_runKey 1 = .ok (.iload_n 1, 1) := dk_27 (dk_at dksX1_runKey_0 1 rfl rfl)
theorem dX1_runKey_2 : decode cX1_runKey 2 = .ok (.invokevirtual 281, 3) := dk_182 1 25 (dk_at dksX1_runKey_0 2 rfl rfl)
theorem dX1_runKey_5 : decode cX1_runKey 5 = .ok (.astore_n 3, 1) := dk_78 (dk_at dksX1_runKey_0 5 rfl rfl)
theorem dX1_runKey_6 : decode cX1_runKey 6 = .ok (.iload_n 2, 1) := dk_28 (dk_at dksX1_runKey_0 6 rfl rfl)
theorem dX1_runKey_7 : decode cX1_runKey 7 = .ok (.iconst 0, 1) := dk_3 (dk_at dksX1_runKey_0 7 rfl rfl)
theorem dX1_runKey_8 : decode cX1_runKey 8 = .ok (.bipush 15, 2) := dk_16 15 (dk_at dksX1_runKey_0 8 rfl rfl)
theorem dX1_runKey_10 : decode cX1_runKey 10 = .ok (.invokestatic 92, 3) := dk_184 0 92 (dk_at dksX1_runKey_0 10 rfl rfl)
theorem dX1_runKey_13 : decode cX1_runKey 13 = .ok (.ifCond .ne 11, 3) := dk_154 0 11 (dk_at dksX1_runKey_0 13 rfl rfl)
theorem dX1_runKey_16 : decode cX1_runKey 16 = .ok (.new 117, 3) := dk_187 0 117 (dk_at dksX1_runKey_0 16 rfl rfl)
theorem dX1_runKey_19 : decode cX1_runKey 19 = .ok (.dup, 1) := dk_89 (dk_at dksX1_runKey_0 19 rfl rfl)
theorem dX1_runKey_20 : decode cX1_runKey 20 = .ok (.invokespecial 119, 3) := dk_183 0 119 (dk_at dksX1_runKey_0 20 rfl rfl)
theorem dX1_runKey_23 : decode cX1_runKey 23 = .ok (.athrow, 1) := dk_191 (dk_at dksX1_runKey_0 23 rfl rfl)
theorem dX1_runKey_24 : decode cX1_runKey 24 = .ok (.aload_n 3, 1) := dk_45 (dk_at dksX1_runKey_1 0 rfl rfl)
theorem dX1_runKey_25 : decode cX1_runKey 25 = .ok (.getfield 183, 3) := dk_180 0 183 (dk_at dksX1_runKey_1 1 rfl rfl)
theorem dX1_runKey_28 : decode cX1_runKey 28 = .ok (.iload_n 2, 1) := dk_28 (dk_at dksX1_runKey_1 4 rfl rfl)
theorem dX1_runKey_29 : decode cX1_runKey 29 = .ok (.iadd, 1) := dk_96 (dk_at dksX1_runKey_1 5 rfl rfl)
theorem dX1_runKey_30 : decode cX1_runKey 30 = .ok (.sipush 192, 3) := dk_17 0 192 (dk_at dksX1_runKey_1 6 rfl rfl)
theorem dX1_runKey_33 : decode cX1_runKey 33 = .ok (.if_icmp .lt 5, 3) := dk_161 0 5 (dk_at dksX1_runKey_1 9 rfl rfl)
theorem dX1_runKey_36 : decode cX1_runKey 36 = .ok (.iconst 0, 1) := dk_3 (dk_at dksX1_runKey_1 12 rfl rfl)
theorem dX1_runKey_37 : decode cX1_runKey 37 = .ok (.ireturn, 1) := dk_172 (dk_at dksX1_runKey_1 13 rfl rfl)
theorem dX1_runKey_38 : decode cX1_runKey 38 = .ok (.aload_n 0, 1) := dk_42 (dk_at dksX1_runKey_1 14 rfl rfl)
theorem dX1_runKey_39 : decode cX1_runKey 39 = .ok (.getfield 11, 3) := dk_180 0 11 (dk_at dksX1_runKey_1 15 rfl rfl)
theorem dX1_runKey_42 : decode cX1_runKey 42 = .ok (.aload_n 3, 1) := dk_45 (dk_at dksX1_runKey_1 18 rfl rfl)
theorem dX1_runKey_43 : decode cX1_runKey 43 = .ok (.getfield 183, 3) := dk_180 0 183 (dk_at dksX1_runKey_1 19 rfl rfl)
theorem dX1_runKey_46 : decode cX1_runKey 46 = .ok (.iload_n 2, 1) := dk_28 (dk_at dksX1_runKey_1 22 rfl rfl)
theorem dX1_runKey_47 : decode cX1_runKey 47 = .ok (.iadd, 1) := dk_96 (dk_at dksX1_runKey_1 23 rfl rfl)
theorem dX1_runKey_48 : decode cX1_runKey 48 = .ok (.aaload, 1) := dk_50 (dk_at dksX1_runKey_2 0 rfl rfl)
theorem dX1_runKey_49 : decode cX1_runKey 49 = .ok (.astore 4, 2) := dk_58 4 (dk_at dksX1_runKey_2 1 rfl rfl)
theorem dX1_runKey_51 : decode cX1_runKey 51 = .ok (.aload 4, 2) := dk_25 4 (dk_at dksX1_runKey_2 3 rfl rfl)
theorem dX1_runKey_53 : decode cX1_runKey 53 = .ok (.invokevirtual 131, 3) := dk_182 0 131 (dk_at dksX1_runKey_2 5 rfl rfl)
theorem dX1_runKey_56 : decode cX1_runKey 56 = .ok (.ifCond .eq 23, 3) := dk_153 0 23 (dk_at dksX1_runKey_2 8 rfl rfl)
theorem dX1_runKey_59 : decode cX1_runKey 59 = .ok (.aload 4, 2) := dk_25 4 (dk_at dksX1_runKey_2 11 rfl rfl)
theorem dX1_runKey_61 : decode cX1_runKey 61 = .ok (.getfield 166, 3) := dk_180 0 166 (dk_at dksX1_runKey_2 13 rfl rfl)
theorem dX1_runKey_64 : decode cX1_runKey 64 = .ok (.aload_n 3, 1) := dk_45 (dk_at dksX1_runKey_2 16 rfl rfl)
theorem dX1_runKey_65 : decode cX1_runKey 65 = .ok (.getfield 166, 3) := dk_180 0 166 (dk_at dksX1_runKey_2 17 rfl rfl)
theorem dX1_runKey_68 : decode cX1_runKey 68 = .ok (.if_icmp .ne 11, 3) := dk_160 0 11 (dk_at dksX1_runKey_2 20 rfl rfl)
theorem dX1_runKey_71 : decode cX1_runKey 71 = .ok (.aload 4, 2) := dk_25 4 (dk_at dksX1_runKey_3 0 rfl rfl)
theorem dX1_runKey_73 : decode cX1_runKey 73 = .ok (.invokevirtual 201, 3) := dk_182 0 201 (dk_at dksX1_runKey_3 2 rfl rfl)
theorem dX1_runKey_76 : decode cX1_runKey 76 = .ok (.goto 4, 3) := dk_167 0 4 (dk_at dksX1_runKey_3 5 rfl rfl)
theorem dX1_runKey_79 : decode cX1_runKey 79 = .ok (.iconst 0, 1) := dk_3 (dk_at dksX1_runKey_3 8 rfl rfl)
theorem dX1_runKey_80 : decode cX1_runKey 80 = .ok (.ireturn, 1) := dk_172 (dk_at dksX1_runKey_3 9 rfl rfl)
abbrev cX1_wantStrong : ByteArray := prog_1_method_9_code
def yX1_wantStrong : MethodName := ⟨RX1, "wantStrong", "(I)LPageBanks$Page;"⟩
def dkwX1_wantStrong_0 : List UInt8 := [42, 27, 182, 0, 145, 77, 27, 184, 0, 148, 153, 0, 11, 187, 0, 117, 89, 183, 0, 119, 191, 44, 176]
abbrev dktX1_wantStrong_0 : List UInt8 := dkwX1_wantStrong_0 ++ []
theorem dksX1_wantStrong_0 : cX1_wantStrong.data.toList.drop 0 = dktX1_wantStrong_0 := by decide +kernel
theorem dX1_wantStrong_0 : decode cX1_wantStrong 0 = .ok (.aload_n 0, 1) := dk_42 (dk_at dksX1_wantStrong_0 0 rfl rfl)
theorem dX1_wantStrong_1 : decode cX1_wantStrong 1 = .ok (.iload_n 1, 1) := dk_27 (dk_at dksX1_wantStrong_0 1 rfl rfl)
theorem dX1_wantStrong_2 : decode cX1_wantStrong 2 = .ok (.invokevirtual 145, 3) := dk_182 0 145 (dk_at dksX1_wantStrong_0 2 rfl rfl)
theorem dX1_wantStrong_5 : decode cX1_wantStrong 5 = .ok (.astore_n 2, 1) := dk_77 (dk_at dksX1_wantStrong_0 5 rfl rfl)
theorem dX1_wantStrong_6 : decode cX1_wantStrong 6 = .ok (.iload_n 1, 1) := dk_27 (dk_at dksX1_wantStrong_0 6 rfl rfl)
theorem dX1_wantStrong_7 : decode cX1_wantStrong 7 = .ok (.invokestatic 148, 3) := dk_184 0 148 (dk_at dksX1_wantStrong_0 7 rfl rfl)
theorem dX1_wantStrong_10 : decode cX1_wantStrong 10 = .ok (.ifCond .eq 11, 3) := dk_153 0 11 (dk_at dksX1_wantStrong_0 10 rfl rfl)
theorem dX1_wantStrong_13 : decode cX1_wantStrong 13 = .ok (.new 117, 3) := dk_187 0 117 (dk_at dksX1_wantStrong_0 13 rfl rfl)
theorem dX1_wantStrong_16 : decode cX1_wantStrong 16 = .ok (.dup, 1) := dk_89 (dk_at dksX1_wantStrong_0 16 rfl rfl)
theorem dX1_wantStrong_17 : decode cX1_wantStrong 17 = .ok (.invokespecial 119, 3) := dk_183 0 119 (dk_at dksX1_wantStrong_0 17 rfl rfl)
theorem dX1_wantStrong_20 : decode cX1_wantStrong 20 = .ok (.athrow, 1) := dk_191 (dk_at dksX1_wantStrong_0 20 rfl rfl)
theorem dX1_wantStrong_21 : decode cX1_wantStrong 21 = .ok (.aload_n 2, 1) := dk_44 (dk_at dksX1_wantStrong_0 21 rfl rfl)
theorem dX1_wantStrong_22 : decode cX1_wantStrong 22 = .ok (.areturn, 1) := dk_176 (dk_at dksX1_wantStrong_0 22 rfl rfl)
abbrev cX1_want : ByteArray := prog_1_method_7_code
def yX1_want : MethodName := ⟨RX1, "want", "(I)LPageBanks$Page;"⟩
def dkwX1_want_0 : List UInt8 := [42, 27, 182, 0, 138, 77, 44, 199, 0, 11, 187, 0, 142, 89, 183, 0, 144, 191, 44, 176]
abbrev dktX1_want_0 : List UInt8 := dkwX1_want_0 ++ []
theorem dksX1_want_0 : cX1_want.data.toList.drop 0 = dktX1_want_0 := by decide +kernel
theorem dX1_want_0 : decode cX1_want 0 = .ok (.aload_n 0, 1) := dk_42 (dk_at dksX1_want_0 0 rfl rfl)
theorem dX1_want_1 : decode cX1_want 1 = .ok (.iload_n 1, 1) := dk_27 (dk_at dksX1_want_0 1 rfl rfl)
theorem dX1_want_2 : decode cX1_want 2 = .ok (.invokevirtual 138, 3) := dk_182 0 138 (dk_at dksX1_want_0 2 rfl rfl)
theorem dX1_want_5 : decode cX1_want 5 = .ok (.astore_n 2, 1) := dk_77 (dk_at dksX1_want_0 5 rfl rfl)
theorem dX1_want_6 : decode cX1_want 6 = .ok (.aload_n 2, 1) := dk_44 (dk_at dksX1_want_0 6 rfl rfl)
theorem dX1_want_7 : decode cX1_want 7 = .ok (.ifnonnull 11, 3) := dk_199 0 11 (dk_at dksX1_want_0 7 rfl rfl)
theorem dX1_want_10 : decode cX1_want 10 = .ok (.new 142, 3) := dk_187 0 142 (dk_at dksX1_want_0 10 rfl rfl)
theorem dX1_want_13 : decode cX1_want 13 = .ok (.dup, 1) := dk_89 (dk_at dksX1_want_0 13 rfl rfl)
theorem dX1_want_14 : decode cX1_want 14 = .ok (.invokespecial 144, 3) := dk_183 0 144 (dk_at dksX1_want_0 14 rfl rfl)
theorem dX1_want_17 : decode cX1_want 17 = .ok (.athrow, 1) := dk_191 (dk_at dksX1_want_0 17 rfl rfl)
theorem dX1_want_18 : decode cX1_want 18 = .ok (.aload_n 2, 1) := dk_44 (dk_at dksX1_want_0 18 rfl rfl)
theorem dX1_want_19 : decode cX1_want 19 = .ok (.areturn, 1) := dk_176 (dk_at dksX1_want_0 19 rfl rfl)
abbrev cX1_isWeak : ByteArray := prog_1_method_8_code
def yX1_isWeak : MethodName := ⟨RX1, "isWeak", "(I)Z"⟩
def dkwX1_isWeak_0 : List UInt8 := [26, 4, 126, 4, 160, 0, 7, 4, 167, 0, 4, 3, 172]
abbrev dktX1_isWeak_0 : List UInt8 := dkwX1_isWeak_0 ++ []
theorem dksX1_isWeak_0 : cX1_isWeak.data.toList.drop 0 = dktX1_isWeak_0 := by decide +kernel
theorem dX1_isWeak_0 : decode cX1_isWeak 0 = .ok (.iload_n 0, 1) := dk_26 (dk_at dksX1_isWeak_0 0 rfl rfl)
theorem dX1_isWeak_1 : decode cX1_isWeak 1 = .ok (.iconst 1, 1) := dk_4 (dk_at dksX1_isWeak_0 1 rfl rfl)
theorem dX1_isWeak_2 : decode cX1_isWeak 2 = .ok (.iand, 1) := dk_126 (dk_at dksX1_isWeak_0 2 rfl rfl)
theorem dX1_isWeak_3 : decode cX1_isWeak 3 = .ok (.iconst 1, 1) := dk_4 (dk_at dksX1_isWeak_0 3 rfl rfl)
theorem dX1_isWeak_4 : decode cX1_isWeak 4 = .ok (.if_icmp .ne 7, 3) := dk_160 0 7 (dk_at dksX1_isWeak_0 4 rfl rfl)
theorem dX1_isWeak_7 : decode cX1_isWeak 7 = .ok (.iconst 1, 1) := dk_4 (dk_at dksX1_isWeak_0 7 rfl rfl)
theorem dX1_isWeak_8 : decode cX1_isWeak 8 = .ok (.goto 4, 3) := dk_167 0 4 (dk_at dksX1_isWeak_0 8 rfl rfl)
theorem dX1_isWeak_11 : decode cX1_isWeak 11 = .ok (.iconst 0, 1) := dk_3 (dk_at dksX1_isWeak_0 11 rfl rfl)
theorem dX1_isWeak_12 : decode cX1_isWeak 12 = .ok (.ireturn, 1) := dk_172 (dk_at dksX1_isWeak_0 12 rfl rfl)
abbrev cX1_sell : ByteArray := prog_1_method_23_code
def yX1_sell : MethodName := ⟨RX1, "sell", "(I)I"⟩
def dkwX1_sell_1 : List UInt8 := [45, 180, 0, 99, 172]
abbrev dktX1_sell_1 : List UInt8 := dkwX1_sell_1 ++ []
def dkwX1_sell_0 : List UInt8 := [42, 27, 182, 1, 25, 77, 44, 180, 0, 152, 78, 45, 180, 0, 156, 44, 182, 1, 28, 42, 44, 182, 1, 30]
abbrev dktX1_sell_0 : List UInt8 := dkwX1_sell_0 ++ dktX1_sell_1
theorem dksX1_sell_0 : cX1_sell.data.toList.drop 0 = dktX1_sell_0 := by decide +kernel
theorem dksX1_sell_1 : cX1_sell.data.toList.drop 24 = dktX1_sell_1 := dk_seg dksX1_sell_0 24 rfl rfl
theorem dX1_sell_0 : decode cX1_sell 0 = .ok (.aload_n 0, 1) := dk_42 (dk_at dksX1_sell_0 0 rfl rfl)
theorem dX1_sell_1 : decode cX1_sell 1 = .ok (.iload_n 1, 1) := dk_27 (dk_at dksX1_sell_0 1 rfl rfl)
theorem dX1_sell_2 : decode cX1_sell 2 = .ok (.invokevirtual 281, 3) := dk_182 1 25 (dk_at dksX1_sell_0 2 rfl rfl)
theorem dX1_sell_5 : decode cX1_sell 5 = .ok (.astore_n 2, 1) := dk_77 (dk_at dksX1_sell_0 5 rfl rfl)
theorem dX1_sell_6 : decode cX1_sell 6 = .ok (.aload_n 2, 1) := dk_44 (dk_at dksX1_sell_0 6 rfl rfl)
theorem dX1_sell_7 : decode cX1_sell 7 = .ok (.getfield 152, 3) := dk_180 0 152 (dk_at dksX1_sell_0 7 rfl rfl)
theorem dX1_sell_10 : decode cX1_sell 10 = .ok (.astore_n 3, 1) := dk_78 (dk_at dksX1_sell_0 10 rfl rfl)
theorem dX1_sell_11 : decode cX1_sell 11 = .ok (.aload_n 3, 1) := dk_45 (dk_at dksX1_sell_0 11 rfl rfl)
theorem dX1_sell_12 : decode cX1_sell 12 = .ok (.getfield 156, 3) := dk_180 0 156 (dk_at dksX1_sell_0 12 rfl rfl)
theorem dX1_sell_15 : decode cX1_sell 15 = .ok (.aload_n 2, 1) := dk_44 (dk_at dksX1_sell_0 15 rfl rfl)
theorem dX1_sell_16 : decode cX1_sell 16 = .ok (.invokevirtual 284, 3) := dk_182 1 28 (dk_at dksX1_sell_0 16 rfl rfl)
theorem dX1_sell_19 : decode cX1_sell 19 = .ok (.aload_n 0, 1) := dk_42 (dk_at dksX1_sell_0 19 rfl rfl)
theorem dX1_sell_20 : decode cX1_sell 20 = .ok (.aload_n 2, 1) := dk_44 (dk_at dksX1_sell_0 20 rfl rfl)
theorem dX1_sell_21 : decode cX1_sell 21 = .ok (.invokevirtual 286, 3) := dk_182 1 30 (dk_at dksX1_sell_0 21 rfl rfl)
theorem dX1_sell_24 : decode cX1_sell 24 = .ok (.aload_n 3, 1) := dk_45 (dk_at dksX1_sell_1 0 rfl rfl)
theorem dX1_sell_25 : decode cX1_sell 25 = .ok (.getfield 99, 3) := dk_180 0 99 (dk_at dksX1_sell_1 1 rfl rfl)
theorem dX1_sell_28 : decode cX1_sell 28 = .ok (.ireturn, 1) := dk_172 (dk_at dksX1_sell_1 4 rfl rfl)
abbrev cX1_end : ByteArray := prog_1_method_13_code
def yX1_end : MethodName := ⟨RX1, "end", "(LPageBanks$Page;)V"⟩
def dkwX1_end_1 : List UInt8 := [180, 0, 180, 4, 96, 181, 0, 180, 167, 0, 15, 42, 180, 0, 18, 43, 180, 0, 183, 4, 182, 0, 85, 177]
abbrev dktX1_end_1 : List UInt8 := dkwX1_end_1 ++ []
def dkwX1_end_0 : List UInt8 := [43, 180, 0, 152, 2, 182, 0, 177, 43, 1, 181, 0, 152, 43, 180, 0, 135, 16, 7, 160, 0, 16, 42, 89]
abbrev dktX1_end_0 : List UInt8 := dkwX1_end_0 ++ dktX1_end_1
theorem dksX1_end_0 : cX1_end.data.toList.drop 0 = dktX1_end_0 := by decide +kernel
theorem dksX1_end_1 : cX1_end.data.toList.drop 24 = dktX1_end_1 := dk_seg dksX1_end_0 24 rfl rfl
theorem dX1_end_0 : decode cX1_end 0 = .ok (.aload_n 1, 1) := dk_43 (dk_at dksX1_end_0 0 rfl rfl)
theorem dX1_end_1 : decode cX1_end 1 = .ok (.getfield 152, 3) := dk_180 0 152 (dk_at dksX1_end_0 1 rfl rfl)
theorem dX1_end_4 : decode cX1_end 4 = .ok (.iconst (-1), 1) := dk_2 (dk_at dksX1_end_0 4 rfl rfl)
theorem dX1_end_5 : decode cX1_end 5 = .ok (.invokevirtual 177, 3) := dk_182 0 177 (dk_at dksX1_end_0 5 rfl rfl)
theorem dX1_end_8 : decode cX1_end 8 = .ok (.aload_n 1, 1) := dk_43 (dk_at dksX1_end_0 8 rfl rfl)
theorem dX1_end_9 : decode cX1_end 9 = .ok (.aconst_null, 1) := dk_1 (dk_at dksX1_end_0 9 rfl rfl)
theorem dX1_end_10 : decode cX1_end 10 = .ok (.putfield 152, 3) := dk_181 0 152 (dk_at dksX1_end_0 10 rfl rfl)
theorem dX1_end_13 : decode cX1_end 13 = .ok (.aload_n 1, 1) := dk_43 (dk_at dksX1_end_0 13 rfl rfl)
theorem dX1_end_14 : decode cX1_end 14 = .ok (.getfield 135, 3) := dk_180 0 135 (dk_at dksX1_end_0 14 rfl rfl)
theorem dX1_end_17 : decode cX1_end 17 = .ok (.bipush 7, 2) := dk_16 7 (dk_at dksX1_end_0 17 rfl rfl)
theorem dX1_end_19 : decode cX1_end 19 = .ok (.if_icmp .ne 16, 3) := dk_160 0 16 (dk_at dksX1_end_0 19 rfl rfl)
theorem dX1_end_22 : decode cX1_end 22 = .ok (.aload_n 0, 1) := dk_42 (dk_at dksX1_end_0 22 rfl rfl)
theorem dX1_end_23 : decode cX1_end 23 = .ok (.dup, 1) := dk_89 (dk_at dksX1_end_0 23 rfl rfl)
theorem dX1_end_24 : decode cX1_end 24 = .ok (.getfield 180, 3) := dk_180 0 180 (dk_at dksX1_end_1 0 rfl rfl)
theorem dX1_end_27 : decode cX1_end 27 = .ok (.iconst 1, 1) := dk_4 (dk_at dksX1_end_1 3 rfl rfl)
theorem dX1_end_28 : decode cX1_end 28 = .ok (.iadd, 1) := dk_96 (dk_at dksX1_end_1 4 rfl rfl)
theorem dX1_end_29 : decode cX1_end 29 = .ok (.putfield 180, 3) := dk_181 0 180 (dk_at dksX1_end_1 5 rfl rfl)
theorem dX1_end_32 : decode cX1_end 32 = .ok (.goto 15, 3) := dk_167 0 15 (dk_at dksX1_end_1 8 rfl rfl)
theorem dX1_end_35 : decode cX1_end 35 = .ok (.aload_n 0, 1) := dk_42 (dk_at dksX1_end_1 11 rfl rfl)
theorem dX1_end_36 : decode cX1_end 36 = .ok (.getfield 18, 3) := dk_180 0 18 (dk_at dksX1_end_1 12 rfl rfl)
theorem dX1_end_39 : decode cX1_end 39 = .ok (.aload_n 1, 1) := dk_43 (dk_at dksX1_end_1 15 rfl rfl)
theorem dX1_end_40 : decode cX1_end 40 = .ok (.getfield 183, 3) := dk_180 0 183 (dk_at dksX1_end_1 16 rfl rfl)
theorem dX1_end_43 : decode cX1_end 43 = .ok (.iconst 1, 1) := dk_4 (dk_at dksX1_end_1 19 rfl rfl)
theorem dX1_end_44 : decode cX1_end 44 = .ok (.invokevirtual 85, 3) := dk_182 0 85 (dk_at dksX1_end_1 20 rfl rfl)
theorem dX1_end_47 : decode cX1_end 47 = .ok (.return_, 1) := dk_177 (dk_at dksX1_end_1 23 rfl rfl)
abbrev cX1_weak : ByteArray := prog_1_method_24_code
def yX1_weak : MethodName := ⟨RX1, "weak", "(I)I"⟩
def dkwX1_weak_0 : List UInt8 := [42, 27, 182, 0, 145, 182, 0, 201, 4, 96, 172]
abbrev dktX1_weak_0 : List UInt8 := dkwX1_weak_0 ++ []
theorem dksX1_weak_0 : cX1_weak.data.toList.drop 0 = dktX1_weak_0 := by decide +kernel
theorem dX1_weak_0 : decode cX1_weak 0 = .ok (.aload_n 0, 1) := dk_42 (dk_at dksX1_weak_0 0 rfl rfl)
theorem dX1_weak_1 : decode cX1_weak 1 = .ok (.iload_n 1, 1) := dk_27 (dk_at dksX1_weak_0 1 rfl rfl)
theorem dX1_weak_2 : decode cX1_weak 2 = .ok (.invokevirtual 145, 3) := dk_182 0 145 (dk_at dksX1_weak_0 2 rfl rfl)
theorem dX1_weak_5 : decode cX1_weak 5 = .ok (.invokevirtual 201, 3) := dk_182 0 201 (dk_at dksX1_weak_0 5 rfl rfl)
theorem dX1_weak_8 : decode cX1_weak 8 = .ok (.iconst 1, 1) := dk_4 (dk_at dksX1_weak_0 8 rfl rfl)
theorem dX1_weak_9 : decode cX1_weak 9 = .ok (.iadd, 1) := dk_96 (dk_at dksX1_weak_0 9 rfl rfl)
theorem dX1_weak_10 : decode cX1_weak 10 = .ok (.ireturn, 1) := dk_172 (dk_at dksX1_weak_0 10 rfl rfl)
abbrev cX1_read : ByteArray := prog_1_method_25_code
def yX1_read : MethodName := ⟨RX1, "read", "(II)I"⟩
def dkwX1_read_0 : List UInt8 := [42, 27, 182, 0, 145, 78, 28, 184, 1, 33, 45, 180, 0, 169, 28, 46, 172]
abbrev dktX1_read_0 : List UInt8 := dkwX1_read_0 ++ []
theorem dksX1_read_0 : cX1_read.data.toList.drop 0 = dktX1_read_0 := by decide +kernel
theorem dX1_read_0 : decode cX1_read 0 = .ok (.aload_n 0, 1) := dk_42 (dk_at dksX1_read_0 0 rfl rfl)
theorem dX1_read_1 : decode cX1_read 1 = .ok (.iload_n 1, 1) := dk_27 (dk_at dksX1_read_0 1 rfl rfl)
theorem dX1_read_2 : decode cX1_read 2 = .ok (.invokevirtual 145, 3) := dk_182 0 145 (dk_at dksX1_read_0 2 rfl rfl)
theorem dX1_read_5 : decode cX1_read 5 = .ok (.astore_n 3, 1) := dk_78 (dk_at dksX1_read_0 5 rfl rfl)
theorem dX1_read_6 : decode cX1_read 6 = .ok (.iload_n 2, 1) := dk_28 (dk_at dksX1_read_0 6 rfl rfl)
theorem dX1_read_7 : decode cX1_read 7 = .ok (.invokestatic 289, 3) := dk_184 1 33 (dk_at dksX1_read_0 7 rfl rfl)
theorem dX1_read_10 : decode cX1_read 10 = .ok (.aload_n 3, 1) := dk_45 (dk_at dksX1_read_0 10 rfl rfl)
theorem dX1_read_11 : decode cX1_read 11 = .ok (.getfield 169, 3) := dk_180 0 169 (dk_at dksX1_read_0 11 rfl rfl)
theorem dX1_read_14 : decode cX1_read 14 = .ok (.iload_n 2, 1) := dk_28 (dk_at dksX1_read_0 14 rfl rfl)
theorem dX1_read_15 : decode cX1_read 15 = .ok (.iaload, 1) := dk_46 (dk_at dksX1_read_0 15 rfl rfl)
theorem dX1_read_16 : decode cX1_read 16 = .ok (.ireturn, 1) := dk_172 (dk_at dksX1_read_0 16 rfl rfl)
abbrev cX1_wantWord : ByteArray := prog_1_method_10_code
def yX1_wantWord : MethodName := ⟨RX1, "wantWord", "(I)V"⟩
def dkwX1_wantWord_0 : List UInt8 := [26, 3, 6, 184, 0, 92, 154, 0, 11, 187, 0, 96, 89, 183, 0, 98, 191, 177]
abbrev dktX1_wantWord_0 : List UInt8 := dkwX1_wantWord_0 ++ []
theorem dksX1_wantWord_0 : cX1_wantWord.data.toList.drop 0 = dktX1_wantWord_0 := by decide +kernel
theorem dX1_wantWord_0 : decode cX1_wantWord 0 = .ok (.iload_n 0, 1) := dk_26 (dk_at dksX1_wantWord_0 0 rfl rfl)
theorem dX1_wantWord_1 : decode cX1_wantWord 1 = .ok (.iconst 0, 1) := dk_3 (dk_at dksX1_wantWord_0 1 rfl rfl)
theorem dX1_wantWord_2 : decode cX1_wantWord 2 = .ok (.iconst 3, 1) := dk_6 (dk_at dksX1_wantWord_0 2 rfl rfl)
theorem dX1_wantWord_3 : decode cX1_wantWord 3 = .ok (.invokestatic 92, 3) := dk_184 0 92 (dk_at dksX1_wantWord_0 3 rfl rfl)
theorem dX1_wantWord_6 : decode cX1_wantWord 6 = .ok (.ifCond .ne 11, 3) := dk_154 0 11 (dk_at dksX1_wantWord_0 6 rfl rfl)
theorem dX1_wantWord_9 : decode cX1_wantWord 9 = .ok (.new 96, 3) := dk_187 0 96 (dk_at dksX1_wantWord_0 9 rfl rfl)
theorem dX1_wantWord_12 : decode cX1_wantWord 12 = .ok (.dup, 1) := dk_89 (dk_at dksX1_wantWord_0 12 rfl rfl)
theorem dX1_wantWord_13 : decode cX1_wantWord 13 = .ok (.invokespecial 98, 3) := dk_183 0 98 (dk_at dksX1_wantWord_0 13 rfl rfl)
theorem dX1_wantWord_16 : decode cX1_wantWord 16 = .ok (.athrow, 1) := dk_191 (dk_at dksX1_wantWord_0 16 rfl rfl)
theorem dX1_wantWord_17 : decode cX1_wantWord 17 = .ok (.return_, 1) := dk_177 (dk_at dksX1_wantWord_0 17 rfl rfl)
abbrev cX1_write : ByteArray := prog_1_method_26_code
def yX1_write : MethodName := ⟨RX1, "write", "(III)I"⟩
def dkwX1_write_1 : List UInt8 := [180, 0, 169, 28, 29, 79, 21, 5, 172]
abbrev dktX1_write_1 : List UInt8 := dkwX1_write_1 ++ []
def dkwX1_write_0 : List UInt8 := [42, 27, 182, 1, 25, 58, 4, 28, 184, 1, 33, 25, 4, 180, 0, 169, 28, 46, 54, 5, 25, 4]
abbrev dktX1_write_0 : List UInt8 := dkwX1_write_0 ++ dktX1_write_1
theorem dksX1_write_0 : cX1_write.data.toList.drop 0 = dktX1_write_0 := by decide +kernel
theorem dksX1_write_1 : cX1_write.data.toList.drop 22 = dktX1_write_1 := dk_seg dksX1_write_0 22 rfl rfl
theorem dX1_write_0 : decode cX1_write 0 = .ok (.aload_n 0, 1) := dk_42 (dk_at dksX1_write_0 0 rfl rfl)
theorem dX1_write_1 : decode cX1_write 1 = .ok (.iload_n 1, 1) := dk_27 (dk_at dksX1_write_0 1 rfl rfl)
theorem dX1_write_2 : decode cX1_write 2 = .ok (.invokevirtual 281, 3) := dk_182 1 25 (dk_at dksX1_write_0 2 rfl rfl)
theorem dX1_write_5 : decode cX1_write 5 = .ok (.astore 4, 2) := dk_58 4 (dk_at dksX1_write_0 5 rfl rfl)
theorem dX1_write_7 : decode cX1_write 7 = .ok (.iload_n 2, 1) := dk_28 (dk_at dksX1_write_0 7 rfl rfl)
theorem dX1_write_8 : decode cX1_write 8 = .ok (.invokestatic 289, 3) := dk_184 1 33 (dk_at dksX1_write_0 8 rfl rfl)
theorem dX1_write_11 : decode cX1_write 11 = .ok (.aload 4, 2) := dk_25 4 (dk_at dksX1_write_0 11 rfl rfl)
theorem dX1_write_13 : decode cX1_write 13 = .ok (.getfield 169, 3) := dk_180 0 169 (dk_at dksX1_write_0 13 rfl rfl)
theorem dX1_write_16 : decode cX1_write 16 = .ok (.iload_n 2, 1) := dk_28 (dk_at dksX1_write_0 16 rfl rfl)
theorem dX1_write_17 : decode cX1_write 17 = .ok (.iaload, 1) := dk_46 (dk_at dksX1_write_0 17 rfl rfl)
theorem dX1_write_18 : decode cX1_write 18 = .ok (.istore 5, 2) := dk_54 5 (dk_at dksX1_write_0 18 rfl rfl)
theorem dX1_write_20 : decode cX1_write 20 = .ok (.aload 4, 2) := dk_25 4 (dk_at dksX1_write_0 20 rfl rfl)
theorem dX1_write_22 : decode cX1_write 22 = .ok (.getfield 169, 3) := dk_180 0 169 (dk_at dksX1_write_1 0 rfl rfl)
theorem dX1_write_25 : decode cX1_write 25 = .ok (.iload_n 2, 1) := dk_28 (dk_at dksX1_write_1 3 rfl rfl)
theorem dX1_write_26 : decode cX1_write 26 = .ok (.iload_n 3, 1) := dk_29 (dk_at dksX1_write_1 4 rfl rfl)
theorem dX1_write_27 : decode cX1_write 27 = .ok (.iastore, 1) := dk_79 (dk_at dksX1_write_1 5 rfl rfl)
theorem dX1_write_28 : decode cX1_write 28 = .ok (.iload 5, 2) := dk_21 5 (dk_at dksX1_write_1 6 rfl rfl)
theorem dX1_write_30 : decode cX1_write 30 = .ok (.ireturn, 1) := dk_172 (dk_at dksX1_write_1 8 rfl rfl)
abbrev cX1_move : ByteArray := prog_1_method_27_code
def yX1_move : MethodName := ⟨RX1, "move", "(II)I"⟩
def dkwX1_move_4 : List UInt8 := [45, 25, 4, 182, 0, 173, 25, 5, 180, 0, 99, 172]
abbrev dktX1_move_4 : List UInt8 := dkwX1_move_4 ++ []
def dkwX1_move_3 : List UInt8 := [25, 4, 167, 0, 5, 25, 5, 4, 182, 0, 177, 25, 7, 191, 25, 5, 180, 0, 156, 45, 182, 1, 28, 42]
abbrev dktX1_move_3 : List UInt8 := dkwX1_move_3 ++ dktX1_move_4
def dkwX1_move_2 : List UInt8 := [153, 0, 8, 25, 4, 167, 0, 5, 25, 5, 4, 182, 0, 177, 167, 0, 24, 58, 7, 21, 6, 153, 0, 8]
abbrev dktX1_move_2 : List UInt8 := dkwX1_move_2 ++ dktX1_move_3
def dkwX1_move_1 : List UInt8 := [182, 0, 177, 3, 54, 6, 42, 42, 180, 0, 63, 25, 4, 4, 4, 182, 1, 6, 4, 54, 6, 21, 6]
abbrev dktX1_move_1 : List UInt8 := dkwX1_move_1 ++ dktX1_move_2
def dkwX1_move_0 : List UInt8 := [42, 27, 182, 1, 25, 78, 42, 28, 182, 1, 4, 58, 4, 45, 180, 0, 152, 58, 5, 25, 5, 2]
abbrev dktX1_move_0 : List UInt8 := dkwX1_move_0 ++ dktX1_move_1
theorem dksX1_move_0 : cX1_move.data.toList.drop 0 = dktX1_move_0 := by decide +kernel
theorem dksX1_move_1 : cX1_move.data.toList.drop 22 = dktX1_move_1 := dk_seg dksX1_move_0 22 rfl rfl
theorem dksX1_move_2 : cX1_move.data.toList.drop 45 = dktX1_move_2 := dk_seg dksX1_move_1 23 rfl rfl
theorem dksX1_move_3 : cX1_move.data.toList.drop 69 = dktX1_move_3 := dk_seg dksX1_move_2 24 rfl rfl
theorem dksX1_move_4 : cX1_move.data.toList.drop 93 = dktX1_move_4 := dk_seg dksX1_move_3 24 rfl rfl
theorem dX1_move_0 : decode cX1_move 0 = .ok (.aload_n 0, 1) := dk_42 (dk_at dksX1_move_0 0 rfl rfl)
theorem dX1_move_1 : decode cX1_move 1 = .ok (.iload_n 1, 1) := dk_27 (dk_at dksX1_move_0 1 rfl rfl)
theorem dX1_move_2 : decode cX1_move 2 = .ok (.invokevirtual 281, 3) := dk_182 1 25 (dk_at dksX1_move_0 2 rfl rfl)
theorem dX1_move_5 : decode cX1_move 5 = .ok (.astore_n 3, 1) := dk_78 (dk_at dksX1_move_0 5 rfl rfl)
theorem dX1_move_6 : decode cX1_move 6 = .ok (.aload_n 0, 1) := dk_42 (dk_at dksX1_move_0 6 rfl rfl)
theorem dX1_move_7 : decode cX1_move 7 = .ok (.iload_n 2, 1) := dk_28 (dk_at dksX1_move_0 7 rfl rfl)
theorem dX1_move_8 : decode cX1_move 8 = .ok (.invokevirtual 260, 3) := dk_182 1 4 (dk_at dksX1_move_0 8 rfl rfl)
theorem dX1_move_11 : decode cX1_move 11 = .ok (.astore 4, 2) := dk_58 4 (dk_at dksX1_move_0 11 rfl rfl)
theorem dX1_move_13 : decode cX1_move 13 = .ok (.aload_n 3, 1) := dk_45 (dk_at dksX1_move_0 13 rfl rfl)
theorem dX1_move_14 : decode cX1_move 14 = .ok (.getfield 152, 3) := dk_180 0 152 (dk_at dksX1_move_0 14 rfl rfl)
theorem dX1_move_17 : decode cX1_move 17 = .ok (.astore 5, 2) := dk_58 5 (dk_at dksX1_move_0 17 rfl rfl)
theorem dX1_move_19 : decode cX1_move 19 = .ok (.aload 5, 2) := dk_25 5 (dk_at dksX1_move_0 19 rfl rfl)
theorem dX1_move_21 : decode cX1_move 21 = .ok (.iconst (-1), 1) := dk_2 (dk_at dksX1_move_0 21 rfl rfl)
theorem dX1_move_22 : decode cX1_move 22 = .ok (.invokevirtual 177, 3) := dk_182 0 177 (dk_at dksX1_move_1 0 rfl rfl)
theorem dX1_move_25 : decode cX1_move 25 = .ok (.iconst 0, 1) := dk_3 (dk_at dksX1_move_1 3 rfl rfl)
theorem dX1_move_26 : decode cX1_move 26 = .ok (.istore 6, 2) := dk_54 6 (dk_at dksX1_move_1 4 rfl rfl)
theorem dX1_move_28 : decode cX1_move 28 = .ok (.aload_n 0, 1) := dk_42 (dk_at dksX1_move_1 6 rfl rfl)
theorem dX1_move_29 : decode cX1_move 29 = .ok (.aload_n 0, 1) := dk_42 (dk_at dksX1_move_1 7 rfl rfl)
theorem dX1_move_30 : decode cX1_move 30 = .ok (.getfield 63, 3) := dk_180 0 63 (dk_at dksX1_move_1 8 rfl rfl)
theorem dX1_move_33 : decode cX1_move 33 = .ok (.aload 4, 2) := dk_25 4 (dk_at dksX1_move_1 11 rfl rfl)
theorem dX1_move_35 : decode cX1_move 35 = .ok (.iconst 1, 1) := dk_4 (dk_at dksX1_move_1 13 rfl rfl)
theorem dX1_move_36 : decode cX1_move 36 = .ok (.iconst 1, 1) := dk_4 (dk_at dksX1_move_1 14 rfl rfl)
theorem dX1_move_37 : decode cX1_move 37 = .ok (.invokevirtual 262, 3) := dk_182 1 6 (dk_at dksX1_move_1 15 rfl rfl)
theorem dX1_move_40 : decode cX1_move 40 = .ok (.iconst 1, 1) := dk_4 (dk_at dksX1_move_1 18 rfl rfl)
theorem dX1_move_41 : decode cX1_move 41 = .ok (.istore 6, 2) := dk_54 6 (dk_at dksX1_move_1 19 rfl rfl)
theorem dX1_move_43 : decode cX1_move 43 = .ok (.iload 6, 2) := dk_21 6 (dk_at dksX1_move_1 21 rfl rfl)
theorem dX1_move_45 : decode cX1_move 45 = .ok (.ifCond .eq 8, 3) := dk_153 0 8 (dk_at dksX1_move_2 0 rfl rfl)
theorem dX1_move_48 : decode cX1_move 48 = .ok (.aload 4, 2) := dk_25 4 (dk_at dksX1_move_2 3 rfl rfl)
theorem dX1_move_50 : decode cX1_move 50 = .ok (.goto 5, 3) := dk_167 0 5 (dk_at dksX1_move_2 5 rfl rfl)
theorem dX1_move_53 : decode cX1_move 53 = .ok (.aload 5, 2) := dk_25 5 (dk_at dksX1_move_2 8 rfl rfl)
theorem dX1_move_55 : decode cX1_move 55 = .ok (.iconst 1, 1) := dk_4 (dk_at dksX1_move_2 10 rfl rfl)
theorem dX1_move_56 : decode cX1_move 56 = .ok (.invokevirtual 177, 3) := dk_182 0 177 (dk_at dksX1_move_2 11 rfl rfl)
theorem dX1_move_59 : decode cX1_move 59 = .ok (.goto 24, 3) := dk_167 0 24 (dk_at dksX1_move_2 14 rfl rfl)
theorem dX1_move_62 : decode cX1_move 62 = .ok (.astore 7, 2) := dk_58 7 (dk_at dksX1_move_2 17 rfl rfl)
theorem dX1_move_64 : decode cX1_move 64 = .ok (.iload 6, 2) := dk_21 6 (dk_at dksX1_move_2 19 rfl rfl)
theorem dX1_move_66 : decode cX1_move 66 = .ok (.ifCond .eq 8, 3) := dk_153 0 8 (dk_at dksX1_move_2 21 rfl rfl)
theorem dX1_move_69 : decode cX1_move 69 = .ok (.aload 4, 2) := dk_25 4 (dk_at dksX1_move_3 0 rfl rfl)
theorem dX1_move_71 : decode cX1_move 71 = .ok (.goto 5, 3) := dk_167 0 5 (dk_at dksX1_move_3 2 rfl rfl)
theorem dX1_move_74 : decode cX1_move 74 = .ok (.aload 5, 2) := dk_25 5 (dk_at dksX1_move_3 5 rfl rfl)
theorem dX1_move_76 : decode cX1_move 76 = .ok (.iconst 1, 1) := dk_4 (dk_at dksX1_move_3 7 rfl rfl)
theorem dX1_move_77 : decode cX1_move 77 = .ok (.invokevirtual 177, 3) := dk_182 0 177 (dk_at dksX1_move_3 8 rfl rfl)
theorem dX1_move_80 : decode cX1_move 80 = .ok (.aload 7, 2) := dk_25 7 (dk_at dksX1_move_3 11 rfl rfl)
theorem dX1_move_82 : decode cX1_move 82 = .ok (.athrow, 1) := dk_191 (dk_at dksX1_move_3 13 rfl rfl)
theorem dX1_move_83 : decode cX1_move 83 = .ok (.aload 5, 2) := dk_25 5 (dk_at dksX1_move_3 14 rfl rfl)
theorem dX1_move_85 : decode cX1_move 85 = .ok (.getfield 156, 3) := dk_180 0 156 (dk_at dksX1_move_3 16 rfl rfl)
theorem dX1_move_88 : decode cX1_move 88 = .ok (.aload_n 3, 1) := dk_45 (dk_at dksX1_move_3 19 rfl rfl)
theorem dX1_move_89 : decode cX1_move 89 = .ok (.invokevirtual 284, 3) := dk_182 1 28 (dk_at dksX1_move_3 20 rfl rfl)
theorem dX1_move_92 : decode cX1_move 92 = .ok (.aload_n 0, 1) := dk_42 (dk_at dksX1_move_3 23 rfl rfl)
theorem dX1_move_93 : decode cX1_move 93 = .ok (.aload_n 3, 1) := dk_45 (dk_at dksX1_move_4 0 rfl rfl)
theorem dX1_move_94 : decode cX1_move 94 = .ok (.aload 4, 2) := dk_25 4 (dk_at dksX1_move_4 1 rfl rfl)
theorem dX1_move_96 : decode cX1_move 96 = .ok (.invokevirtual 173, 3) := dk_182 0 173 (dk_at dksX1_move_4 3 rfl rfl)
theorem dX1_move_99 : decode cX1_move 99 = .ok (.aload 5, 2) := dk_25 5 (dk_at dksX1_move_4 6 rfl rfl)
theorem dX1_move_101 : decode cX1_move 101 = .ok (.getfield 99, 3) := dk_180 0 99 (dk_at dksX1_move_4 8 rfl rfl)
theorem dX1_move_104 : decode cX1_move 104 = .ok (.ireturn, 1) := dk_172 (dk_at dksX1_move_4 11 rfl rfl)
abbrev cX1_limit : ByteArray := prog_1_method_28_code
def yX1_limit : MethodName := ⟨RX1, "limit", "(II)I"⟩
def dkwX1_limit_2 : List UInt8 := [187, 0, 120, 89, 183, 0, 122, 191, 45, 180, 1, 41, 54, 4, 45, 28, 181, 1, 41, 21, 4, 172]
abbrev dktX1_limit_2 : List UInt8 := dkwX1_limit_2 ++ []
def dkwX1_limit_1 : List UInt8 := [187, 0, 117, 89, 183, 0, 119, 191, 45, 180, 1, 39, 28, 163, 0, 10, 45, 182, 0, 224, 153, 0, 11]
abbrev dktX1_limit_1 : List UInt8 := dkwX1_limit_1 ++ dktX1_limit_2
def dkwX1_limit_0 : List UInt8 := [42, 27, 182, 1, 4, 78, 28, 3, 17, 0, 192, 184, 0, 92, 153, 0, 10, 45, 182, 1, 36, 153, 0, 11]
abbrev dktX1_limit_0 : List UInt8 := dkwX1_limit_0 ++ dktX1_limit_1
theorem dksX1_limit_0 : cX1_limit.data.toList.drop 0 = dktX1_limit_0 := by decide +kernel
theorem dksX1_limit_1 : cX1_limit.data.toList.drop 24 = dktX1_limit_1 := dk_seg dksX1_limit_0 24 rfl rfl
theorem dksX1_limit_2 : cX1_limit.data.toList.drop 47 = dktX1_limit_2 := dk_seg dksX1_limit_1 23 rfl rfl
theorem dX1_limit_0 : decode cX1_limit 0 = .ok (.aload_n 0, 1) := dk_42 (dk_at dksX1_limit_0 0 rfl rfl)
theorem dX1_limit_1 : decode cX1_limit 1 = .ok (.iload_n 1, 1) := dk_27 (dk_at dksX1_limit_0 1 rfl rfl)
theorem dX1_limit_2 : decode cX1_limit 2 = .ok (.invokevirtual 260, 3) := dk_182 1 4 (dk_at dksX1_limit_0 2 rfl rfl)
theorem dX1_limit_5 : decode cX1_limit 5 = .ok (.astore_n 3, 1) := dk_78 (dk_at dksX1_limit_0 5 rfl rfl)
theorem dX1_limit_6 : decode cX1_limit 6 = .ok (.iload_n 2, 1) := dk_28 (dk_at dksX1_limit_0 6 rfl rfl)
theorem dX1_limit_7 : decode cX1_limit 7 = .ok (.iconst 0, 1) := dk_3 (dk_at dksX1_limit_0 7 rfl rfl)
theorem dX1_limit_8 : decode cX1_limit 8 = .ok (.sipush 192, 3) := dk_17 0 192 (dk_at dksX1_limit_0 8 rfl rfl)
theorem dX1_limit_11 : decode cX1_limit 11 = .ok (.invokestatic 92, 3) := dk_184 0 92 (dk_at dksX1_limit_0 11 rfl rfl)
theorem dX1_limit_14 : decode cX1_limit 14 = .ok (.ifCond .eq 10, 3) := dk_153 0 10 (dk_at dksX1_limit_0 14 rfl rfl)
theorem dX1_limit_17 : decode cX1_limit 17 = .ok (.aload_n 3, 1) := dk_45 (dk_at dksX1_limit_0 17 rfl rfl)
theorem dX1_limit_18 : decode cX1_limit 18 = .ok (.invokevirtual 292, 3) := dk_182 1 36 (dk_at dksX1_limit_0 18 rfl rfl)
theorem dX1_limit_21 : decode cX1_limit 21 = .ok (.ifCond .eq 11, 3) := dk_153 0 11 (dk_at dksX1_limit_0 21 rfl rfl)
theorem dX1_limit_24 : decode cX1_limit 24 = .ok (.new 117, 3) := dk_187 0 117 (dk_at dksX1_limit_1 0 rfl rfl)
theorem dX1_limit_27 : decode cX1_limit 27 = .ok (.dup, 1) := dk_89 (dk_at dksX1_limit_1 3 rfl rfl)
theorem dX1_limit_28 : decode cX1_limit 28 = .ok (.invokespecial 119, 3) := dk_183 0 119 (dk_at dksX1_limit_1 4 rfl rfl)
theorem dX1_limit_31 : decode cX1_limit 31 = .ok (.athrow, 1) := dk_191 (dk_at dksX1_limit_1 7 rfl rfl)
theorem dX1_limit_32 : decode cX1_limit 32 = .ok (.aload_n 3, 1) := dk_45 (dk_at dksX1_limit_1 8 rfl rfl)
theorem dX1_limit_33 : decode cX1_limit 33 = .ok (.getfield 295, 3) := dk_180 1 39 (dk_at dksX1_limit_1 9 rfl rfl)
theorem dX1_limit_36 : decode cX1_limit 36 = .ok (.iload_n 2, 1) := dk_28 (dk_at dksX1_limit_1 12 rfl rfl)
theorem dX1_limit_37 : decode cX1_limit 37 = .ok (.if_icmp .gt 10, 3) := dk_163 0 10 (dk_at dksX1_limit_1 13 rfl rfl)
theorem dX1_limit_40 : decode cX1_limit 40 = .ok (.aload_n 3, 1) := dk_45 (dk_at dksX1_limit_1 16 rfl rfl)
theorem dX1_limit_41 : decode cX1_limit 41 = .ok (.invokevirtual 224, 3) := dk_182 0 224 (dk_at dksX1_limit_1 17 rfl rfl)
theorem dX1_limit_44 : decode cX1_limit 44 = .ok (.ifCond .eq 11, 3) := dk_153 0 11 (dk_at dksX1_limit_1 20 rfl rfl)
theorem dX1_limit_47 : decode cX1_limit 47 = .ok (.new 120, 3) := dk_187 0 120 (dk_at dksX1_limit_2 0 rfl rfl)
theorem dX1_limit_50 : decode cX1_limit 50 = .ok (.dup, 1) := dk_89 (dk_at dksX1_limit_2 3 rfl rfl)
theorem dX1_limit_51 : decode cX1_limit 51 = .ok (.invokespecial 122, 3) := dk_183 0 122 (dk_at dksX1_limit_2 4 rfl rfl)
theorem dX1_limit_54 : decode cX1_limit 54 = .ok (.athrow, 1) := dk_191 (dk_at dksX1_limit_2 7 rfl rfl)
theorem dX1_limit_55 : decode cX1_limit 55 = .ok (.aload_n 3, 1) := dk_45 (dk_at dksX1_limit_2 8 rfl rfl)
theorem dX1_limit_56 : decode cX1_limit 56 = .ok (.getfield 297, 3) := dk_180 1 41 (dk_at dksX1_limit_2 9 rfl rfl)
theorem dX1_limit_59 : decode cX1_limit 59 = .ok (.istore 4, 2) := dk_54 4 (dk_at dksX1_limit_2 12 rfl rfl)
theorem dX1_limit_61 : decode cX1_limit 61 = .ok (.aload_n 3, 1) := dk_45 (dk_at dksX1_limit_2 14 rfl rfl)
theorem dX1_limit_62 : decode cX1_limit 62 = .ok (.iload_n 2, 1) := dk_28 (dk_at dksX1_limit_2 15 rfl rfl)
theorem dX1_limit_63 : decode cX1_limit 63 = .ok (.putfield 297, 3) := dk_181 1 41 (dk_at dksX1_limit_2 16 rfl rfl)
theorem dX1_limit_66 : decode cX1_limit 66 = .ok (.iload 4, 2) := dk_21 4 (dk_at dksX1_limit_2 19 rfl rfl)
theorem dX1_limit_68 : decode cX1_limit 68 = .ok (.ireturn, 1) := dk_172 (dk_at dksX1_limit_2 21 rfl rfl)
abbrev cX1_reserve : ByteArray := prog_1_method_29_code
def yX1_reserve : MethodName := ⟨RX1, "reserve", "(II)I"⟩
def dkwX1_reserve_1 : List UInt8 := [181, 0, 186, 45, 28, 182, 0, 177, 45, 180, 0, 186, 172]
abbrev dktX1_reserve_1 : List UInt8 := dkwX1_reserve_1 ++ []
def dkwX1_reserve_0 : List UInt8 := [42, 27, 182, 1, 4, 78, 42, 42, 180, 0, 66, 45, 28, 28, 182, 1, 6, 45, 89, 180, 0, 186, 28, 96]
abbrev dktX1_reserve_0 : List UInt8 := dkwX1_reserve_0 ++ dktX1_reserve_1
theorem dksX1_reserve_0 : cX1_reserve.data.toList.drop 0 = dktX1_reserve_0 := by decide +kernel
theorem dksX1_reserve_1 : cX1_reserve.data.toList.drop 24 = dktX1_reserve_1 := dk_seg dksX1_reserve_0 24 rfl rfl
theorem dX1_reserve_0 : decode cX1_reserve 0 = .ok (.aload_n 0, 1) := dk_42 (dk_at dksX1_reserve_0 0 rfl rfl)
theorem dX1_reserve_1 : decode cX1_reserve 1 = .ok (.iload_n 1, 1) := dk_27 (dk_at dksX1_reserve_0 1 rfl rfl)
theorem dX1_reserve_2 : decode cX1_reserve 2 = .ok (.invokevirtual 260, 3) := dk_182 1 4 (dk_at dksX1_reserve_0 2 rfl rfl)
theorem dX1_reserve_5 : decode cX1_reserve 5 = .ok (.astore_n 3, 1) := dk_78 (dk_at dksX1_reserve_0 5 rfl rfl)
theorem dX1_reserve_6 : decode cX1_reserve 6 = .ok (.aload_n 0, 1) := dk_42 (dk_at dksX1_reserve_0 6 rfl rfl)
theorem dX1_reserve_7 : decode cX1_reserve 7 = .ok (.aload_n 0, 1) := dk_42 (dk_at dksX1_reserve_0 7 rfl rfl)
theorem dX1_reserve_8 : decode cX1_reserve 8 = .ok (.getfield 66, 3) := dk_180 0 66 (dk_at dksX1_reserve_0 8 rfl rfl)
theorem dX1_reserve_11 : decode cX1_reserve 11 = .ok (.aload_n 3, 1) := dk_45 (dk_at dksX1_reserve_0 11 rfl rfl)
theorem dX1_reserve_12 : decode cX1_reserve 12 = .ok (.iload_n 2, 1) := dk_28 (dk_at dksX1_reserve_0 12 rfl rfl)
theorem dX1_reserve_13 : decode cX1_reserve 13 = .ok (.iload_n 2, 1) := dk_28 (dk_at dksX1_reserve_0 13 rfl rfl)
theorem dX1_reserve_14 : decode cX1_reserve 14 = .ok (.invokevirtual 262, 3) := dk_182 1 6 (dk_at dksX1_reserve_0 14 rfl rfl)
theorem dX1_reserve_17 : decode cX1_reserve 17 = .ok (.aload_n 3, 1) := dk_45 (dk_at dksX1_reserve_0 17 rfl rfl)
theorem dX1_reserve_18 : decode cX1_reserve 18 = .ok (.dup, 1) := dk_89 (dk_at dksX1_reserve_0 18 rfl rfl)
theorem dX1_reserve_19 : decode cX1_reserve 19 = .ok (.getfield 186, 3) := dk_180 0 186 (dk_at dksX1_reserve_0 19 rfl rfl)
theorem dX1_reserve_22 : decode cX1_reserve 22 = .ok (.iload_n 2, 1) := dk_28 (dk_at dksX1_reserve_0 22 rfl rfl)
theorem dX1_reserve_23 : decode cX1_reserve 23 = .ok (.iadd, 1) := dk_96 (dk_at dksX1_reserve_0 23 rfl rfl)
theorem dX1_reserve_24 : decode cX1_reserve 24 = .ok (.putfield 186, 3) := dk_181 0 186 (dk_at dksX1_reserve_1 0 rfl rfl)
theorem dX1_reserve_27 : decode cX1_reserve 27 = .ok (.aload_n 3, 1) := dk_45 (dk_at dksX1_reserve_1 3 rfl rfl)
theorem dX1_reserve_28 : decode cX1_reserve 28 = .ok (.iload_n 2, 1) := dk_28 (dk_at dksX1_reserve_1 4 rfl rfl)
theorem dX1_reserve_29 : decode cX1_reserve 29 = .ok (.invokevirtual 177, 3) := dk_182 0 177 (dk_at dksX1_reserve_1 5 rfl rfl)
theorem dX1_reserve_32 : decode cX1_reserve 32 = .ok (.aload_n 3, 1) := dk_45 (dk_at dksX1_reserve_1 8 rfl rfl)
theorem dX1_reserve_33 : decode cX1_reserve 33 = .ok (.getfield 186, 3) := dk_180 0 186 (dk_at dksX1_reserve_1 9 rfl rfl)
theorem dX1_reserve_36 : decode cX1_reserve 36 = .ok (.ireturn, 1) := dk_172 (dk_at dksX1_reserve_1 12 rfl rfl)
abbrev cX1_unreserve : ByteArray := prog_1_method_30_code
def yX1_unreserve : MethodName := ⟨RX1, "unreserve", "(II)I"⟩
def dkwX1_unreserve_2 : List UInt8 := [172]
abbrev dktX1_unreserve_2 : List UInt8 := dkwX1_unreserve_2 ++ []
def dkwX1_unreserve_1 : List UInt8 := [183, 0, 119, 191, 45, 89, 180, 0, 186, 28, 100, 181, 0, 186, 45, 28, 116, 182, 0, 177, 45, 180, 0, 186]
abbrev dktX1_unreserve_1 : List UInt8 := dkwX1_unreserve_1 ++ dktX1_unreserve_2
def dkwX1_unreserve_0 : List UInt8 := [42, 27, 182, 1, 4, 78, 28, 3, 45, 180, 0, 186, 184, 0, 92, 154, 0, 11, 187, 0, 117, 89]
abbrev dktX1_unreserve_0 : List UInt8 := dkwX1_unreserve_0 ++ dktX1_unreserve_1
theorem dksX1_unreserve_0 : cX1_unreserve.data.toList.drop 0 = dktX1_unreserve_0 := by decide +kernel
theorem dksX1_unreserve_1 : cX1_unreserve.data.toList.drop 22 = dktX1_unreserve_1 := dk_seg dksX1_unreserve_0 22 rfl rfl
theorem dksX1_unreserve_2 : cX1_unreserve.data.toList.drop 46 = dktX1_unreserve_2 := dk_seg dksX1_unreserve_1 24 rfl rfl
theorem dX1_unreserve_0 : decode cX1_unreserve 0 = .ok (.aload_n 0, 1) := dk_42 (dk_at dksX1_unreserve_0 0 rfl rfl)
theorem dX1_unreserve_1 : decode cX1_unreserve 1 = .ok (.iload_n 1, 1) := dk_27 (dk_at dksX1_unreserve_0 1 rfl rfl)
theorem dX1_unreserve_2 : decode cX1_unreserve 2 = .ok (.invokevirtual 260, 3) := dk_182 1 4 (dk_at dksX1_unreserve_0 2 rfl rfl)
theorem dX1_unreserve_5 : decode cX1_unreserve 5 = .ok (.astore_n 3, 1) := dk_78 (dk_at dksX1_unreserve_0 5 rfl rfl)
theorem dX1_unreserve_6 : decode cX1_unreserve 6 = .ok (.iload_n 2, 1) := dk_28 (dk_at dksX1_unreserve_0 6 rfl rfl)
theorem dX1_unreserve_7 : decode cX1_unreserve 7 = .ok (.iconst 0, 1) := dk_3 (dk_at dksX1_unreserve_0 7 rfl rfl)
theorem dX1_unreserve_8 : decode cX1_unreserve 8 = .ok (.aload_n 3, 1) := dk_45 (dk_at dksX1_unreserve_0 8 rfl rfl)
theorem dX1_unreserve_9 : decode cX1_unreserve 9 = .ok (.getfield 186, 3) := dk_180 0 186 (dk_at dksX1_unreserve_0 9 rfl rfl)
theorem dX1_unreserve_12 : decode cX1_unreserve 12 = .ok (.invokestatic 92, 3) := dk_184 0 92 (dk_at dksX1_unreserve_0 12 rfl rfl)
theorem dX1_unreserve_15 : decode cX1_unreserve 15 = .ok (.ifCond .ne 11, 3) := dk_154 0 11 (dk_at dksX1_unreserve_0 15 rfl rfl)
theorem dX1_unreserve_18 : decode cX1_unreserve 18 = .ok (.new 117, 3) := dk_187 0 117 (dk_at dksX1_unreserve_0 18 rfl rfl)
theorem dX1_unreserve_21 : decode cX1_unreserve 21 = .ok (.dup, 1) := dk_89 (dk_at dksX1_unreserve_0 21 rfl rfl)
theorem dX1_unreserve_22 : decode cX1_unreserve 22 = .ok (.invokespecial 119, 3) := dk_183 0 119 (dk_at dksX1_unreserve_1 0 rfl rfl)
theorem dX1_unreserve_25 : decode cX1_unreserve 25 = .ok (.athrow, 1) := dk_191 (dk_at dksX1_unreserve_1 3 rfl rfl)
theorem dX1_unreserve_26 : decode cX1_unreserve 26 = .ok (.aload_n 3, 1) := dk_45 (dk_at dksX1_unreserve_1 4 rfl rfl)
theorem dX1_unreserve_27 : decode cX1_unreserve 27 = .ok (.dup, 1) := dk_89 (dk_at dksX1_unreserve_1 5 rfl rfl)
theorem dX1_unreserve_28 : decode cX1_unreserve 28 = .ok (.getfield 186, 3) := dk_180 0 186 (dk_at dksX1_unreserve_1 6 rfl rfl)
theorem dX1_unreserve_31 : decode cX1_unreserve 31 = .ok (.iload_n 2, 1) := dk_28 (dk_at dksX1_unreserve_1 9 rfl rfl)
theorem dX1_unreserve_32 : decode cX1_unreserve 32 = .ok (.isub, 1) := dk_100 (dk_at dksX1_unreserve_1 10 rfl rfl)
theorem dX1_unreserve_33 : decode cX1_unreserve 33 = .ok (.putfield 186, 3) := dk_181 0 186 (dk_at dksX1_unreserve_1 11 rfl rfl)
theorem dX1_unreserve_36 : decode cX1_unreserve 36 = .ok (.aload_n 3, 1) := dk_45 (dk_at dksX1_unreserve_1 14 rfl rfl)
theorem dX1_unreserve_37 : decode cX1_unreserve 37 = .ok (.iload_n 2, 1) := dk_28 (dk_at dksX1_unreserve_1 15 rfl rfl)
theorem dX1_unreserve_38 : decode cX1_unreserve 38 = .ok (.ineg, 1) := dk_116 (dk_at dksX1_unreserve_1 16 rfl rfl)
theorem dX1_unreserve_39 : decode cX1_unreserve 39 = .ok (.invokevirtual 177, 3) := dk_182 0 177 (dk_at dksX1_unreserve_1 17 rfl rfl)
theorem dX1_unreserve_42 : decode cX1_unreserve 42 = .ok (.aload_n 3, 1) := dk_45 (dk_at dksX1_unreserve_1 20 rfl rfl)
theorem dX1_unreserve_43 : decode cX1_unreserve 43 = .ok (.getfield 186, 3) := dk_180 0 186 (dk_at dksX1_unreserve_1 21 rfl rfl)
theorem dX1_unreserve_46 : decode cX1_unreserve 46 = .ok (.ireturn, 1) := dk_172 (dk_at dksX1_unreserve_2 0 rfl rfl)
abbrev cX1_freeze : ByteArray := prog_1_method_31_code
def yX1_freeze : MethodName := ⟨RX1, "freeze", "(IZ)Z"⟩
def dkwX1_freeze_2 : List UInt8 := [181, 0, 238, 21, 4, 172]
abbrev dktX1_freeze_2 : List UInt8 := dkwX1_freeze_2 ++ []
def dkwX1_freeze_1 : List UInt8 := [166, 0, 7, 4, 167, 0, 4, 3, 54, 4, 45, 28, 153, 0, 9, 178, 1, 44, 167, 0, 6, 178, 1, 47]
abbrev dktX1_freeze_1 : List UInt8 := dkwX1_freeze_1 ++ dktX1_freeze_2
def dkwX1_freeze_0 : List UInt8 := [42, 27, 182, 1, 4, 78, 42, 42, 180, 0, 79, 45, 3, 3, 182, 1, 6, 45, 180, 0, 238, 178, 1, 44]
abbrev dktX1_freeze_0 : List UInt8 := dkwX1_freeze_0 ++ dktX1_freeze_1
theorem dksX1_freeze_0 : cX1_freeze.data.toList.drop 0 = dktX1_freeze_0 := by decide +kernel
theorem dksX1_freeze_1 : cX1_freeze.data.toList.drop 24 = dktX1_freeze_1 := dk_seg dksX1_freeze_0 24 rfl rfl
theorem dksX1_freeze_2 : cX1_freeze.data.toList.drop 48 = dktX1_freeze_2 := dk_seg dksX1_freeze_1 24 rfl rfl
theorem dX1_freeze_0 : decode cX1_freeze 0 = .ok (.aload_n 0, 1) := dk_42 (dk_at dksX1_freeze_0 0 rfl rfl)
theorem dX1_freeze_1 : decode cX1_freeze 1 = .ok (.iload_n 1, 1) := dk_27 (dk_at dksX1_freeze_0 1 rfl rfl)
theorem dX1_freeze_2 : decode cX1_freeze 2 = .ok (.invokevirtual 260, 3) := dk_182 1 4 (dk_at dksX1_freeze_0 2 rfl rfl)
theorem dX1_freeze_5 : decode cX1_freeze 5 = .ok (.astore_n 3, 1) := dk_78 (dk_at dksX1_freeze_0 5 rfl rfl)
theorem dX1_freeze_6 : decode cX1_freeze 6 = .ok (.aload_n 0, 1) := dk_42 (dk_at dksX1_freeze_0 6 rfl rfl)
theorem dX1_freeze_7 : decode cX1_freeze 7 = .ok (.aload_n 0, 1) := dk_42 (dk_at dksX1_freeze_0 7 rfl rfl)
theorem dX1_freeze_8 : decode cX1_freeze 8 = .ok (.getfield 79, 3) := dk_180 0 79 (dk_at dksX1_freeze_0 8 rfl rfl)
theorem dX1_freeze_11 : decode cX1_freeze 11 = .ok (.aload_n 3, 1) := dk_45 (dk_at dksX1_freeze_0 11 rfl rfl)
theorem dX1_freeze_12 : decode cX1_freeze 12 = .ok (.iconst 0, 1) := dk_3 (dk_at dksX1_freeze_0 12 rfl rfl)
theorem dX1_freeze_13 : decode cX1_freeze 13 = .ok (.iconst 0, 1) := dk_3 (dk_at dksX1_freeze_0 13 rfl rfl)
theorem dX1_freeze_14 : decode cX1_freeze 14 = .ok (.invokevirtual 262, 3) := dk_182 1 6 (dk_at dksX1_freeze_0 14 rfl rfl)
theorem dX1_freeze_17 : decode cX1_freeze 17 = .ok (.aload_n 3, 1) := dk_45 (dk_at dksX1_freeze_0 17 rfl rfl)
theorem dX1_freeze_18 : decode cX1_freeze 18 = .ok (.getfield 238, 3) := dk_180 0 238 (dk_at dksX1_freeze_0 18 rfl rfl)
theorem dX1_freeze_21 : decode cX1_freeze 21 = .ok (.getstatic 300, 3) := dk_178 1 44 (dk_at dksX1_freeze_0 21 rfl rfl)
theorem dX1_freeze_24 : decode cX1_freeze 24 = .ok (.if_acmp .ne 7, 3) := dk_166 0 7 (dk_at dksX1_freeze_1 0 rfl rfl)
theorem dX1_freeze_27 : decode cX1_freeze 27 = .ok (.iconst 1, 1) := dk_4 (dk_at dksX1_freeze_1 3 rfl rfl)
theorem dX1_freeze_28 : decode cX1_freeze 28 = .ok (.goto 4, 3) := dk_167 0 4 (dk_at dksX1_freeze_1 4 rfl rfl)
theorem dX1_freeze_31 : decode cX1_freeze 31 = .ok (.iconst 0, 1) := dk_3 (dk_at dksX1_freeze_1 7 rfl rfl)
theorem dX1_freeze_32 : decode cX1_freeze 32 = .ok (.istore 4, 2) := dk_54 4 (dk_at dksX1_freeze_1 8 rfl rfl)
theorem dX1_freeze_34 : decode cX1_freeze 34 = .ok (.aload_n 3, 1) := dk_45 (dk_at dksX1_freeze_1 10 rfl rfl)
theorem dX1_freeze_35 : decode cX1_freeze 35 = .ok (.iload_n 2, 1) := dk_28 (dk_at dksX1_freeze_1 11 rfl rfl)
theorem dX1_freeze_36 : decode cX1_freeze 36 = .ok (.ifCond .eq 9, 3) := dk_153 0 9 (dk_at dksX1_freeze_1 12 rfl rfl)
theorem dX1_freeze_39 : decode cX1_freeze 39 = .ok (.getstatic 300, 3) := dk_178 1 44 (dk_at dksX1_freeze_1 15 rfl rfl)
theorem dX1_freeze_42 : decode cX1_freeze 42 = .ok (.goto 6, 3) := dk_167 0 6 (dk_at dksX1_freeze_1 18 rfl rfl)
theorem dX1_freeze_45 : decode cX1_freeze 45 = .ok (.getstatic 303, 3) := dk_178 1 47 (dk_at dksX1_freeze_1 21 rfl rfl)
theorem dX1_freeze_48 : decode cX1_freeze 48 = .ok (.putfield 238, 3) := dk_181 0 238 (dk_at dksX1_freeze_2 0 rfl rfl)
theorem dX1_freeze_51 : decode cX1_freeze 51 = .ok (.iload 4, 2) := dk_21 4 (dk_at dksX1_freeze_2 3 rfl rfl)
theorem dX1_freeze_53 : decode cX1_freeze 53 = .ok (.ireturn, 1) := dk_172 (dk_at dksX1_freeze_2 5 rfl rfl)
abbrev cX1_destroy : ByteArray := prog_1_method_32_code
def yX1_destroy : MethodName := ⟨RX1, "destroy", "(I)I"⟩
def dkwX1_destroy_1 : List UInt8 := [180, 0, 22, 180, 1, 50, 172]
abbrev dktX1_destroy_1 : List UInt8 := dkwX1_destroy_1 ++ []
def dkwX1_destroy_0 : List UInt8 := [42, 27, 182, 1, 4, 77, 42, 42, 180, 0, 79, 44, 3, 3, 182, 1, 6, 42, 44, 182, 1, 1, 42]
abbrev dktX1_destroy_0 : List UInt8 := dkwX1_destroy_0 ++ dktX1_destroy_1
theorem dksX1_destroy_0 : cX1_destroy.data.toList.drop 0 = dktX1_destroy_0 := by decide +kernel
theorem dksX1_destroy_1 : cX1_destroy.data.toList.drop 23 = dktX1_destroy_1 := dk_seg dksX1_destroy_0 23 rfl rfl
theorem dX1_destroy_0 : decode cX1_destroy 0 = .ok (.aload_n 0, 1) := dk_42 (dk_at dksX1_destroy_0 0 rfl rfl)
theorem dX1_destroy_1 : decode cX1_destroy 1 = .ok (.iload_n 1, 1) := dk_27 (dk_at dksX1_destroy_0 1 rfl rfl)
theorem dX1_destroy_2 : decode cX1_destroy 2 = .ok (.invokevirtual 260, 3) := dk_182 1 4 (dk_at dksX1_destroy_0 2 rfl rfl)
theorem dX1_destroy_5 : decode cX1_destroy 5 = .ok (.astore_n 2, 1) := dk_77 (dk_at dksX1_destroy_0 5 rfl rfl)
theorem dX1_destroy_6 : decode cX1_destroy 6 = .ok (.aload_n 0, 1) := dk_42 (dk_at dksX1_destroy_0 6 rfl rfl)
theorem dX1_destroy_7 : decode cX1_destroy 7 = .ok (.aload_n 0, 1) := dk_42 (dk_at dksX1_destroy_0 7 rfl rfl)
theorem dX1_destroy_8 : decode cX1_destroy 8 = .ok (.getfield 79, 3) := dk_180 0 79 (dk_at dksX1_destroy_0 8 rfl rfl)
theorem dX1_destroy_11 : decode cX1_destroy 11 = .ok (.aload_n 2, 1) := dk_44 (dk_at dksX1_destroy_0 11 rfl rfl)
theorem dX1_destroy_12 : decode cX1_destroy 12 = .ok (.iconst 0, 1) := dk_3 (dk_at dksX1_destroy_0 12 rfl rfl)
theorem dX1_destroy_13 : decode cX1_destroy 13 = .ok (.iconst 0, 1) := dk_3 (dk_at dksX1_destroy_0 13 rfl rfl)
theorem dX1_destroy_14 : decode cX1_destroy 14 = .ok (.invokevirtual 262, 3) := dk_182 1 6 (dk_at dksX1_destroy_0 14 rfl rfl)
theorem dX1_destroy_17 : decode cX1_destroy 17 = .ok (.aload_n 0, 1) := dk_42 (dk_at dksX1_destroy_0 17 rfl rfl)
theorem dX1_destroy_18 : decode cX1_destroy 18 = .ok (.aload_n 2, 1) := dk_44 (dk_at dksX1_destroy_0 18 rfl rfl)
theorem dX1_destroy_19 : decode cX1_destroy 19 = .ok (.invokevirtual 257, 3) := dk_182 1 1 (dk_at dksX1_destroy_0 19 rfl rfl)
theorem dX1_destroy_22 : decode cX1_destroy 22 = .ok (.aload_n 0, 1) := dk_42 (dk_at dksX1_destroy_0 22 rfl rfl)
theorem dX1_destroy_23 : decode cX1_destroy 23 = .ok (.getfield 22, 3) := dk_180 0 22 (dk_at dksX1_destroy_1 0 rfl rfl)
theorem dX1_destroy_26 : decode cX1_destroy 26 = .ok (.getfield 306, 3) := dk_180 1 50 (dk_at dksX1_destroy_1 3 rfl rfl)
theorem dX1_destroy_29 : decode cX1_destroy 29 = .ok (.ireturn, 1) := dk_172 (dk_at dksX1_destroy_1 6 rfl rfl)
abbrev cX1_doom : ByteArray := prog_1_method_18_code
def yX1_doom : MethodName := ⟨RX1, "doom", "(LPageBanks$Bank;)V"⟩
def dkwX1_doom_4 : List UInt8 := [132, 2, 255, 167, 255, 232, 43, 182, 0, 227, 153, 0, 8, 42, 43, 182, 0, 230, 177]
abbrev dktX1_doom_4 : List UInt8 := dkwX1_doom_4 ++ []
def dkwX1_doom_3 : List UInt8 := [4, 100, 61, 28, 155, 0, 26, 42, 43, 180, 0, 211, 28, 185, 0, 215, 2, 0, 192, 0, 25, 182, 1, 1]
abbrev dktX1_doom_3 : List UInt8 := dkwX1_doom_3 ++ dktX1_doom_4
def dkwX1_doom_2 : List UInt8 := [185, 0, 250, 1, 0, 180, 0, 183, 4, 182, 0, 85, 167, 255, 230, 43, 180, 0, 211, 185, 0, 254, 1, 0]
abbrev dktX1_doom_2 : List UInt8 := dkwX1_doom_2 ++ dktX1_doom_3
def dkwX1_doom_1 : List UInt8 := [180, 0, 156, 182, 0, 241, 77, 44, 185, 0, 245, 1, 0, 153, 0, 23, 42, 180, 0, 22, 44]
abbrev dktX1_doom_1 : List UInt8 := dkwX1_doom_1 ++ dktX1_doom_2
def dkwX1_doom_0 : List UInt8 := [43, 43, 180, 0, 186, 116, 182, 0, 177, 43, 3, 181, 0, 186, 43, 178, 0, 232, 181, 0, 238, 43]
abbrev dktX1_doom_0 : List UInt8 := dkwX1_doom_0 ++ dktX1_doom_1
theorem dksX1_doom_0 : cX1_doom.data.toList.drop 0 = dktX1_doom_0 := by decide +kernel
theorem dksX1_doom_1 : cX1_doom.data.toList.drop 22 = dktX1_doom_1 := dk_seg dksX1_doom_0 22 rfl rfl
theorem dksX1_doom_2 : cX1_doom.data.toList.drop 43 = dktX1_doom_2 := dk_seg dksX1_doom_1 21 rfl rfl
theorem dksX1_doom_3 : cX1_doom.data.toList.drop 67 = dktX1_doom_3 := dk_seg dksX1_doom_2 24 rfl rfl
theorem dksX1_doom_4 : cX1_doom.data.toList.drop 91 = dktX1_doom_4 := dk_seg dksX1_doom_3 24 rfl rfl
theorem dX1_doom_0 : decode cX1_doom 0 = .ok (.aload_n 1, 1) := dk_43 (dk_at dksX1_doom_0 0 rfl rfl)
theorem dX1_doom_1 : decode cX1_doom 1 = .ok (.aload_n 1, 1) := dk_43 (dk_at dksX1_doom_0 1 rfl rfl)
theorem dX1_doom_2 : decode cX1_doom 2 = .ok (.getfield 186, 3) := dk_180 0 186 (dk_at dksX1_doom_0 2 rfl rfl)
theorem dX1_doom_5 : decode cX1_doom 5 = .ok (.ineg, 1) := dk_116 (dk_at dksX1_doom_0 5 rfl rfl)
theorem dX1_doom_6 : decode cX1_doom 6 = .ok (.invokevirtual 177, 3) := dk_182 0 177 (dk_at dksX1_doom_0 6 rfl rfl)
theorem dX1_doom_9 : decode cX1_doom 9 = .ok (.aload_n 1, 1) := dk_43 (dk_at dksX1_doom_0 9 rfl rfl)
theorem dX1_doom_10 : decode cX1_doom 10 = .ok (.iconst 0, 1) := dk_3 (dk_at dksX1_doom_0 10 rfl rfl)
theorem dX1_doom_11 : decode cX1_doom 11 = .ok (.putfield 186, 3) := dk_181 0 186 (dk_at dksX1_doom_0 11 rfl rfl)
theorem dX1_doom_14 : decode cX1_doom 14 = .ok (.aload_n 1, 1) := dk_43 (dk_at dksX1_doom_0 14 rfl rfl)
theorem dX1_doom_15 : decode cX1_doom 15 = .ok (.getstatic 232, 3) := dk_178 0 232 (dk_at dksX1_doom_0 15 rfl rfl)
theorem dX1_doom_18 : decode cX1_doom 18 = .ok (.putfield 238, 3) := dk_181 0 238 (dk_at dksX1_doom_0 18 rfl rfl)
theorem dX1_doom_21 : decode cX1_doom 21 = .ok (.aload_n 1, 1) := dk_43 (dk_at dksX1_doom_0 21 rfl rfl)
theorem dX1_doom_22 : decode cX1_doom 22 = .ok (.getfield 156, 3) := dk_180 0 156 (dk_at dksX1_doom_1 0 rfl rfl)
theorem dX1_doom_25 : decode cX1_doom 25 = .ok (.invokevirtual 241, 3) := dk_182 0 241 (dk_at dksX1_doom_1 3 rfl rfl)
theorem dX1_doom_28 : decode cX1_doom 28 = .ok (.astore_n 2, 1) := dk_77 (dk_at dksX1_doom_1 6 rfl rfl)
theorem dX1_doom_29 : decode cX1_doom 29 = .ok (.aload_n 2, 1) := dk_44 (dk_at dksX1_doom_1 7 rfl rfl)
theorem dX1_doom_30 : decode cX1_doom 30 = .ok (.invokeinterface 245 1, 5) := by decide +kernel
theorem dX1_doom_35 : decode cX1_doom 35 = .ok (.ifCond .eq 23, 3) := dk_153 0 23 (dk_at dksX1_doom_1 13 rfl rfl)
theorem dX1_doom_38 : decode cX1_doom 38 = .ok (.aload_n 0, 1) := dk_42 (dk_at dksX1_doom_1 16 rfl rfl)
theorem dX1_doom_39 : decode cX1_doom 39 = .ok (.getfield 22, 3) := dk_180 0 22 (dk_at dksX1_doom_1 17 rfl rfl)
theorem dX1_doom_42 : decode cX1_doom 42 = .ok (.aload_n 2, 1) := dk_44 (dk_at dksX1_doom_1 20 rfl rfl)
theorem dX1_doom_43 : decode cX1_doom 43 = .ok (.invokeinterface 250 1, 5) := by decide +kernel
theorem dX1_doom_48 : decode cX1_doom 48 = .ok (.getfield 183, 3) := dk_180 0 183 (dk_at dksX1_doom_2 5 rfl rfl)
theorem dX1_doom_51 : decode cX1_doom 51 = .ok (.iconst 1, 1) := dk_4 (dk_at dksX1_doom_2 8 rfl rfl)
theorem dX1_doom_52 : decode cX1_doom 52 = .ok (.invokevirtual 85, 3) := dk_182 0 85 (dk_at dksX1_doom_2 9 rfl rfl)
theorem dX1_doom_55 : decode cX1_doom 55 = .ok (.goto (-26), 3) := dk_167 255 230 (dk_at dksX1_doom_2 12 rfl rfl)
theorem dX1_doom_58 : decode cX1_doom 58 = .ok (.aload_n 1, 1) := dk_43 (dk_at dksX1_doom_2 15 rfl rfl)
theorem dX1_doom_59 : decode cX1_doom 59 = .ok (.getfield 211, 3) := dk_180 0 211 (dk_at dksX1_doom_2 16 rfl rfl)
theorem dX1_doom_62 : decode cX1_doom 62 = .ok (.invokeinterface 254 1, 5) := by decide +kernel
theorem dX1_doom_67 : decode cX1_doom 67 = .ok (.iconst 1, 1) := dk_4 (dk_at dksX1_doom_3 0 rfl rfl)
theorem dX1_doom_68 : decode cX1_doom 68 = .ok (.isub, 1) := dk_100 (dk_at dksX1_doom_3 1 rfl rfl)
theorem dX1_doom_69 : decode cX1_doom 69 = .ok (.istore_n 2, 1) := dk_61 (dk_at dksX1_doom_3 2 rfl rfl)
theorem dX1_doom_70 : decode cX1_doom 70 = .ok (.iload_n 2, 1) := dk_28 (dk_at dksX1_doom_3 3 rfl rfl)
theorem dX1_doom_71 : decode cX1_doom 71 = .ok (.ifCond .lt 26, 3) := dk_155 0 26 (dk_at dksX1_doom_3 4 rfl rfl)
theorem dX1_doom_74 : decode cX1_doom 74 = .ok (.aload_n 0, 1) := dk_42 (dk_at dksX1_doom_3 7 rfl rfl)
theorem dX1_doom_75 : decode cX1_doom 75 = .ok (.aload_n 1, 1) := dk_43 (dk_at dksX1_doom_3 8 rfl rfl)
theorem dX1_doom_76 : decode cX1_doom 76 = .ok (.getfield 211, 3) := dk_180 0 211 (dk_at dksX1_doom_3 9 rfl rfl)
theorem dX1_doom_79 : decode cX1_doom 79 = .ok (.iload_n 2, 1) := dk_28 (dk_at dksX1_doom_3 12 rfl rfl)
theorem dX1_doom_80 : decode cX1_doom 80 = .ok (.invokeinterface 215 2, 5) := by decide +kernel
theorem dX1_doom_85 : decode cX1_doom 85 = .ok (.checkcast 25, 3) := dk_192 0 25 (dk_at dksX1_doom_3 18 rfl rfl)
theorem dX1_doom_88 : decode cX1_doom 88 = .ok (.invokevirtual 257, 3) := dk_182 1 1 (dk_at dksX1_doom_3 21 rfl rfl)
theorem dX1_doom_91 : decode cX1_doom 91 = .ok (.iinc 2 (-1), 3) := dk_132 2 255 (dk_at dksX1_doom_4 0 rfl rfl)
theorem dX1_doom_94 : decode cX1_doom 94 = .ok (.goto (-24), 3) := dk_167 255 232 (dk_at dksX1_doom_4 3 rfl rfl)
theorem dX1_doom_97 : decode cX1_doom 97 = .ok (.aload_n 1, 1) := dk_43 (dk_at dksX1_doom_4 6 rfl rfl)
theorem dX1_doom_98 : decode cX1_doom 98 = .ok (.invokevirtual 227, 3) := dk_182 0 227 (dk_at dksX1_doom_4 7 rfl rfl)
theorem dX1_doom_101 : decode cX1_doom 101 = .ok (.ifCond .eq 8, 3) := dk_153 0 8 (dk_at dksX1_doom_4 10 rfl rfl)
theorem dX1_doom_104 : decode cX1_doom 104 = .ok (.aload_n 0, 1) := dk_42 (dk_at dksX1_doom_4 13 rfl rfl)
theorem dX1_doom_105 : decode cX1_doom 105 = .ok (.aload_n 1, 1) := dk_43 (dk_at dksX1_doom_4 14 rfl rfl)
theorem dX1_doom_106 : decode cX1_doom 106 = .ok (.invokevirtual 230, 3) := dk_182 0 230 (dk_at dksX1_doom_4 15 rfl rfl)
theorem dX1_doom_109 : decode cX1_doom 109 = .ok (.return_, 1) := dk_177 (dk_at dksX1_doom_4 18 rfl rfl)
abbrev cX1_remove : ByteArray := prog_1_method_16_code
def yX1_remove : MethodName := ⟨RX1, "remove", "(LPageBanks$Bank;)V"⟩
def dkwX1_remove_2 : List UInt8 := [180, 0, 99, 1, 83, 42, 89, 180, 0, 31, 4, 100, 181, 0, 31, 177]
abbrev dktX1_remove_2 : List UInt8 := dkwX1_remove_2 ++ []
def dkwX1_remove_1 : List UInt8 := [167, 255, 236, 43, 180, 0, 208, 180, 0, 211, 28, 185, 0, 221, 2, 0, 87, 42, 180, 0, 27, 43]
abbrev dktX1_remove_1 : List UInt8 := dkwX1_remove_1 ++ dktX1_remove_2
def dkwX1_remove_0 : List UInt8 := [3, 61, 43, 180, 0, 208, 180, 0, 211, 28, 185, 0, 215, 2, 0, 43, 165, 0, 9, 132, 2, 1]
abbrev dktX1_remove_0 : List UInt8 := dkwX1_remove_0 ++ dktX1_remove_1
theorem dksX1_remove_0 : cX1_remove.data.toList.drop 0 = dktX1_remove_0 := by decide +kernel
theorem dksX1_remove_1 : cX1_remove.data.toList.drop 22 = dktX1_remove_1 := dk_seg dksX1_remove_0 22 rfl rfl
theorem dksX1_remove_2 : cX1_remove.data.toList.drop 44 = dktX1_remove_2 := dk_seg dksX1_remove_1 22 rfl rfl
theorem dX1_remove_0 : decode cX1_remove 0 = .ok (.iconst 0, 1) := dk_3 (dk_at dksX1_remove_0 0 rfl rfl)
theorem dX1_remove_1 : decode cX1_remove 1 = .ok (.istore_n 2, 1) := dk_61 (dk_at dksX1_remove_0 1 rfl rfl)
theorem dX1_remove_2 : decode cX1_remove 2 = .ok (.aload_n 1, 1) := dk_43 (dk_at dksX1_remove_0 2 rfl rfl)
theorem dX1_remove_3 : decode cX1_remove 3 = .ok (.getfield 208, 3) := dk_180 0 208 (dk_at dksX1_remove_0 3 rfl rfl)
theorem dX1_remove_6 : decode cX1_remove 6 = .ok (.getfield 211, 3) := dk_180 0 211 (dk_at dksX1_remove_0 6 rfl rfl)
theorem dX1_remove_9 : decode cX1_remove 9 = .ok (.iload_n 2, 1) := dk_28 (dk_at dksX1_remove_0 9 rfl rfl)
theorem dX1_remove_10 : decode cX1_remove 10 = .ok (.invokeinterface 215 2, 5) := by decide +kernel
theorem dX1_remove_15 : decode cX1_remove 15 = .ok (.aload_n 1, 1) := dk_43 (dk_at dksX1_remove_0 15 rfl rfl)
theorem dX1_remove_16 : decode cX1_remove 16 = .ok (.if_acmp .eq 9, 3) := dk_165 0 9 (dk_at dksX1_remove_0 16 rfl rfl)
theorem dX1_remove_19 : decode cX1_remove 19 = .ok (.iinc 2 1, 3) := dk_132 2 1 (dk_at dksX1_remove_0 19 rfl rfl)
theorem dX1_remove_22 : decode cX1_remove 22 = .ok (.goto (-20), 3) := dk_167 255 236 (dk_at dksX1_remove_1 0 rfl rfl)
theorem dX1_remove_25 : decode cX1_remove 25 = .ok (.aload_n 1, 1) := dk_43 (dk_at dksX1_remove_1 3 rfl rfl)
theorem dX1_remove_26 : decode cX1_remove 26 = .ok (.getfield 208, 3) := dk_180 0 208 (dk_at dksX1_remove_1 4 rfl rfl)
theorem dX1_remove_29 : decode cX1_remove 29 = .ok (.getfield 211, 3) := dk_180 0 211 (dk_at dksX1_remove_1 7 rfl rfl)
theorem dX1_remove_32 : decode cX1_remove 32 = .ok (.iload_n 2, 1) := dk_28 (dk_at dksX1_remove_1 10 rfl rfl)
theorem dX1_remove_33 : decode cX1_remove 33 = .ok (.invokeinterface 221 2, 5) := by decide +kernel
theorem dX1_remove_38 : decode cX1_remove 38 = .ok (.pop, 1) := dk_87 (dk_at dksX1_remove_1 16 rfl rfl)
theorem dX1_remove_39 : decode cX1_remove 39 = .ok (.aload_n 0, 1) := dk_42 (dk_at dksX1_remove_1 17 rfl rfl)
theorem dX1_remove_40 : decode cX1_remove 40 = .ok (.getfield 27, 3) := dk_180 0 27 (dk_at dksX1_remove_1 18 rfl rfl)
theorem dX1_remove_43 : decode cX1_remove 43 = .ok (.aload_n 1, 1) := dk_43 (dk_at dksX1_remove_1 21 rfl rfl)
theorem dX1_remove_44 : decode cX1_remove 44 = .ok (.getfield 99, 3) := dk_180 0 99 (dk_at dksX1_remove_2 0 rfl rfl)
theorem dX1_remove_47 : decode cX1_remove 47 = .ok (.aconst_null, 1) := dk_1 (dk_at dksX1_remove_2 3 rfl rfl)
theorem dX1_remove_48 : decode cX1_remove 48 = .ok (.aastore, 1) := dk_83 (dk_at dksX1_remove_2 4 rfl rfl)
theorem dX1_remove_49 : decode cX1_remove 49 = .ok (.aload_n 0, 1) := dk_42 (dk_at dksX1_remove_2 5 rfl rfl)
theorem dX1_remove_50 : decode cX1_remove 50 = .ok (.dup, 1) := dk_89 (dk_at dksX1_remove_2 6 rfl rfl)
theorem dX1_remove_51 : decode cX1_remove 51 = .ok (.getfield 31, 3) := dk_180 0 31 (dk_at dksX1_remove_2 7 rfl rfl)
theorem dX1_remove_54 : decode cX1_remove 54 = .ok (.iconst 1, 1) := dk_4 (dk_at dksX1_remove_2 10 rfl rfl)
theorem dX1_remove_55 : decode cX1_remove 55 = .ok (.isub, 1) := dk_100 (dk_at dksX1_remove_2 11 rfl rfl)
theorem dX1_remove_56 : decode cX1_remove 56 = .ok (.putfield 31, 3) := dk_181 0 31 (dk_at dksX1_remove_2 12 rfl rfl)
theorem dX1_remove_59 : decode cX1_remove 59 = .ok (.return_, 1) := dk_177 (dk_at dksX1_remove_2 15 rfl rfl)
abbrev cX1_work : ByteArray := prog_1_method_33_code
def yX1_work : MethodName := ⟨RX1, "work", "(I)I"⟩
def dkwX1_work_4 : List UInt8 := [167, 255, 185, 42, 180, 0, 22, 180, 1, 50, 172]
abbrev dktX1_work_4 : List UInt8 := dkwX1_work_4 ++ []
def dkwX1_work_3 : List UInt8 := [25, 4, 180, 0, 156, 45, 182, 1, 28, 42, 45, 182, 1, 30, 42, 25, 4, 182, 1, 51, 132, 2, 1]
abbrev dktX1_work_3 : List UInt8 := dkwX1_work_3 ++ dktX1_work_4
def dkwX1_work_2 : List UInt8 := [182, 1, 16, 50, 78, 45, 180, 0, 152, 58, 4, 42, 180, 0, 22, 45, 180, 0, 183, 3, 182, 0, 85]
abbrev dktX1_work_2 : List UInt8 := dkwX1_work_2 ++ dktX1_work_3
def dkwX1_work_1 : List UInt8 := [162, 0, 72, 42, 180, 0, 22, 180, 1, 50, 158, 0, 62, 42, 180, 0, 11, 42, 180, 0, 22, 3, 4]
abbrev dktX1_work_1 : List UInt8 := dkwX1_work_1 ++ dktX1_work_2
def dkwX1_work_0 : List UInt8 := [27, 3, 17, 0, 192, 184, 0, 92, 154, 0, 11, 187, 0, 117, 89, 183, 0, 119, 191, 3, 61, 28, 27]
abbrev dktX1_work_0 : List UInt8 := dkwX1_work_0 ++ dktX1_work_1
theorem dksX1_work_0 : cX1_work.data.toList.drop 0 = dktX1_work_0 := by decide +kernel
theorem dksX1_work_1 : cX1_work.data.toList.drop 23 = dktX1_work_1 := dk_seg dksX1_work_0 23 rfl rfl
theorem dksX1_work_2 : cX1_work.data.toList.drop 46 = dktX1_work_2 := dk_seg dksX1_work_1 23 rfl rfl
theorem dksX1_work_3 : cX1_work.data.toList.drop 69 = dktX1_work_3 := dk_seg dksX1_work_2 23 rfl rfl
theorem dksX1_work_4 : cX1_work.data.toList.drop 92 = dktX1_work_4 := dk_seg dksX1_work_3 23 rfl rfl
theorem dX1_work_0 : decode cX1_work 0 = .ok (.iload_n 1, 1) := dk_27 (dk_at dksX1_work_0 0 rfl rfl)
theorem dX1_work_1 : decode cX1_work 1 = .ok (.iconst 0, 1) := dk_3 (dk_at dksX1_work_0 1 rfl rfl)
theorem dX1_work_2 : decode cX1_work 2 = .ok (.sipush 192, 3) := dk_17 0 192 (dk_at dksX1_work_0 2 rfl rfl)
theorem dX1_work_5 : decode cX1_work 5 = .ok (.invokestatic 92, 3) := dk_184 0 92 (dk_at dksX1_work_0 5 rfl rfl)
theorem dX1_work_8 : decode cX1_work 8 = .ok (.ifCond .ne 11, 3) := dk_154 0 11 (dk_at dksX1_work_0 8 rfl rfl)
theorem dX1_work_11 : decode cX1_work 11 = .ok (.new 117, 3) := dk_187 0 117 (dk_at dksX1_work_0 11 rfl rfl)
theorem dX1_work_14 : decode cX1_work 14 = .ok (.dup, 1) := dk_89 (dk_at dksX1_work_0 14 rfl rfl)
theorem dX1_work_15 : decode cX1_work 15 = .ok (.invokespecial 119, 3) := dk_183 0 119 (dk_at dksX1_work_0 15 rfl rfl)
theorem dX1_work_18 : decode cX1_work 18 = .ok (.athrow, 1) := dk_191 (dk_at dksX1_work_0 18 rfl rfl)
theorem dX1_work_19 : decode cX1_work 19 = .ok (.iconst 0, 1) := dk_3 (dk_at dksX1_work_0 19 rfl rfl)
theorem dX1_work_20 : decode cX1_work 20 = .ok (.istore_n 2, 1) := dk_61 (dk_at dksX1_work_0 20 rfl rfl)
theorem dX1_work_21 : decode cX1_work 21 = .ok (.iload_n 2, 1) := dk_28 (dk_at dksX1_work_0 21 rfl rfl)
theorem dX1_work_22 : decode cX1_work 22 = .ok (.iload_n 1, 1) := dk_27 (dk_at dksX1_work_0 22 rfl rfl)
theorem dX1_work_23 : decode cX1_work 23 = .ok (.if_icmp .ge 72, 3) := dk_162 0 72 (dk_at dksX1_work_1 0 rfl rfl)
theorem dX1_work_26 : decode cX1_work 26 = .ok (.aload_n 0, 1) := dk_42 (dk_at dksX1_work_1 3 rfl rfl)
theorem dX1_work_27 : decode cX1_work 27 = .ok (.getfield 22, 3) := dk_180 0 22 (dk_at dksX1_work_1 4 rfl rfl)
theorem dX1_work_30 : decode cX1_work 30 = .ok (.getfield 306, 3) := dk_180 1 50 (dk_at dksX1_work_1 7 rfl rfl)
theorem dX1_work_33 : decode cX1_work 33 = .ok (.ifCond .le 62, 3) := dk_158 0 62 (dk_at dksX1_work_1 10 rfl rfl)
theorem dX1_work_36 : decode cX1_work 36 = .ok (.aload_n 0, 1) := dk_42 (dk_at dksX1_work_1 13 rfl rfl)
theorem dX1_work_37 : decode cX1_work 37 = .ok (.getfield 11, 3) := dk_180 0 11 (dk_at dksX1_work_1 14 rfl rfl)
theorem dX1_work_40 : decode cX1_work 40 = .ok (.aload_n 0, 1) := dk_42 (dk_at dksX1_work_1 17 rfl rfl)
theorem dX1_work_41 : decode cX1_work 41 = .ok (.getfield 22, 3) := dk_180 0 22 (dk_at dksX1_work_1 18 rfl rfl)
theorem dX1_work_44 : decode cX1_work 44 = .ok (.iconst 0, 1) := dk_3 (dk_at dksX1_work_1 21 rfl rfl)
theorem dX1_work_45 : decode cX1_work 45 = .ok (.iconst 1, 1) := dk_4 (dk_at dksX1_work_1 22 rfl rfl)
theorem dX1_work_46 : decode cX1_work 46 = .ok (.invokevirtual 272, 3) := dk_182 1 16 (dk_at dksX1_work_2 0 rfl rfl)
theorem dX1_work_49 : decode cX1_work 49 = .ok (.aaload, 1) := dk_50 (dk_at dksX1_work_2 3 rfl rfl)
theorem dX1_work_50 : decode cX1_work 50 = .ok (.astore_n 3, 1) := dk_78 (dk_at dksX1_work_2 4 rfl rfl)
theorem dX1_work_51 : decode cX1_work 51 = .ok (.aload_n 3, 1) := dk_45 (dk_at dksX1_work_2 5 rfl rfl)
theorem dX1_work_52 : decode cX1_work 52 = .ok (.getfield 152, 3) := dk_180 0 152 (dk_at dksX1_work_2 6 rfl rfl)
theorem dX1_work_55 : decode cX1_work 55 = .ok (.astore 4, 2) := dk_58 4 (dk_at dksX1_work_2 9 rfl rfl)
theorem dX1_work_57 : decode cX1_work 57 = .ok (.aload_n 0, 1) := dk_42 (dk_at dksX1_work_2 11 rfl rfl)
theorem dX1_work_58 : decode cX1_work 58 = .ok (.getfield 22, 3) := dk_180 0 22 (dk_at dksX1_work_2 12 rfl rfl)
theorem dX1_work_61 : decode cX1_work 61 = .ok (.aload_n 3, 1) := dk_45 (dk_at dksX1_work_2 15 rfl rfl)
theorem dX1_work_62 : decode cX1_work 62 = .ok (.getfield 183, 3) := dk_180 0 183 (dk_at dksX1_work_2 16 rfl rfl)
theorem dX1_work_65 : decode cX1_work 65 = .ok (.iconst 0, 1) := dk_3 (dk_at dksX1_work_2 19 rfl rfl)
theorem dX1_work_66 : decode cX1_work 66 = .ok (.invokevirtual 85, 3) := dk_182 0 85 (dk_at dksX1_work_2 20 rfl rfl)
theorem dX1_work_69 : decode cX1_work 69 = .ok (.aload 4, 2) := dk_25 4 (dk_at dksX1_work_3 0 rfl rfl)
theorem dX1_work_71 : decode cX1_work 71 = .ok (.getfield 156, 3) := dk_180 0 156 (dk_at dksX1_work_3 2 rfl rfl)
theorem dX1_work_74 : decode cX1_work 74 = .ok (.aload_n 3, 1) := dk_45 (dk_at dksX1_work_3 5 rfl rfl)
theorem dX1_work_75 : decode cX1_work 75 = .ok (.invokevirtual 284, 3) := dk_182 1 28 (dk_at dksX1_work_3 6 rfl rfl)
theorem dX1_work_78 : decode cX1_work 78 = .ok (.aload_n 0, 1) := dk_42 (dk_at dksX1_work_3 9 rfl rfl)
theorem dX1_work_79 : decode cX1_work 79 = .ok (.aload_n 3, 1) := dk_45 (dk_at dksX1_work_3 10 rfl rfl)
theorem dX1_work_80 : decode cX1_work 80 = .ok (.invokevirtual 286, 3) := dk_182 1 30 (dk_at dksX1_work_3 11 rfl rfl)
theorem dX1_work_83 : decode cX1_work 83 = .ok (.aload_n 0, 1) := dk_42 (dk_at dksX1_work_3 14 rfl rfl)
theorem dX1_work_84 : decode cX1_work 84 = .ok (.aload 4, 2) := dk_25 4 (dk_at dksX1_work_3 15 rfl rfl)
theorem dX1_work_86 : decode cX1_work 86 = .ok (.invokevirtual 307, 3) := dk_182 1 51 (dk_at dksX1_work_3 17 rfl rfl)
theorem dX1_work_89 : decode cX1_work 89 = .ok (.iinc 2 1, 3) := dk_132 2 1 (dk_at dksX1_work_3 20 rfl rfl)
theorem dX1_work_92 : decode cX1_work 92 = .ok (.goto (-71), 3) := dk_167 255 185 (dk_at dksX1_work_4 0 rfl rfl)
theorem dX1_work_95 : decode cX1_work 95 = .ok (.aload_n 0, 1) := dk_42 (dk_at dksX1_work_4 3 rfl rfl)
theorem dX1_work_96 : decode cX1_work 96 = .ok (.getfield 22, 3) := dk_180 0 22 (dk_at dksX1_work_4 4 rfl rfl)
theorem dX1_work_99 : decode cX1_work 99 = .ok (.getfield 306, 3) := dk_180 1 50 (dk_at dksX1_work_4 7 rfl rfl)
theorem dX1_work_102 : decode cX1_work 102 = .ok (.ireturn, 1) := dk_172 (dk_at dksX1_work_4 10 rfl rfl)
abbrev cX1_reap : ByteArray := prog_1_method_17_code
def yX1_reap : MethodName := ⟨RX1, "reap", "(LPageBanks$Bank;)V"⟩
def dkwX1_reap_1 : List UInt8 := [182, 0, 230, 45, 77, 167, 255, 230, 177]
abbrev dktX1_reap_1 : List UInt8 := dkwX1_reap_1 ++ []
def dkwX1_reap_0 : List UInt8 := [43, 77, 44, 182, 0, 224, 153, 0, 25, 44, 182, 0, 227, 153, 0, 18, 44, 180, 0, 208, 78, 42, 44]
abbrev dktX1_reap_0 : List UInt8 := dkwX1_reap_0 ++ dktX1_reap_1
theorem dksX1_reap_0 : cX1_reap.data.toList.drop 0 = dktX1_reap_0 := by decide +kernel
theorem dksX1_reap_1 : cX1_reap.data.toList.drop 23 = dktX1_reap_1 := dk_seg dksX1_reap_0 23 rfl rfl
theorem dX1_reap_0 : decode cX1_reap 0 = .ok (.aload_n 1, 1) := dk_43 (dk_at dksX1_reap_0 0 rfl rfl)
theorem dX1_reap_1 : decode cX1_reap 1 = .ok (.astore_n 2, 1) := dk_77 (dk_at dksX1_reap_0 1 rfl rfl)
theorem dX1_reap_2 : decode cX1_reap 2 = .ok (.aload_n 2, 1) := dk_44 (dk_at dksX1_reap_0 2 rfl rfl)
theorem dX1_reap_3 : decode cX1_reap 3 = .ok (.invokevirtual 224, 3) := dk_182 0 224 (dk_at dksX1_reap_0 3 rfl rfl)
theorem dX1_reap_6 : decode cX1_reap 6 = .ok (.ifCond .eq 25, 3) := dk_153 0 25 (dk_at dksX1_reap_0 6 rfl rfl)
theorem dX1_reap_9 : decode cX1_reap 9 = .ok (.aload_n 2, 1) := dk_44 (dk_at dksX1_reap_0 9 rfl rfl)
theorem dX1_reap_10 : decode cX1_reap 10 = .ok (.invokevirtual 227, 3) := dk_182 0 227 (dk_at dksX1_reap_0 10 rfl rfl)
theorem dX1_reap_13 : decode cX1_reap 13 = .ok (.ifCond .eq 18, 3) := dk_153 0 18 (dk_at dksX1_reap_0 13 rfl rfl)
theorem dX1_reap_16 : decode cX1_reap 16 = .ok (.aload_n 2, 1) := dk_44 (dk_at dksX1_reap_0 16 rfl rfl)
theorem dX1_reap_17 : decode cX1_reap 17 = .ok (.getfield 208, 3) := dk_180 0 208 (dk_at dksX1_reap_0 17 rfl rfl)
theorem dX1_reap_20 : decode cX1_reap 20 = .ok (.astore_n 3, 1) := dk_78 (dk_at dksX1_reap_0 20 rfl rfl)
theorem dX1_reap_21 : decode cX1_reap 21 = .ok (.aload_n 0, 1) := dk_42 (dk_at dksX1_reap_0 21 rfl rfl)
theorem dX1_reap_22 : decode cX1_reap 22 = .ok (.aload_n 2, 1) := dk_44 (dk_at dksX1_reap_0 22 rfl rfl)
theorem dX1_reap_23 : decode cX1_reap 23 = .ok (.invokevirtual 230, 3) := dk_182 0 230 (dk_at dksX1_reap_1 0 rfl rfl)
theorem dX1_reap_26 : decode cX1_reap 26 = .ok (.aload_n 3, 1) := dk_45 (dk_at dksX1_reap_1 3 rfl rfl)
theorem dX1_reap_27 : decode cX1_reap 27 = .ok (.astore_n 2, 1) := dk_77 (dk_at dksX1_reap_1 4 rfl rfl)
theorem dX1_reap_28 : decode cX1_reap 28 = .ok (.goto (-26), 3) := dk_167 255 230 (dk_at dksX1_reap_1 5 rfl rfl)
theorem dX1_reap_31 : decode cX1_reap 31 = .ok (.return_, 1) := dk_177 (dk_at dksX1_reap_1 8 rfl rfl)
abbrev cX1_handUp : ByteArray := prog_1_method_34_code
def yX1_handUp : MethodName := ⟨RX1, "handUp", "(I)I"⟩
def dkwX1_handUp_6 : List UInt8 := [167, 255, 216, 42, 44, 182, 0, 230, 21, 4, 172]
abbrev dktX1_handUp_6 : List UInt8 := dkwX1_handUp_6 ++ []
def dkwX1_handUp_5 : List UInt8 := [192, 0, 25, 58, 6, 25, 6, 45, 181, 0, 208, 45, 180, 0, 211, 25, 6, 185, 1, 13, 2, 0, 87]
abbrev dktX1_handUp_5 : List UInt8 := dkwX1_handUp_5 ++ dktX1_handUp_6
def dkwX1_handUp_4 : List UInt8 := [185, 1, 58, 1, 0, 58, 5, 25, 5, 185, 1, 62, 1, 0, 153, 0, 36, 25, 5, 185, 1, 65, 1, 0]
abbrev dktX1_handUp_4 : List UInt8 := dkwX1_handUp_4 ++ dktX1_handUp_5
def dkwX1_handUp_3 : List UInt8 := [182, 0, 173, 167, 255, 223, 45, 89, 180, 0, 186, 44, 180, 0, 186, 96, 181, 0, 186, 44, 180, 0, 211]
abbrev dktX1_handUp_3 : List UInt8 := dkwX1_handUp_3 ++ dktX1_handUp_4
def dkwX1_handUp_2 : List UInt8 := [153, 0, 29, 25, 5, 185, 0, 250, 1, 0, 58, 6, 25, 5, 185, 1, 56, 1, 0, 42, 25, 6, 45]
abbrev dktX1_handUp_2 : List UInt8 := dkwX1_handUp_2 ++ dktX1_handUp_3
def dkwX1_handUp_1 : List UInt8 := [180, 0, 156, 180, 1, 54, 54, 4, 44, 180, 0, 156, 182, 0, 241, 58, 5, 25, 5, 185, 0, 245, 1, 0]
abbrev dktX1_handUp_1 : List UInt8 := dkwX1_handUp_1 ++ dktX1_handUp_2
def dkwX1_handUp_0 : List UInt8 := [42, 27, 182, 1, 4, 77, 42, 42, 180, 0, 79, 44, 3, 3, 182, 1, 6, 44, 180, 0, 208, 78, 44]
abbrev dktX1_handUp_0 : List UInt8 := dkwX1_handUp_0 ++ dktX1_handUp_1
theorem dksX1_handUp_0 : cX1_handUp.data.toList.drop 0 = dktX1_handUp_0 := by decide +kernel
theorem dksX1_handUp_1 : cX1_handUp.data.toList.drop 23 = dktX1_handUp_1 := dk_seg dksX1_handUp_0 23 rfl rfl
theorem dksX1_handUp_2 : cX1_handUp.data.toList.drop 47 = dktX1_handUp_2 := dk_seg dksX1_handUp_1 24 rfl rfl
theorem dksX1_handUp_3 : cX1_handUp.data.toList.drop 70 = dktX1_handUp_3 := dk_seg dksX1_handUp_2 23 rfl rfl
theorem dksX1_handUp_4 : cX1_handUp.data.toList.drop 93 = dktX1_handUp_4 := dk_seg dksX1_handUp_3 23 rfl rfl
theorem dksX1_handUp_5 : cX1_handUp.data.toList.drop 117 = dktX1_handUp_5 := dk_seg dksX1_handUp_4 24 rfl rfl
theorem dksX1_handUp_6 : cX1_handUp.data.toList.drop 140 = dktX1_handUp_6 := dk_seg dksX1_handUp_5 23 rfl rfl
theorem dX1_handUp_0 : decode cX1_handUp 0 = .ok (.aload_n 0, 1) := dk_42 (dk_at dksX1_handUp_0 0 rfl rfl)
theorem dX1_handUp_1 : decode cX1_handUp 1 = .ok (.iload_n 1, 1) := dk_27 (dk_at dksX1_handUp_0 1 rfl rfl)
theorem dX1_handUp_2 : decode cX1_handUp 2 = .ok (.invokevirtual 260, 3) := dk_182 1 4 (dk_at dksX1_handUp_0 2 rfl rfl)
theorem dX1_handUp_5 : decode cX1_handUp 5 = .ok (.astore_n 2, 1) := dk_77 (dk_at dksX1_handUp_0 5 rfl rfl)
theorem dX1_handUp_6 : decode cX1_handUp 6 = .ok (.aload_n 0, 1) := dk_42 (dk_at dksX1_handUp_0 6 rfl rfl)
theorem dX1_handUp_7 : decode cX1_handUp 7 = .ok (.aload_n 0, 1) := dk_42 (dk_at dksX1_handUp_0 7 rfl rfl)
theorem dX1_handUp_8 : decode cX1_handUp 8 = .ok (.getfield 79, 3) := dk_180 0 79 (dk_at dksX1_handUp_0 8 rfl rfl)
theorem dX1_handUp_11 : decode cX1_handUp 11 = .ok (.aload_n 2, 1) := dk_44 (dk_at dksX1_handUp_0 11 rfl rfl)
theorem dX1_handUp_12 : decode cX1_handUp 12 = .ok (.iconst 0, 1) := dk_3 (dk_at dksX1_handUp_0 12 rfl rfl)
theorem dX1_handUp_13 : decode cX1_handUp 13 = .ok (.iconst 0, 1) := dk_3 (dk_at dksX1_handUp_0 13 rfl rfl)
theorem dX1_handUp_14 : decode cX1_handUp 14 = .ok (.invokevirtual 262, 3) := dk_182 1 6 (dk_at dksX1_handUp_0 14 rfl rfl)
theorem dX1_handUp_17 : decode cX1_handUp 17 = .ok (.aload_n 2, 1) := dk_44 (dk_at dksX1_handUp_0 17 rfl rfl)
theorem dX1_handUp_18 : decode cX1_handUp 18 = .ok (.getfield 208, 3) := dk_180 0 208 (dk_at dksX1_handUp_0 18 rfl rfl)
theorem dX1_handUp_21 : decode cX1_handUp 21 = .ok (.astore_n 3, 1) := dk_78 (dk_at dksX1_handUp_0 21 rfl rfl)
theorem dX1_handUp_22 : decode cX1_handUp 22 = .ok (.aload_n 2, 1) := dk_44 (dk_at dksX1_handUp_0 22 rfl rfl)
theorem dX1_handUp_23 : decode cX1_handUp 23 = .ok (.getfield 156, 3) := dk_180 0 156 (dk_at dksX1_handUp_1 0 rfl rfl)
theorem dX1_handUp_26 : decode cX1_handUp 26 = .ok (.getfield 310, 3) := dk_180 1 54 (dk_at dksX1_handUp_1 3 rfl rfl)
theorem dX1_handUp_29 : decode cX1_handUp 29 = .ok (.istore 4, 2) := dk_54 4 (dk_at dksX1_handUp_1 6 rfl rfl)
theorem dX1_handUp_31 : decode cX1_handUp 31 = .ok (.aload_n 2, 1) := dk_44 (dk_at dksX1_handUp_1 8 rfl rfl)
theorem dX1_handUp_32 : decode cX1_handUp 32 = .ok (.getfield 156, 3) := dk_180 0 156 (dk_at dksX1_handUp_1 9 rfl rfl)
theorem dX1_handUp_35 : decode cX1_handUp 35 = .ok (.invokevirtual 241, 3) := dk_182 0 241 (dk_at dksX1_handUp_1 12 rfl rfl)
theorem dX1_handUp_38 : decode cX1_handUp 38 = .ok (.astore 5, 2) := dk_58 5 (dk_at dksX1_handUp_1 15 rfl rfl)
theorem dX1_handUp_40 : decode cX1_handUp 40 = .ok (.aload 5, 2) := dk_25 5 (dk_at dksX1_handUp_1 17 rfl rfl)
theorem dX1_handUp_42 : decode cX1_handUp 42 = .ok (.invokeinterface 245 1, 5) := by decide +kernel
theorem dX1_handUp_47 : decode cX1_handUp 47 = .ok (.ifCond .eq 29, 3) := dk_153 0 29 (dk_at dksX1_handUp_2 0 rfl rfl)
theorem dX1_handUp_50 : decode cX1_handUp 50 = .ok (.aload 5, 2) := dk_25 5 (dk_at dksX1_handUp_2 3 rfl rfl)
theorem dX1_handUp_52 : decode cX1_handUp 52 = .ok (.invokeinterface 250 1, 5) := by decide +kernel
theorem dX1_handUp_57 : decode cX1_handUp 57 = .ok (.astore 6, 2) := dk_58 6 (dk_at dksX1_handUp_2 10 rfl rfl)
theorem dX1_handUp_59 : decode cX1_handUp 59 = .ok (.aload 5, 2) := dk_25 5 (dk_at dksX1_handUp_2 12 rfl rfl)
theorem dX1_handUp_61 : decode cX1_handUp 61 = .ok (.invokeinterface 312 1, 5) := by decide +kernel
theorem dX1_handUp_66 : decode cX1_handUp 66 = .ok (.aload_n 0, 1) := dk_42 (dk_at dksX1_handUp_2 19 rfl rfl)
theorem dX1_handUp_67 : decode cX1_handUp 67 = .ok (.aload 6, 2) := dk_25 6 (dk_at dksX1_handUp_2 20 rfl rfl)
theorem dX1_handUp_69 : decode cX1_handUp 69 = .ok (.aload_n 3, 1) := dk_45 (dk_at dksX1_handUp_2 22 rfl rfl)
theorem dX1_handUp_70 : decode cX1_handUp 70 = .ok (.invokevirtual 173, 3) := dk_182 0 173 (dk_at dksX1_handUp_3 0 rfl rfl)
theorem dX1_handUp_73 : decode cX1_handUp 73 = .ok (.goto (-33), 3) := dk_167 255 223 (dk_at dksX1_handUp_3 3 rfl rfl)
theorem dX1_handUp_76 : decode cX1_handUp 76 = .ok (.aload_n 3, 1) := dk_45 (dk_at dksX1_handUp_3 6 rfl rfl)
theorem dX1_handUp_77 : decode cX1_handUp 77 = .ok (.dup, 1) := dk_89 (dk_at dksX1_handUp_3 7 rfl rfl)
theorem dX1_handUp_78 : decode cX1_handUp 78 = .ok (.getfield 186, 3) := dk_180 0 186 (dk_at dksX1_handUp_3 8 rfl rfl)
theorem dX1_handUp_81 : decode cX1_handUp 81 = .ok (.aload_n 2, 1) := dk_44 (dk_at dksX1_handUp_3 11 rfl rfl)
theorem dX1_handUp_82 : decode cX1_handUp 82 = .ok (.getfield 186, 3) := dk_180 0 186 (dk_at dksX1_handUp_3 12 rfl rfl)
theorem dX1_handUp_85 : decode cX1_handUp 85 = .ok (.iadd, 1) := dk_96 (dk_at dksX1_handUp_3 15 rfl rfl)
theorem dX1_handUp_86 : decode cX1_handUp 86 = .ok (.putfield 186, 3) := dk_181 0 186 (dk_at dksX1_handUp_3 16 rfl rfl)
theorem dX1_handUp_89 : decode cX1_handUp 89 = .ok (.aload_n 2, 1) := dk_44 (dk_at dksX1_handUp_3 19 rfl rfl)
theorem dX1_handUp_90 : decode cX1_handUp 90 = .ok (.getfield 211, 3) := dk_180 0 211 (dk_at dksX1_handUp_3 20 rfl rfl)
theorem dX1_handUp_93 : decode cX1_handUp 93 = .ok (.invokeinterface 314 1, 5) := by decide +kernel
theorem dX1_handUp_98 : decode cX1_handUp 98 = .ok (.astore 5, 2) := dk_58 5 (dk_at dksX1_handUp_4 5 rfl rfl)
theorem dX1_handUp_100 : decode cX1_handUp 100 = .ok (.aload 5, 2) := dk_25 5 (dk_at dksX1_handUp_4 7 rfl rfl)
theorem dX1_handUp_102 : decode cX1_handUp 102 = .ok (.invokeinterface 318 1, 5) := by decide +kernel
theorem dX1_handUp_107 : decode cX1_handUp 107 = .ok (.ifCond .eq 36, 3) := dk_153 0 36 (dk_at dksX1_handUp_4 14 rfl rfl)
theorem dX1_handUp_110 : decode cX1_handUp 110 = .ok (.aload 5, 2) := dk_25 5 (dk_at dksX1_handUp_4 17 rfl rfl)
theorem dX1_handUp_112 : decode cX1_handUp 112 = .ok (.invokeinterface 321 1, 5) := by decide +kernel
theorem dX1_handUp_117 : decode cX1_handUp 117 = .ok (.checkcast 25, 3) := dk_192 0 25 (dk_at dksX1_handUp_5 0 rfl rfl)
theorem dX1_handUp_120 : decode cX1_handUp 120 = .ok (.astore 6, 2) := dk_58 6 (dk_at dksX1_handUp_5 3 rfl rfl)
theorem dX1_handUp_122 : decode cX1_handUp 122 = .ok (.aload 6, 2) := dk_25 6 (dk_at dksX1_handUp_5 5 rfl rfl)
theorem dX1_handUp_124 : decode cX1_handUp 124 = .ok (.aload_n 3, 1) := dk_45 (dk_at dksX1_handUp_5 7 rfl rfl)
theorem dX1_handUp_125 : decode cX1_handUp 125 = .ok (.putfield 208, 3) := dk_181 0 208 (dk_at dksX1_handUp_5 8 rfl rfl)
theorem dX1_handUp_128 : decode cX1_handUp 128 = .ok (.aload_n 3, 1) := dk_45 (dk_at dksX1_handUp_5 11 rfl rfl)
theorem dX1_handUp_129 : decode cX1_handUp 129 = .ok (.getfield 211, 3) := dk_180 0 211 (dk_at dksX1_handUp_5 12 rfl rfl)
theorem dX1_handUp_132 : decode cX1_handUp 132 = .ok (.aload 6, 2) := dk_25 6 (dk_at dksX1_handUp_5 15 rfl rfl)
theorem dX1_handUp_134 : decode cX1_handUp 134 = .ok (.invokeinterface 269 2, 5) := by decide +kernel
theorem dX1_handUp_139 : decode cX1_handUp 139 = .ok (.pop, 1) := dk_87 (dk_at dksX1_handUp_5 22 rfl rfl)
theorem dX1_handUp_140 : decode cX1_handUp 140 = .ok (.goto (-40), 3) := dk_167 255 216 (dk_at dksX1_handUp_6 0 rfl rfl)
theorem dX1_handUp_143 : decode cX1_handUp 143 = .ok (.aload_n 0, 1) := dk_42 (dk_at dksX1_handUp_6 3 rfl rfl)
theorem dX1_handUp_144 : decode cX1_handUp 144 = .ok (.aload_n 2, 1) := dk_44 (dk_at dksX1_handUp_6 4 rfl rfl)
theorem dX1_handUp_145 : decode cX1_handUp 145 = .ok (.invokevirtual 230, 3) := dk_182 0 230 (dk_at dksX1_handUp_6 5 rfl rfl)
theorem dX1_handUp_148 : decode cX1_handUp 148 = .ok (.iload 4, 2) := dk_21 4 (dk_at dksX1_handUp_6 8 rfl rfl)
theorem dX1_handUp_150 : decode cX1_handUp 150 = .ok (.ireturn, 1) := dk_172 (dk_at dksX1_handUp_6 10 rfl rfl)
abbrev cX1_told : ByteArray := prog_1_method_35_code
def yX1_told : MethodName := ⟨RX1, "told", "(II)I"⟩
def dkwX1_told_1 : List UInt8 := [45, 28, 182, 1, 68, 172]
abbrev dktX1_told_1 : List UInt8 := dkwX1_told_1 ++ []
def dkwX1_told_0 : List UInt8 := [42, 27, 182, 1, 4, 78, 28, 3, 16, 7, 184, 0, 92, 154, 0, 11, 187, 0, 117, 89, 183, 0, 119, 191]
abbrev dktX1_told_0 : List UInt8 := dkwX1_told_0 ++ dktX1_told_1
theorem dksX1_told_0 : cX1_told.data.toList.drop 0 = dktX1_told_0 := by decide +kernel
theorem dksX1_told_1 : cX1_told.data.toList.drop 24 = dktX1_told_1 := dk_seg dksX1_told_0 24 rfl rfl
theorem dX1_told_0 : decode cX1_told 0 = .ok (.aload_n 0, 1) := dk_42 (dk_at dksX1_told_0 0 rfl rfl)
theorem dX1_told_1 : decode cX1_told 1 = .ok (.iload_n 1, 1) := dk_27 (dk_at dksX1_told_0 1 rfl rfl)
theorem dX1_told_2 : decode cX1_told 2 = .ok (.invokevirtual 260, 3) := dk_182 1 4 (dk_at dksX1_told_0 2 rfl rfl)
theorem dX1_told_5 : decode cX1_told 5 = .ok (.astore_n 3, 1) := dk_78 (dk_at dksX1_told_0 5 rfl rfl)
theorem dX1_told_6 : decode cX1_told 6 = .ok (.iload_n 2, 1) := dk_28 (dk_at dksX1_told_0 6 rfl rfl)
theorem dX1_told_7 : decode cX1_told 7 = .ok (.iconst 0, 1) := dk_3 (dk_at dksX1_told_0 7 rfl rfl)
theorem dX1_told_8 : decode cX1_told 8 = .ok (.bipush 7, 2) := dk_16 7 (dk_at dksX1_told_0 8 rfl rfl)
theorem dX1_told_10 : decode cX1_told 10 = .ok (.invokestatic 92, 3) := dk_184 0 92 (dk_at dksX1_told_0 10 rfl rfl)
theorem dX1_told_13 : decode cX1_told 13 = .ok (.ifCond .ne 11, 3) := dk_154 0 11 (dk_at dksX1_told_0 13 rfl rfl)
theorem dX1_told_16 : decode cX1_told 16 = .ok (.new 117, 3) := dk_187 0 117 (dk_at dksX1_told_0 16 rfl rfl)
theorem dX1_told_19 : decode cX1_told 19 = .ok (.dup, 1) := dk_89 (dk_at dksX1_told_0 19 rfl rfl)
theorem dX1_told_20 : decode cX1_told 20 = .ok (.invokespecial 119, 3) := dk_183 0 119 (dk_at dksX1_told_0 20 rfl rfl)
theorem dX1_told_23 : decode cX1_told 23 = .ok (.athrow, 1) := dk_191 (dk_at dksX1_told_0 23 rfl rfl)
theorem dX1_told_24 : decode cX1_told 24 = .ok (.aload_n 3, 1) := dk_45 (dk_at dksX1_told_1 0 rfl rfl)
theorem dX1_told_25 : decode cX1_told 25 = .ok (.iload_n 2, 1) := dk_28 (dk_at dksX1_told_1 1 rfl rfl)
theorem dX1_told_26 : decode cX1_told 26 = .ok (.invokevirtual 324, 3) := dk_182 1 68 (dk_at dksX1_told_1 2 rfl rfl)
theorem dX1_told_29 : decode cX1_told 29 = .ok (.ireturn, 1) := dk_172 (dk_at dksX1_told_1 5 rfl rfl)
abbrev cX1_page : ByteArray := prog_1_method_36_code
def yX1_page : MethodName := ⟨RX1, "page", "(II)I"⟩
def dkwX1_page_3 : List UInt8 := [167, 255, 238, 45, 182, 0, 224, 153, 0, 7, 3, 167, 0, 8, 25, 5, 182, 0, 201, 172]
abbrev dktX1_page_3 : List UInt8 := dkwX1_page_3 ++ []
def dkwX1_page_2 : List UInt8 := [58, 5, 3, 54, 6, 21, 6, 28, 162, 0, 18, 25, 4, 185, 0, 250, 1, 0, 58, 5, 132, 6, 1]
abbrev dktX1_page_2 : List UInt8 := dkwX1_page_2 ++ dktX1_page_3
def dkwX1_page_1 : List UInt8 := [187, 0, 96, 89, 183, 0, 98, 191, 45, 180, 0, 156, 182, 0, 241, 58, 4, 25, 4, 185, 0, 250, 1, 0]
abbrev dktX1_page_1 : List UInt8 := dkwX1_page_1 ++ dktX1_page_2
def dkwX1_page_0 : List UInt8 := [42, 27, 182, 1, 4, 78, 28, 3, 45, 180, 0, 156, 180, 1, 54, 4, 100, 184, 0, 92, 154, 0, 11]
abbrev dktX1_page_0 : List UInt8 := dkwX1_page_0 ++ dktX1_page_1
theorem dksX1_page_0 : cX1_page.data.toList.drop 0 = dktX1_page_0 := by decide +kernel
theorem dksX1_page_1 : cX1_page.data.toList.drop 23 = dktX1_page_1 := dk_seg dksX1_page_0 23 rfl rfl
theorem dksX1_page_2 : cX1_page.data.toList.drop 47 = dktX1_page_2 := dk_seg dksX1_page_1 24 rfl rfl
theorem dksX1_page_3 : cX1_page.data.toList.drop 70 = dktX1_page_3 := dk_seg dksX1_page_2 23 rfl rfl
theorem dX1_page_0 : decode cX1_page 0 = .ok (.aload_n 0, 1) := dk_42 (dk_at dksX1_page_0 0 rfl rfl)
theorem dX1_page_1 : decode cX1_page 1 = .ok (.iload_n 1, 1) := dk_27 (dk_at dksX1_page_0 1 rfl rfl)
theorem dX1_page_2 : decode cX1_page 2 = .ok (.invokevirtual 260, 3) := dk_182 1 4 (dk_at dksX1_page_0 2 rfl rfl)
theorem dX1_page_5 : decode cX1_page 5 = .ok (.astore_n 3, 1) := dk_78 (dk_at dksX1_page_0 5 rfl rfl)
theorem dX1_page_6 : decode cX1_page 6 = .ok (.iload_n 2, 1) := dk_28 (dk_at dksX1_page_0 6 rfl rfl)
theorem dX1_page_7 : decode cX1_page 7 = .ok (.iconst 0, 1) := dk_3 (dk_at dksX1_page_0 7 rfl rfl)
theorem dX1_page_8 : decode cX1_page 8 = .ok (.aload_n 3, 1) := dk_45 (dk_at dksX1_page_0 8 rfl rfl)
theorem dX1_page_9 : decode cX1_page 9 = .ok (.getfield 156, 3) := dk_180 0 156 (dk_at dksX1_page_0 9 rfl rfl)
theorem dX1_page_12 : decode cX1_page 12 = .ok (.getfield 310, 3) := dk_180 1 54 (dk_at dksX1_page_0 12 rfl rfl)
theorem dX1_page_15 : decode cX1_page 15 = .ok (.iconst 1, 1) := dk_4 (dk_at dksX1_page_0 15 rfl rfl)
theorem dX1_page_16 : decode cX1_page 16 = .ok (.isub, 1) := dk_100 (dk_at dksX1_page_0 16 rfl rfl)
theorem dX1_page_17 : decode cX1_page 17 = .ok (.invokestatic 92, 3) := dk_184 0 92 (dk_at dksX1_page_0 17 rfl rfl)
theorem dX1_page_20 : decode cX1_page 20 = .ok (.ifCond .ne 11, 3) := dk_154 0 11 (dk_at dksX1_page_0 20 rfl rfl)
theorem dX1_page_23 : decode cX1_page 23 = .ok (.new 96, 3) := dk_187 0 96 (dk_at dksX1_page_1 0 rfl rfl)
theorem dX1_page_26 : decode cX1_page 26 = .ok (.dup, 1) := dk_89 (dk_at dksX1_page_1 3 rfl rfl)
theorem dX1_page_27 : decode cX1_page 27 = .ok (.invokespecial 98, 3) := dk_183 0 98 (dk_at dksX1_page_1 4 rfl rfl)
theorem dX1_page_30 : decode cX1_page 30 = .ok (.athrow, 1) := dk_191 (dk_at dksX1_page_1 7 rfl rfl)
theorem dX1_page_31 : decode cX1_page 31 = .ok (.aload_n 3, 1) := dk_45 (dk_at dksX1_page_1 8 rfl rfl)
theorem dX1_page_32 : decode cX1_page 32 = .ok (.getfield 156, 3) := dk_180 0 156 (dk_at dksX1_page_1 9 rfl rfl)
theorem dX1_page_35 : decode cX1_page 35 = .ok (.invokevirtual 241, 3) := dk_182 0 241 (dk_at dksX1_page_1 12 rfl rfl)
theorem dX1_page_38 : decode cX1_page 38 = .ok (.astore 4, 2) := dk_58 4 (dk_at dksX1_page_1 15 rfl rfl)
theorem dX1_page_40 : decode cX1_page 40 = .ok (.aload 4, 2) := dk_25 4 (dk_at dksX1_page_1 17 rfl rfl)
theorem dX1_page_42 : decode cX1_page 42 = .ok (.invokeinterface 250 1, 5) := by decide +kernel
theorem dX1_page_47 : decode cX1_page 47 = .ok (.astore 5, 2) := dk_58 5 (dk_at dksX1_page_2 0 rfl rfl)
theorem dX1_page_49 : decode cX1_page 49 = .ok (.iconst 0, 1) := dk_3 (dk_at dksX1_page_2 2 rfl rfl)
theorem dX1_page_50 : decode cX1_page 50 = .ok (.istore 6, 2) := dk_54 6 (dk_at dksX1_page_2 3 rfl rfl)
theorem dX1_page_52 : decode cX1_page 52 = .ok (.iload 6, 2) := dk_21 6 (dk_at dksX1_page_2 5 rfl rfl)
theorem dX1_page_54 : decode cX1_page 54 = .ok (.iload_n 2, 1) := dk_28 (dk_at dksX1_page_2 7 rfl rfl)
theorem dX1_page_55 : decode cX1_page 55 = .ok (.if_icmp .ge 18, 3) := dk_162 0 18 (dk_at dksX1_page_2 8 rfl rfl)
theorem dX1_page_58 : decode cX1_page 58 = .ok (.aload 4, 2) := dk_25 4 (dk_at dksX1_page_2 11 rfl rfl)
theorem dX1_page_60 : decode cX1_page 60 = .ok (.invokeinterface 250 1, 5) := by decide +kernel
theorem dX1_page_65 : decode cX1_page 65 = .ok (.astore 5, 2) := dk_58 5 (dk_at dksX1_page_2 18 rfl rfl)
theorem dX1_page_67 : decode cX1_page 67 = .ok (.iinc 6 1, 3) := dk_132 6 1 (dk_at dksX1_page_2 20 rfl rfl)
theorem dX1_page_70 : decode cX1_page 70 = .ok (.goto (-18), 3) := dk_167 255 238 (dk_at dksX1_page_3 0 rfl rfl)
theorem dX1_page_73 : decode cX1_page 73 = .ok (.aload_n 3, 1) := dk_45 (dk_at dksX1_page_3 3 rfl rfl)
theorem dX1_page_74 : decode cX1_page 74 = .ok (.invokevirtual 224, 3) := dk_182 0 224 (dk_at dksX1_page_3 4 rfl rfl)
theorem dX1_page_77 : decode cX1_page 77 = .ok (.ifCond .eq 7, 3) := dk_153 0 7 (dk_at dksX1_page_3 7 rfl rfl)
theorem dX1_page_80 : decode cX1_page 80 = .ok (.iconst 0, 1) := dk_3 (dk_at dksX1_page_3 10 rfl rfl)
theorem dX1_page_81 : decode cX1_page 81 = .ok (.goto 8, 3) := dk_167 0 8 (dk_at dksX1_page_3 11 rfl rfl)
theorem dX1_page_84 : decode cX1_page 84 = .ok (.aload 5, 2) := dk_25 5 (dk_at dksX1_page_3 14 rfl rfl)
theorem dX1_page_86 : decode cX1_page 86 = .ok (.invokevirtual 201, 3) := dk_182 0 201 (dk_at dksX1_page_3 16 rfl rfl)
theorem dX1_page_89 : decode cX1_page 89 = .ok (.ireturn, 1) := dk_172 (dk_at dksX1_page_3 19 rfl rfl)
abbrev cX1_owner : ByteArray := prog_1_method_37_code
def yX1_owner : MethodName := ⟨RX1, "owner", "(I)I"⟩
def dkwX1_owner_0 : List UInt8 := [42, 27, 182, 0, 145, 180, 0, 152, 180, 0, 99, 172]
abbrev dktX1_owner_0 : List UInt8 := dkwX1_owner_0 ++ []
theorem dksX1_owner_0 : cX1_owner.data.toList.drop 0 = dktX1_owner_0 := by decide +kernel
theorem dX1_owner_0 : decode cX1_owner 0 = .ok (.aload_n 0, 1) := dk_42 (dk_at dksX1_owner_0 0 rfl rfl)
theorem dX1_owner_1 : decode cX1_owner 1 = .ok (.iload_n 1, 1) := dk_27 (dk_at dksX1_owner_0 1 rfl rfl)
theorem dX1_owner_2 : decode cX1_owner 2 = .ok (.invokevirtual 145, 3) := dk_182 0 145 (dk_at dksX1_owner_0 2 rfl rfl)
theorem dX1_owner_5 : decode cX1_owner 5 = .ok (.getfield 152, 3) := dk_180 0 152 (dk_at dksX1_owner_0 5 rfl rfl)
theorem dX1_owner_8 : decode cX1_owner 8 = .ok (.getfield 99, 3) := dk_180 0 99 (dk_at dksX1_owner_0 8 rfl rfl)
theorem dX1_owner_11 : decode cX1_owner 11 = .ok (.ireturn, 1) := dk_172 (dk_at dksX1_owner_0 11 rfl rfl)
theorem q41 : (Jvm.Cond.initialized "PageBanks") ∈ lw_all := lw_g (lw_at lw_m1 1 rfl) rfl
theorem q81 : (Jvm.Cond.instantiable "PageBanks" (14 : Nat)) ∈ lw_all := lw_g (lw_at lw_m1 41 rfl) rfl
theorem q83 : (Jvm.Cond.instanceMethod ({ cls := "PageBanks", name := "<init>", desc := "()V" } : Jvm.MethodName)) ∈ lw_all := lw_g (lw_at lw_m1 43 rfl) rfl
theorem q84 : (Jvm.Cond.code ({ cls := "PageBanks", name := "<init>", desc := "()V" } : Jvm.MethodName) prog_1_method_2_code (2 : Nat) (Option.none : Option Jvm.ClassFile.FieldType)) ∈ lw_all := lw_g (lw_at lw_m1 44 rfl) rfl
theorem q85 : (Jvm.Cond.methodLink "PageBanks" (1 : Nat) ({ cls := "java/lang/Object", name := "<init>", desc := "()V" } : Jvm.MethodName)) ∈ lw_all := lw_g (lw_at lw_m1 45 rfl) rfl
theorem q88 : (Jvm.Cond.classLink "PageBanks" (9 : Nat) "PageBanks$Page") ∈ lw_all := lw_g (lw_at lw_m1 48 rfl) rfl
theorem q90 : (Jvm.Cond.classLink "PageBanks" (15 : Nat) "PageBanks$Bits") ∈ lw_all := lw_g (lw_at lw_m1 50 rfl) rfl
theorem q92 : (Jvm.Cond.methodLinkNest "PageBanks" (17 : Nat) ({ cls := "PageBanks$Bits", name := "<init>", desc := "()V" } : Jvm.MethodName) "PageBanks") ∈ lw_tbl := lw_at lw_m1 52 rfl
theorem q98 : (Jvm.Cond.fieldLinkNest "PageBanks" (306 : Nat) "PageBanks$Bits" "many" "I" "PageBanks") ∈ lw_tbl := lw_at lw_m1 58 rfl
theorem q105 : (Jvm.Cond.classLink "PageBanks" (25 : Nat) "PageBanks$Bank") ∈ lw_all := lw_g (lw_at lw_m1 65 rfl) rfl
theorem q107 : (Jvm.Cond.classLink "PageBanks" (38 : Nat) "PageBanks$Buys") ∈ lw_all := lw_g (lw_at lw_m1 67 rfl) rfl
theorem q109 : (Jvm.Cond.methodLinkNest "PageBanks" (40 : Nat) ({ cls := "PageBanks$Buys", name := "<init>", desc := "()V" } : Jvm.MethodName) "PageBanks") ∈ lw_tbl := lw_at lw_m1 69 rfl
theorem q117 : (Jvm.Cond.classLink "PageBanks" (41 : Nat) "PageBanks$HasRoom") ∈ lw_all := lw_g (lw_at lw_m1 77 rfl) rfl
theorem q119 : (Jvm.Cond.methodLinkNest "PageBanks" (43 : Nat) ({ cls := "PageBanks$HasRoom", name := "<init>", desc := "(Z)V" } : Jvm.MethodName) "PageBanks") ∈ lw_tbl := lw_at lw_m1 79 rfl
theorem q145 : (Jvm.Cond.classLink "PageBanks" (54 : Nat) "PageBanks$InRange") ∈ lw_all := lw_g (lw_at lw_m1 105 rfl) rfl
theorem q147 : (Jvm.Cond.methodLinkNest "PageBanks" (56 : Nat) ({ cls := "PageBanks$InRange", name := "<init>", desc := "(II)V" } : Jvm.MethodName) "PageBanks") ∈ lw_tbl := lw_at lw_m1 107 rfl
theorem q159 : (Jvm.Cond.classLink "PageBanks" (72 : Nat) "PageBanks$NotRoot") ∈ lw_all := lw_g (lw_at lw_m1 119 rfl) rfl
theorem q161 : (Jvm.Cond.methodLinkNest "PageBanks" (74 : Nat) ({ cls := "PageBanks$NotRoot", name := "<init>", desc := "()V" } : Jvm.MethodName) "PageBanks") ∈ lw_tbl := lw_at lw_m1 121 rfl
theorem q166 : (Jvm.Cond.classLink "PageBanks" (75 : Nat) "PageBanks$NotDying") ∈ lw_all := lw_g (lw_at lw_m1 126 rfl) rfl
theorem q168 : (Jvm.Cond.methodLinkNest "PageBanks" (77 : Nat) ({ cls := "PageBanks$NotDying", name := "<init>", desc := "()V" } : Jvm.MethodName) "PageBanks") ∈ lw_tbl := lw_at lw_m1 128 rfl
theorem q175 : (Jvm.Cond.methodLink "PageBanks" (82 : Nat) ({ cls := "PageBanks$Page", name := "<init>", desc := "(I)V" } : Jvm.MethodName)) ∈ lw_all := lw_g (lw_at lw_m1 135 rfl) rfl
theorem q180 : (Jvm.Cond.fieldLinkNest "PageBanks" (183 : Nat) "PageBanks$Page" "place" "I" "PageBanks") ∈ lw_tbl := lw_at lw_m1 140 rfl
theorem q182 : (Jvm.Cond.fieldLinkNest "PageBanks" (135 : Nat) "PageBanks$Page" "version" "I" "PageBanks") ∈ lw_tbl := lw_at lw_m1 142 rfl
theorem q184 : (Jvm.Cond.fieldLinkNest "PageBanks" (152 : Nat) "PageBanks$Page" "bank" "LPageBanks$Bank;" "PageBanks") ∈ lw_tbl := lw_at lw_m1 144 rfl
theorem q186 : (Jvm.Cond.fieldLinkNest "PageBanks" (335 : Nat) "PageBanks$Page" "before" "LPageBanks$Page;" "PageBanks") ∈ lw_tbl := lw_at lw_m1 146 rfl
theorem q189 : (Jvm.Cond.fieldLinkNest "PageBanks" (331 : Nat) "PageBanks$Page" "behind" "LPageBanks$Page;" "PageBanks") ∈ lw_tbl := lw_at lw_m1 149 rfl
theorem q190 : (Jvm.Cond.fieldLinkNest "PageBanks" (166 : Nat) "PageBanks$Page" "run" "I" "PageBanks") ∈ lw_tbl := lw_at lw_m1 150 rfl
theorem q192 : (Jvm.Cond.fieldLinkNest "PageBanks" (169 : Nat) "PageBanks$Page" "words" "[I" "PageBanks") ∈ lw_tbl := lw_at lw_m1 152 rfl
theorem q209 : (Jvm.Cond.methodLink "PageBanks" (85 : Nat) ({ cls := "PageBanks$Bits", name := "set", desc := "(IZ)V" } : Jvm.MethodName)) ∈ lw_all := lw_g (lw_at lw_m1 169 rfl) rfl
theorem q219 : (Jvm.Cond.methodLink "PageBanks" (89 : Nat) ({ cls := "PageBanks$Bank", name := "<init>", desc := "(ILPageBanks$Bank;I)V" } : Jvm.MethodName)) ∈ lw_all := lw_g (lw_at lw_m1 179 rfl) rfl
theorem q236 : (Jvm.Cond.fieldLinkNest "PageBanks" (310 : Nat) "PageBanks$Ring" "size" "I" "PageBanks") ∈ lw_tbl := lw_at lw_m1 196 rfl
theorem q272 : (Jvm.Cond.fieldLinkNest "PageBanks" (99 : Nat) "PageBanks$Bank" "number" "I" "PageBanks") ∈ lw_tbl := lw_at lw_m1 232 rfl
theorem q274 : (Jvm.Cond.fieldLinkNest "PageBanks" (208 : Nat) "PageBanks$Bank" "parent" "LPageBanks$Bank;" "PageBanks") ∈ lw_tbl := lw_at lw_m1 234 rfl
theorem q276 : (Jvm.Cond.fieldLinkNest "PageBanks" (297 : Nat) "PageBanks$Bank" "limit" "I" "PageBanks") ∈ lw_tbl := lw_at lw_m1 236 rfl
theorem q280 : (Jvm.Cond.fieldLinkNest "PageBanks" (238 : Nat) "PageBanks$Bank" "state" "LPageBanks$State;" "PageBanks") ∈ lw_tbl := lw_at lw_m2 0 rfl
theorem q283 : (Jvm.Cond.fieldLinkNest "PageBanks" (186 : Nat) "PageBanks$Bank" "reserved" "I" "PageBanks") ∈ lw_tbl := lw_at lw_m2 3 rfl
theorem q285 : (Jvm.Cond.fieldLinkNest "PageBanks" (295 : Nat) "PageBanks$Bank" "use" "I" "PageBanks") ∈ lw_tbl := lw_at lw_m2 5 rfl
theorem q287 : (Jvm.Cond.fieldLinkNest "PageBanks" (156 : Nat) "PageBanks$Bank" "pages" "LPageBanks$Ring;" "PageBanks") ∈ lw_tbl := lw_at lw_m2 7 rfl
theorem q289 : (Jvm.Cond.fieldLinkNest "PageBanks" (211 : Nat) "PageBanks$Bank" "below" "Ljava/util/List;" "PageBanks") ∈ lw_tbl := lw_at lw_m2 9 rfl
theorem q307 : (Jvm.Cond.fieldLink "PageBanks" (11 : Nat) "PageBanks" "places" "[LPageBanks$Page;") ∈ lw_all := lw_g (lw_at lw_m2 27 rfl) rfl
theorem q308 : (Jvm.Cond.fieldLink "PageBanks" (18 : Nat) "PageBanks" "free" "LPageBanks$Bits;") ∈ lw_all := lw_g (lw_at lw_m2 28 rfl) rfl
theorem q309 : (Jvm.Cond.fieldLink "PageBanks" (22 : Nat) "PageBanks" "dying" "LPageBanks$Bits;") ∈ lw_all := lw_g (lw_at lw_m2 29 rfl) rfl
theorem q310 : (Jvm.Cond.fieldLink "PageBanks" (180 : Nat) "PageBanks" "retired" "I") ∈ lw_all := lw_g (lw_at lw_m2 30 rfl) rfl
theorem q311 : (Jvm.Cond.fieldLink "PageBanks" (27 : Nat) "PageBanks" "banks" "[LPageBanks$Bank;") ∈ lw_all := lw_g (lw_at lw_m2 31 rfl) rfl
theorem q312 : (Jvm.Cond.fieldLink "PageBanks" (31 : Nat) "PageBanks" "many" "I") ∈ lw_all := lw_g (lw_at lw_m2 32 rfl) rfl
theorem q313 : (Jvm.Cond.fieldLink "PageBanks" (195 : Nat) "PageBanks" "runs" "I") ∈ lw_all := lw_g (lw_at lw_m2 33 rfl) rfl
theorem q314 : (Jvm.Cond.fieldLink "PageBanks" (35 : Nat) "PageBanks" "refused" "I") ∈ lw_all := lw_g (lw_at lw_m2 34 rfl) rfl
theorem q315 : (Jvm.Cond.fieldLink "PageBanks" (50 : Nat) "PageBanks" "buying" "LPageBanks$Rule;") ∈ lw_all := lw_g (lw_at lw_m2 35 rfl) rfl
theorem q316 : (Jvm.Cond.fieldLink "PageBanks" (60 : Nat) "PageBanks" "buyingRun" "LPageBanks$Rule;") ∈ lw_all := lw_g (lw_at lw_m2 36 rfl) rfl
theorem q317 : (Jvm.Cond.fieldLink "PageBanks" (63 : Nat) "PageBanks" "receiving" "LPageBanks$Rule;") ∈ lw_all := lw_g (lw_at lw_m2 37 rfl) rfl
theorem q318 : (Jvm.Cond.fieldLink "PageBanks" (66 : Nat) "PageBanks" "reserving" "LPageBanks$Rule;") ∈ lw_all := lw_g (lw_at lw_m2 38 rfl) rfl
theorem q319 : (Jvm.Cond.fieldLink "PageBanks" (69 : Nat) "PageBanks" "founding" "LPageBanks$Rule;") ∈ lw_all := lw_g (lw_at lw_m2 39 rfl) rfl
theorem q320 : (Jvm.Cond.fieldLink "PageBanks" (79 : Nat) "PageBanks" "ending" "LPageBanks$Rule;") ∈ lw_all := lw_g (lw_at lw_m2 40 rfl) rfl
theorem q321 : (Jvm.Cond.laysFinal "PageBanks" "PageBanks" "places" "[LPageBanks$Page;") ∈ lw_all := lw_g (lw_at lw_m2 41 rfl) rfl
theorem q322 : (Jvm.Cond.soleField "PageBanks" "places") ∈ lw_all := lw_g (lw_at lw_m2 42 rfl) rfl
theorem q323 : (Jvm.Cond.laysFinal "PageBanks" "PageBanks" "free" "LPageBanks$Bits;") ∈ lw_all := lw_g (lw_at lw_m2 43 rfl) rfl
theorem q324 : (Jvm.Cond.soleField "PageBanks" "free") ∈ lw_all := lw_g (lw_at lw_m2 44 rfl) rfl
theorem q325 : (Jvm.Cond.laysFinal "PageBanks" "PageBanks" "dying" "LPageBanks$Bits;") ∈ lw_all := lw_g (lw_at lw_m2 45 rfl) rfl
theorem q326 : (Jvm.Cond.soleField "PageBanks" "dying") ∈ lw_all := lw_g (lw_at lw_m2 46 rfl) rfl
theorem q327 : (Jvm.Cond.lays "PageBanks" "PageBanks" "retired" "I") ∈ lw_all := lw_g (lw_at lw_m2 47 rfl) rfl
theorem q328 : (Jvm.Cond.soleField "PageBanks" "retired") ∈ lw_all := lw_g (lw_at lw_m2 48 rfl) rfl
theorem q329 : (Jvm.Cond.laysFinal "PageBanks" "PageBanks" "banks" "[LPageBanks$Bank;") ∈ lw_all := lw_g (lw_at lw_m2 49 rfl) rfl
theorem q330 : (Jvm.Cond.soleField "PageBanks" "banks") ∈ lw_all := lw_g (lw_at lw_m2 50 rfl) rfl
theorem q331 : (Jvm.Cond.lays "PageBanks" "PageBanks" "many" "I") ∈ lw_all := lw_g (lw_at lw_m2 51 rfl) rfl
theorem q332 : (Jvm.Cond.soleField "PageBanks" "many") ∈ lw_all := lw_g (lw_at lw_m2 52 rfl) rfl
theorem q333 : (Jvm.Cond.lays "PageBanks" "PageBanks" "runs" "I") ∈ lw_all := lw_g (lw_at lw_m2 53 rfl) rfl
theorem q334 : (Jvm.Cond.soleField "PageBanks" "runs") ∈ lw_all := lw_g (lw_at lw_m2 54 rfl) rfl
theorem q335 : (Jvm.Cond.lays "PageBanks" "PageBanks" "refused" "I") ∈ lw_all := lw_g (lw_at lw_m2 55 rfl) rfl
theorem q336 : (Jvm.Cond.soleField "PageBanks" "refused") ∈ lw_all := lw_g (lw_at lw_m2 56 rfl) rfl
theorem q337 : (Jvm.Cond.laysFinal "PageBanks" "PageBanks" "buying" "LPageBanks$Rule;") ∈ lw_all := lw_g (lw_at lw_m2 57 rfl) rfl
theorem q338 : (Jvm.Cond.soleField "PageBanks" "buying") ∈ lw_all := lw_g (lw_at lw_m2 58 rfl) rfl
theorem q339 : (Jvm.Cond.laysFinal "PageBanks" "PageBanks" "buyingRun" "LPageBanks$Rule;") ∈ lw_all := lw_g (lw_at lw_m2 59 rfl) rfl
theorem q340 : (Jvm.Cond.soleField "PageBanks" "buyingRun") ∈ lw_all := lw_g (lw_at lw_m2 60 rfl) rfl
theorem q341 : (Jvm.Cond.laysFinal "PageBanks" "PageBanks" "receiving" "LPageBanks$Rule;") ∈ lw_all := lw_g (lw_at lw_m2 61 rfl) rfl
theorem q342 : (Jvm.Cond.soleField "PageBanks" "receiving") ∈ lw_all := lw_g (lw_at lw_m2 62 rfl) rfl
theorem q343 : (Jvm.Cond.laysFinal "PageBanks" "PageBanks" "reserving" "LPageBanks$Rule;") ∈ lw_all := lw_g (lw_at lw_m2 63 rfl) rfl
theorem q344 : (Jvm.Cond.soleField "PageBanks" "reserving") ∈ lw_all := lw_g (lw_at lw_m2 64 rfl) rfl
theorem q345 : (Jvm.Cond.laysFinal "PageBanks" "PageBanks" "founding" "LPageBanks$Rule;") ∈ lw_all := lw_g (lw_at lw_m2 65 rfl) rfl
theorem q346 : (Jvm.Cond.soleField "PageBanks" "founding") ∈ lw_all := lw_g (lw_at lw_m2 66 rfl) rfl
theorem q347 : (Jvm.Cond.laysFinal "PageBanks" "PageBanks" "ending" "LPageBanks$Rule;") ∈ lw_all := lw_g (lw_at lw_m2 67 rfl) rfl
theorem q348 : (Jvm.Cond.soleField "PageBanks" "ending") ∈ lw_all := lw_g (lw_at lw_m2 68 rfl) rfl
theorem q349 : (Jvm.Cond.superclass "PageBanks" "java/lang/Object") ∈ lw_all := lw_g (lw_at lw_m2 69 rfl) rfl
theorem q351 : (Jvm.Cond.instanceMethod ({ cls := "PageBanks", name := "isAlive", desc := "(I)Z" } : Jvm.MethodName)) ∈ lw_all := lw_g (lw_at lw_m2 71 rfl) rfl
theorem q352 : (Jvm.Cond.selects "PageBanks" ({ cls := "PageBanks", name := "isAlive", desc := "(I)Z" } : Jvm.MethodName) ({ cls := "PageBanks", name := "isAlive", desc := "(I)Z" } : Jvm.MethodName)) ∈ lw_all := lw_g (lw_at lw_m2 72 rfl) rfl
theorem q353 : (Jvm.Cond.code ({ cls := "PageBanks", name := "isAlive", desc := "(I)Z" } : Jvm.MethodName) prog_1_method_38_code (2 : Nat) (Option.some Jvm.ClassFile.FieldType.boolean)) ∈ lw_all := lw_g (lw_at lw_m2 73 rfl) rfl
theorem q354 : (Jvm.Cond.methodLink "PageBanks" (138 : Nat) ({ cls := "PageBanks", name := "find", desc := "(I)LPageBanks$Page;" } : Jvm.MethodName)) ∈ lw_all := lw_g (lw_at lw_m2 74 rfl) rfl
theorem q355 : (Jvm.Cond.privateMethod ({ cls := "PageBanks", name := "find", desc := "(I)LPageBanks$Page;" } : Jvm.MethodName)) ∈ lw_tbl := lw_at lw_m2 75 rfl
theorem q356 : (Jvm.Cond.instanceMethod ({ cls := "PageBanks", name := "find", desc := "(I)LPageBanks$Page;" } : Jvm.MethodName)) ∈ lw_all := lw_g (lw_at lw_m2 76 rfl) rfl
theorem q357 : (Jvm.Cond.code ({ cls := "PageBanks", name := "find", desc := "(I)LPageBanks$Page;" } : Jvm.MethodName) prog_1_method_6_code (4 : Nat) (Option.some (Jvm.ClassFile.FieldType.object "PageBanks$Page"))) ∈ lw_all := lw_g (lw_at lw_m2 77 rfl) rfl
theorem q358 : (Jvm.Cond.methodLink "PageBanks" (131 : Nat) ({ cls := "PageBanks$Page", name := "isAlive", desc := "()Z" } : Jvm.MethodName)) ∈ lw_all := lw_g (lw_at lw_m2 78 rfl) rfl
theorem q365 : (Jvm.Cond.instanceMethod ({ cls := "PageBanks", name := "refused", desc := "()I" } : Jvm.MethodName)) ∈ lw_all := lw_g (lw_at lw_m2 85 rfl) rfl
theorem q366 : (Jvm.Cond.selects "PageBanks" ({ cls := "PageBanks", name := "refused", desc := "()I" } : Jvm.MethodName) ({ cls := "PageBanks", name := "refused", desc := "()I" } : Jvm.MethodName)) ∈ lw_all := lw_g (lw_at lw_m2 86 rfl) rfl
theorem q367 : (Jvm.Cond.code ({ cls := "PageBanks", name := "refused", desc := "()I" } : Jvm.MethodName) prog_1_method_39_code (1 : Nat) (Option.some Jvm.ClassFile.FieldType.int)) ∈ lw_all := lw_g (lw_at lw_m2 87 rfl) rfl
theorem q369 : (Jvm.Cond.instanceMethod ({ cls := "PageBanks", name := "count", desc := "(I)I" } : Jvm.MethodName)) ∈ lw_all := lw_g (lw_at lw_m2 89 rfl) rfl
theorem q370 : (Jvm.Cond.selects "PageBanks" ({ cls := "PageBanks", name := "count", desc := "(I)I" } : Jvm.MethodName) ({ cls := "PageBanks", name := "count", desc := "(I)I" } : Jvm.MethodName)) ∈ lw_all := lw_g (lw_at lw_m2 90 rfl) rfl
theorem q371 : (Jvm.Cond.code ({ cls := "PageBanks", name := "count", desc := "(I)I" } : Jvm.MethodName) prog_1_method_40_code (2 : Nat) (Option.some Jvm.ClassFile.FieldType.int)) ∈ lw_all := lw_g (lw_at lw_m2 91 rfl) rfl
theorem q373 : (Jvm.Cond.instanceMethod ({ cls := "PageBanks", name := "astray", desc := "()I" } : Jvm.MethodName)) ∈ lw_all := lw_g (lw_at lw_m2 93 rfl) rfl
theorem q374 : (Jvm.Cond.selects "PageBanks" ({ cls := "PageBanks", name := "astray", desc := "()I" } : Jvm.MethodName) ({ cls := "PageBanks", name := "astray", desc := "()I" } : Jvm.MethodName)) ∈ lw_all := lw_g (lw_at lw_m2 94 rfl) rfl
theorem q375 : (Jvm.Cond.code ({ cls := "PageBanks", name := "astray", desc := "()I" } : Jvm.MethodName) prog_1_method_42_code (1 : Nat) (Option.some Jvm.ClassFile.FieldType.int)) ∈ lw_all := lw_g (lw_at lw_m2 95 rfl) rfl
theorem q376 : (Jvm.Cond.methodLink "PageBanks" (327 : Nat) ({ cls := "PageBanks", name := "wrongs", desc := "(LPageBanks$Bank;)I" } : Jvm.MethodName)) ∈ lw_all := lw_g (lw_at lw_m2 96 rfl) rfl
theorem q377 : (Jvm.Cond.privateMethod ({ cls := "PageBanks", name := "wrongs", desc := "(LPageBanks$Bank;)I" } : Jvm.MethodName)) ∈ lw_tbl := lw_at lw_m2 97 rfl
theorem q378 : (Jvm.Cond.instanceMethod ({ cls := "PageBanks", name := "wrongs", desc := "(LPageBanks$Bank;)I" } : Jvm.MethodName)) ∈ lw_all := lw_g (lw_at lw_m2 98 rfl) rfl
theorem q379 : (Jvm.Cond.code ({ cls := "PageBanks", name := "wrongs", desc := "(LPageBanks$Bank;)I" } : Jvm.MethodName) prog_1_method_41_code (6 : Nat) (Option.some Jvm.ClassFile.FieldType.int)) ∈ lw_all := lw_g (lw_at lw_m2 99 rfl) rfl
theorem q380 : (Jvm.Cond.interfaceEntry "PageBanks" (314 : Nat)) ∈ lw_tbl := lw_at lw_m2 100 rfl
theorem q381 : (Jvm.Cond.methodLink "PageBanks" (314 : Nat) ({ cls := "java/util/List", name := "iterator", desc := "()Ljava/util/Iterator;" } : Jvm.MethodName)) ∈ lw_all := lw_g (lw_at lw_m2 101 rfl) rfl
theorem q409 : (Jvm.Cond.interfaceEntry "PageBanks" (318 : Nat)) ∈ lw_tbl := lw_at lw_m2 129 rfl
theorem q410 : (Jvm.Cond.methodLink "PageBanks" (318 : Nat) ({ cls := "java/util/Iterator", name := "hasNext", desc := "()Z" } : Jvm.MethodName)) ∈ lw_all := lw_g (lw_at lw_m2 130 rfl) rfl
theorem q419 : (Jvm.Cond.interfaceEntry "PageBanks" (321 : Nat)) ∈ lw_tbl := lw_at lw_m2 139 rfl
theorem q420 : (Jvm.Cond.methodLink "PageBanks" (321 : Nat) ({ cls := "java/util/Iterator", name := "next", desc := "()Ljava/lang/Object;" } : Jvm.MethodName)) ∈ lw_all := lw_g (lw_at lw_m2 140 rfl) rfl
theorem q499 : (Jvm.Cond.methodLink "PageBanks" (241 : Nat) ({ cls := "PageBanks$Ring", name := "walk", desc := "()LPageBanks$Walk;" } : Jvm.MethodName)) ∈ lw_all := lw_g (lw_at lw_m2 219 rfl) rfl
theorem q522 : (Jvm.Cond.interfaceEntry "PageBanks" (245 : Nat)) ∈ lw_tbl := lw_at lw_m3 2 rfl
theorem q523 : (Jvm.Cond.methodLink "PageBanks" (245 : Nat) ({ cls := "PageBanks$Walk", name := "hasNext", desc := "()Z" } : Jvm.MethodName)) ∈ lw_all := lw_g (lw_at lw_m3 3 rfl) rfl
theorem q532 : (Jvm.Cond.interfaceEntry "PageBanks" (250 : Nat)) ∈ lw_tbl := lw_at lw_m3 12 rfl
theorem q533 : (Jvm.Cond.methodLink "PageBanks" (250 : Nat) ({ cls := "PageBanks$Walk", name := "next", desc := "()LPageBanks$Page;" } : Jvm.MethodName)) ∈ lw_all := lw_g (lw_at lw_m3 13 rfl) rfl
theorem q541 : (Jvm.Cond.methodLink "PageBanks" (338 : Nat) ({ cls := "PageBanks$Bits", name := "has", desc := "(I)Z" } : Jvm.MethodName)) ∈ lw_all := lw_g (lw_at lw_m3 21 rfl) rfl
theorem q542 : (Jvm.Cond.methodLink "PageBanks" (224 : Nat) ({ cls := "PageBanks$Bank", name := "isDying", desc := "()Z" } : Jvm.MethodName)) ∈ lw_all := lw_g (lw_at lw_m3 22 rfl) rfl
theorem q547 : (Jvm.Cond.methodLink "PageBanks" (341 : Nat) ({ cls := "PageBanks$Bank", name := "banks", desc := "()I" } : Jvm.MethodName)) ∈ lw_all := lw_g (lw_at lw_m3 27 rfl) rfl
theorem q599 : (Jvm.Cond.instanceMethod ({ cls := "PageBanks", name := "bank", desc := "(II)I" } : Jvm.MethodName)) ∈ lw_all := lw_g (lw_at lw_m3 79 rfl) rfl
theorem q600 : (Jvm.Cond.selects "PageBanks" ({ cls := "PageBanks", name := "bank", desc := "(II)I" } : Jvm.MethodName) ({ cls := "PageBanks", name := "bank", desc := "(II)I" } : Jvm.MethodName)) ∈ lw_all := lw_g (lw_at lw_m3 80 rfl) rfl
theorem q601 : (Jvm.Cond.code ({ cls := "PageBanks", name := "bank", desc := "(II)I" } : Jvm.MethodName) prog_1_method_19_code (5 : Nat) (Option.some Jvm.ClassFile.FieldType.int)) ∈ lw_all := lw_g (lw_at lw_m3 81 rfl) rfl
theorem q602 : (Jvm.Cond.methodLink "PageBanks" (260 : Nat) ({ cls := "PageBanks", name := "get", desc := "(I)LPageBanks$Bank;" } : Jvm.MethodName)) ∈ lw_all := lw_g (lw_at lw_m3 82 rfl) rfl
theorem q603 : (Jvm.Cond.privateMethod ({ cls := "PageBanks", name := "get", desc := "(I)LPageBanks$Bank;" } : Jvm.MethodName)) ∈ lw_tbl := lw_at lw_m3 83 rfl
theorem q604 : (Jvm.Cond.instanceMethod ({ cls := "PageBanks", name := "get", desc := "(I)LPageBanks$Bank;" } : Jvm.MethodName)) ∈ lw_all := lw_g (lw_at lw_m3 84 rfl) rfl
theorem q605 : (Jvm.Cond.code ({ cls := "PageBanks", name := "get", desc := "(I)LPageBanks$Bank;" } : Jvm.MethodName) prog_1_method_3_code (2 : Nat) (Option.some (Jvm.ClassFile.FieldType.object "PageBanks$Bank"))) ∈ lw_all := lw_g (lw_at lw_m3 85 rfl) rfl
theorem q606 : (Jvm.Cond.methodLink "PageBanks" (92 : Nat) ({ cls := "PageBanks", name := "within", desc := "(III)Z" } : Jvm.MethodName)) ∈ lw_all := lw_g (lw_at lw_m3 86 rfl) rfl
theorem q607 : (Jvm.Cond.static ({ cls := "PageBanks", name := "within", desc := "(III)Z" } : Jvm.MethodName)) ∈ lw_all := lw_g (lw_at lw_m3 87 rfl) rfl
theorem q608 : (Jvm.Cond.code ({ cls := "PageBanks", name := "within", desc := "(III)Z" } : Jvm.MethodName) prog_1_method_1_code (3 : Nat) (Option.some Jvm.ClassFile.FieldType.boolean)) ∈ lw_all := lw_g (lw_at lw_m3 88 rfl) rfl
theorem q609 : (Jvm.Cond.classLink "PageBanks" (96 : Nat) "java/lang/IndexOutOfBoundsException") ∈ lw_all := lw_g (lw_at lw_m3 89 rfl) rfl
theorem q618 : (Jvm.Cond.methodLink "PageBanks" (98 : Nat) ({ cls := "java/lang/IndexOutOfBoundsException", name := "<init>", desc := "()V" } : Jvm.MethodName)) ∈ lw_all := lw_g (lw_at lw_m3 98 rfl) rfl
theorem q624 : (Jvm.Cond.methodLink "PageBanks" (262 : Nat) ({ cls := "PageBanks", name := "follow", desc := "(LPageBanks$Rule;LPageBanks$Bank;II)V" } : Jvm.MethodName)) ∈ lw_all := lw_g (lw_at lw_m3 104 rfl) rfl
theorem q625 : (Jvm.Cond.privateMethod ({ cls := "PageBanks", name := "follow", desc := "(LPageBanks$Rule;LPageBanks$Bank;II)V" } : Jvm.MethodName)) ∈ lw_tbl := lw_at lw_m3 105 rfl
theorem q626 : (Jvm.Cond.instanceMethod ({ cls := "PageBanks", name := "follow", desc := "(LPageBanks$Rule;LPageBanks$Bank;II)V" } : Jvm.MethodName)) ∈ lw_all := lw_g (lw_at lw_m3 106 rfl) rfl
theorem q627 : (Jvm.Cond.code ({ cls := "PageBanks", name := "follow", desc := "(LPageBanks$Rule;LPageBanks$Bank;II)V" } : Jvm.MethodName) prog_1_method_5_code (5 : Nat) (Option.none : Option Jvm.ClassFile.FieldType)) ∈ lw_all := lw_g (lw_at lw_m3 107 rfl) rfl
theorem q628 : (Jvm.Cond.interfaceEntry "PageBanks" (105 : Nat)) ∈ lw_tbl := lw_at lw_m3 108 rfl
theorem q629 : (Jvm.Cond.methodLink "PageBanks" (105 : Nat) ({ cls := "PageBanks$Rule", name := "judge", desc := "(LPageBanks$Bank;I)LPageBanks$Verdict;" } : Jvm.MethodName)) ∈ lw_all := lw_g (lw_at lw_m3 109 rfl) rfl
theorem q703 : (Jvm.Cond.methodLink "PageBanks" (111 : Nat) ({ cls := "PageBanks$Verdict", name := "ordinal", desc := "()I" } : Jvm.MethodName)) ∈ lw_all := lw_g (lw_at lw_m3 183 rfl) rfl
theorem q709 : (Jvm.Cond.classLink "PageBanks" (117 : Nat) "java/lang/IllegalArgumentException") ∈ lw_all := lw_g (lw_at lw_m3 189 rfl) rfl
theorem q718 : (Jvm.Cond.methodLink "PageBanks" (119 : Nat) ({ cls := "java/lang/IllegalArgumentException", name := "<init>", desc := "()V" } : Jvm.MethodName)) ∈ lw_all := lw_g (lw_at lw_m3 198 rfl) rfl
theorem q724 : (Jvm.Cond.classLink "PageBanks" (120 : Nat) "java/lang/IllegalStateException") ∈ lw_all := lw_g (lw_at lw_m3 204 rfl) rfl
theorem q733 : (Jvm.Cond.methodLink "PageBanks" (122 : Nat) ({ cls := "java/lang/IllegalStateException", name := "<init>", desc := "()V" } : Jvm.MethodName)) ∈ lw_all := lw_g (lw_at lw_m3 213 rfl) rfl
theorem q739 : (Jvm.Cond.methodLink "PageBanks" (123 : Nat) ({ cls := "PageBanks$Bank", name := "refuses", desc := "(I)LPageBanks$Bank;" } : Jvm.MethodName)) ∈ lw_all := lw_g (lw_at lw_m3 219 rfl) rfl
theorem q740 : (Jvm.Cond.methodLink "PageBanks" (127 : Nat) ({ cls := "PageBanks", name := "refuse", desc := "(LPageBanks$Bank;)V" } : Jvm.MethodName)) ∈ lw_all := lw_g (lw_at lw_m3 220 rfl) rfl
theorem q741 : (Jvm.Cond.privateMethod ({ cls := "PageBanks", name := "refuse", desc := "(LPageBanks$Bank;)V" } : Jvm.MethodName)) ∈ lw_tbl := lw_at lw_m3 221 rfl
theorem q742 : (Jvm.Cond.instanceMethod ({ cls := "PageBanks", name := "refuse", desc := "(LPageBanks$Bank;)V" } : Jvm.MethodName)) ∈ lw_all := lw_g (lw_at lw_m3 222 rfl) rfl
theorem q743 : (Jvm.Cond.code ({ cls := "PageBanks", name := "refuse", desc := "(LPageBanks$Bank;)V" } : Jvm.MethodName) prog_1_method_4_code (2 : Nat) (Option.none : Option Jvm.ClassFile.FieldType)) ∈ lw_all := lw_g (lw_at lw_m3 223 rfl) rfl
theorem q744 : (Jvm.Cond.classLink "PageBanks" (102 : Nat) "java/lang/UnsupportedOperationException") ∈ lw_all := lw_g (lw_at lw_m3 224 rfl) rfl
theorem q753 : (Jvm.Cond.methodLink "PageBanks" (104 : Nat) ({ cls := "java/lang/UnsupportedOperationException", name := "<init>", desc := "()V" } : Jvm.MethodName)) ∈ lw_all := lw_g (lw_at lw_m3 233 rfl) rfl
theorem q759 : (Jvm.Cond.methodLink "PageBanks" (266 : Nat) ({ cls := "PageBanks$Bank", name := "depth", desc := "()I" } : Jvm.MethodName)) ∈ lw_all := lw_g (lw_at lw_m3 239 rfl) rfl
theorem q765 : (Jvm.Cond.interfaceEntry "PageBanks" (269 : Nat)) ∈ lw_tbl := lw_at lw_m4 5 rfl
theorem q766 : (Jvm.Cond.methodLink "PageBanks" (269 : Nat) ({ cls := "java/util/List", name := "add", desc := "(Ljava/lang/Object;)Z" } : Jvm.MethodName)) ∈ lw_all := lw_g (lw_at lw_m4 6 rfl) rfl
theorem q802 : (Jvm.Cond.selects "PageBanks" ({ cls := "java/lang/Object", name := "getClass", desc := "()Ljava/lang/Class;" } : Jvm.MethodName) ({ cls := "java/lang/Object", name := "getClass", desc := "()Ljava/lang/Class;" } : Jvm.MethodName)) ∈ lw_all := lw_g (lw_at lw_m4 42 rfl) rfl
theorem q842 : (Jvm.Cond.instanceMethod ({ cls := "PageBanks", name := "buy", desc := "(I)I" } : Jvm.MethodName)) ∈ lw_all := lw_g (lw_at lw_m4 82 rfl) rfl
theorem q843 : (Jvm.Cond.selects "PageBanks" ({ cls := "PageBanks", name := "buy", desc := "(I)I" } : Jvm.MethodName) ({ cls := "PageBanks", name := "buy", desc := "(I)I" } : Jvm.MethodName)) ∈ lw_all := lw_g (lw_at lw_m4 83 rfl) rfl
theorem q844 : (Jvm.Cond.code ({ cls := "PageBanks", name := "buy", desc := "(I)I" } : Jvm.MethodName) prog_1_method_20_code (3 : Nat) (Option.some Jvm.ClassFile.FieldType.int)) ∈ lw_all := lw_g (lw_at lw_m4 84 rfl) rfl
theorem q845 : (Jvm.Cond.methodLink "PageBanks" (272 : Nat) ({ cls := "PageBanks$Bits", name := "next", desc := "(IZ)I" } : Jvm.MethodName)) ∈ lw_all := lw_g (lw_at lw_m4 85 rfl) rfl
theorem q856 : (Jvm.Cond.methodLink "PageBanks" (275 : Nat) ({ cls := "PageBanks", name := "bought", desc := "(LPageBanks$Bank;II)I" } : Jvm.MethodName)) ∈ lw_all := lw_g (lw_at lw_m4 96 rfl) rfl
theorem q857 : (Jvm.Cond.privateMethod ({ cls := "PageBanks", name := "bought", desc := "(LPageBanks$Bank;II)I" } : Jvm.MethodName)) ∈ lw_tbl := lw_at lw_m4 97 rfl
theorem q858 : (Jvm.Cond.instanceMethod ({ cls := "PageBanks", name := "bought", desc := "(LPageBanks$Bank;II)I" } : Jvm.MethodName)) ∈ lw_all := lw_g (lw_at lw_m4 98 rfl) rfl
theorem q859 : (Jvm.Cond.code ({ cls := "PageBanks", name := "bought", desc := "(LPageBanks$Bank;II)I" } : Jvm.MethodName) prog_1_method_15_code (4 : Nat) (Option.some Jvm.ClassFile.FieldType.int)) ∈ lw_all := lw_g (lw_at lw_m4 99 rfl) rfl
theorem q860 : (Jvm.Cond.methodLink "PageBanks" (204 : Nat) ({ cls := "PageBanks", name := "take", desc := "(LPageBanks$Bank;II)I" } : Jvm.MethodName)) ∈ lw_all := lw_g (lw_at lw_m4 100 rfl) rfl
theorem q861 : (Jvm.Cond.privateMethod ({ cls := "PageBanks", name := "take", desc := "(LPageBanks$Bank;II)I" } : Jvm.MethodName)) ∈ lw_tbl := lw_at lw_m4 101 rfl
theorem q862 : (Jvm.Cond.instanceMethod ({ cls := "PageBanks", name := "take", desc := "(LPageBanks$Bank;II)I" } : Jvm.MethodName)) ∈ lw_all := lw_g (lw_at lw_m4 102 rfl) rfl
theorem q863 : (Jvm.Cond.code ({ cls := "PageBanks", name := "take", desc := "(LPageBanks$Bank;II)I" } : Jvm.MethodName) prog_1_method_14_code (6 : Nat) (Option.some Jvm.ClassFile.FieldType.int)) ∈ lw_all := lw_g (lw_at lw_m4 103 rfl) rfl
theorem q864 : (Jvm.Cond.methodLink "PageBanks" (189 : Nat) ({ cls := "java/lang/Math", name := "min", desc := "(II)I" } : Jvm.MethodName)) ∈ lw_all := lw_g (lw_at lw_m4 104 rfl) rfl
theorem q865 : (Jvm.Cond.methodLink "PageBanks" (177 : Nat) ({ cls := "PageBanks$Bank", name := "use", desc := "(I)V" } : Jvm.MethodName)) ∈ lw_all := lw_g (lw_at lw_m4 105 rfl) rfl
theorem q869 : (Jvm.Cond.methodLink "PageBanks" (198 : Nat) ({ cls := "PageBanks", name := "found", desc := "(ILPageBanks$Bank;I)V" } : Jvm.MethodName)) ∈ lw_all := lw_g (lw_at lw_m4 109 rfl) rfl
theorem q870 : (Jvm.Cond.privateMethod ({ cls := "PageBanks", name := "found", desc := "(ILPageBanks$Bank;I)V" } : Jvm.MethodName)) ∈ lw_tbl := lw_at lw_m4 110 rfl
theorem q871 : (Jvm.Cond.instanceMethod ({ cls := "PageBanks", name := "found", desc := "(ILPageBanks$Bank;I)V" } : Jvm.MethodName)) ∈ lw_all := lw_g (lw_at lw_m4 111 rfl) rfl
theorem q872 : (Jvm.Cond.code ({ cls := "PageBanks", name := "found", desc := "(ILPageBanks$Bank;I)V" } : Jvm.MethodName) prog_1_method_12_code (6 : Nat) (Option.none : Option Jvm.ClassFile.FieldType)) ∈ lw_all := lw_g (lw_at lw_m4 112 rfl) rfl
theorem q873 : (Jvm.Cond.methodLink "PageBanks" (173 : Nat) ({ cls := "PageBanks", name := "give", desc := "(LPageBanks$Page;LPageBanks$Bank;)V" } : Jvm.MethodName)) ∈ lw_all := lw_g (lw_at lw_m4 113 rfl) rfl
theorem q874 : (Jvm.Cond.privateMethod ({ cls := "PageBanks", name := "give", desc := "(LPageBanks$Page;LPageBanks$Bank;)V" } : Jvm.MethodName)) ∈ lw_tbl := lw_at lw_m4 114 rfl
theorem q875 : (Jvm.Cond.instanceMethod ({ cls := "PageBanks", name := "give", desc := "(LPageBanks$Page;LPageBanks$Bank;)V" } : Jvm.MethodName)) ∈ lw_all := lw_g (lw_at lw_m4 115 rfl) rfl
theorem q876 : (Jvm.Cond.code ({ cls := "PageBanks", name := "give", desc := "(LPageBanks$Page;LPageBanks$Bank;)V" } : Jvm.MethodName) prog_1_method_11_code (3 : Nat) (Option.none : Option Jvm.ClassFile.FieldType)) ∈ lw_all := lw_g (lw_at lw_m4 116 rfl) rfl
theorem q877 : (Jvm.Cond.methodLink "PageBanks" (160 : Nat) ({ cls := "PageBanks$Ring", name := "add", desc := "(LPageBanks$Page;)V" } : Jvm.MethodName)) ∈ lw_all := lw_g (lw_at lw_m4 117 rfl) rfl
theorem q881 : (Jvm.Cond.methodLink "PageBanks" (201 : Nat) ({ cls := "PageBanks$Page", name := "key", desc := "()I" } : Jvm.MethodName)) ∈ lw_all := lw_g (lw_at lw_m4 121 rfl) rfl
theorem q889 : (Jvm.Cond.instanceMethod ({ cls := "PageBanks", name := "buyRun", desc := "(II)I" } : Jvm.MethodName)) ∈ lw_all := lw_g (lw_at lw_m4 129 rfl) rfl
theorem q890 : (Jvm.Cond.selects "PageBanks" ({ cls := "PageBanks", name := "buyRun", desc := "(II)I" } : Jvm.MethodName) ({ cls := "PageBanks", name := "buyRun", desc := "(II)I" } : Jvm.MethodName)) ∈ lw_all := lw_g (lw_at lw_m4 130 rfl) rfl
theorem q891 : (Jvm.Cond.code ({ cls := "PageBanks", name := "buyRun", desc := "(II)I" } : Jvm.MethodName) prog_1_method_21_code (4 : Nat) (Option.some Jvm.ClassFile.FieldType.int)) ∈ lw_all := lw_g (lw_at lw_m4 131 rfl) rfl
theorem q892 : (Jvm.Cond.methodLink "PageBanks" (278 : Nat) ({ cls := "PageBanks$Bits", name := "run", desc := "(I)I" } : Jvm.MethodName)) ∈ lw_all := lw_g (lw_at lw_m4 132 rfl) rfl
theorem q902 : (Jvm.Cond.instanceMethod ({ cls := "PageBanks", name := "runKey", desc := "(II)I" } : Jvm.MethodName)) ∈ lw_all := lw_g (lw_at lw_m4 142 rfl) rfl
theorem q903 : (Jvm.Cond.selects "PageBanks" ({ cls := "PageBanks", name := "runKey", desc := "(II)I" } : Jvm.MethodName) ({ cls := "PageBanks", name := "runKey", desc := "(II)I" } : Jvm.MethodName)) ∈ lw_all := lw_g (lw_at lw_m4 143 rfl) rfl
theorem q904 : (Jvm.Cond.code ({ cls := "PageBanks", name := "runKey", desc := "(II)I" } : Jvm.MethodName) prog_1_method_22_code (5 : Nat) (Option.some Jvm.ClassFile.FieldType.int)) ∈ lw_all := lw_g (lw_at lw_m4 144 rfl) rfl
theorem q905 : (Jvm.Cond.methodLink "PageBanks" (281 : Nat) ({ cls := "PageBanks", name := "wantStrong", desc := "(I)LPageBanks$Page;" } : Jvm.MethodName)) ∈ lw_all := lw_g (lw_at lw_m4 145 rfl) rfl
theorem q906 : (Jvm.Cond.privateMethod ({ cls := "PageBanks", name := "wantStrong", desc := "(I)LPageBanks$Page;" } : Jvm.MethodName)) ∈ lw_tbl := lw_at lw_m4 146 rfl
theorem q907 : (Jvm.Cond.instanceMethod ({ cls := "PageBanks", name := "wantStrong", desc := "(I)LPageBanks$Page;" } : Jvm.MethodName)) ∈ lw_all := lw_g (lw_at lw_m4 147 rfl) rfl
theorem q908 : (Jvm.Cond.code ({ cls := "PageBanks", name := "wantStrong", desc := "(I)LPageBanks$Page;" } : Jvm.MethodName) prog_1_method_9_code (3 : Nat) (Option.some (Jvm.ClassFile.FieldType.object "PageBanks$Page"))) ∈ lw_all := lw_g (lw_at lw_m4 148 rfl) rfl
theorem q909 : (Jvm.Cond.methodLink "PageBanks" (145 : Nat) ({ cls := "PageBanks", name := "want", desc := "(I)LPageBanks$Page;" } : Jvm.MethodName)) ∈ lw_all := lw_g (lw_at lw_m4 149 rfl) rfl
theorem q910 : (Jvm.Cond.privateMethod ({ cls := "PageBanks", name := "want", desc := "(I)LPageBanks$Page;" } : Jvm.MethodName)) ∈ lw_tbl := lw_at lw_m4 150 rfl
theorem q911 : (Jvm.Cond.instanceMethod ({ cls := "PageBanks", name := "want", desc := "(I)LPageBanks$Page;" } : Jvm.MethodName)) ∈ lw_all := lw_g (lw_at lw_m4 151 rfl) rfl
theorem q912 : (Jvm.Cond.code ({ cls := "PageBanks", name := "want", desc := "(I)LPageBanks$Page;" } : Jvm.MethodName) prog_1_method_7_code (3 : Nat) (Option.some (Jvm.ClassFile.FieldType.object "PageBanks$Page"))) ∈ lw_all := lw_g (lw_at lw_m4 152 rfl) rfl
theorem q913 : (Jvm.Cond.classLink "PageBanks" (142 : Nat) "java/util/NoSuchElementException") ∈ lw_all := lw_g (lw_at lw_m4 153 rfl) rfl
theorem q914 : (Jvm.Cond.methodLink "PageBanks" (144 : Nat) ({ cls := "java/util/NoSuchElementException", name := "<init>", desc := "()V" } : Jvm.MethodName)) ∈ lw_all := lw_g (lw_at lw_m4 154 rfl) rfl
theorem q915 : (Jvm.Cond.methodLink "PageBanks" (148 : Nat) ({ cls := "PageBanks", name := "isWeak", desc := "(I)Z" } : Jvm.MethodName)) ∈ lw_all := lw_g (lw_at lw_m4 155 rfl) rfl
theorem q916 : (Jvm.Cond.static ({ cls := "PageBanks", name := "isWeak", desc := "(I)Z" } : Jvm.MethodName)) ∈ lw_all := lw_g (lw_at lw_m4 156 rfl) rfl
theorem q917 : (Jvm.Cond.code ({ cls := "PageBanks", name := "isWeak", desc := "(I)Z" } : Jvm.MethodName) prog_1_method_8_code (1 : Nat) (Option.some Jvm.ClassFile.FieldType.boolean)) ∈ lw_all := lw_g (lw_at lw_m4 157 rfl) rfl
theorem q922 : (Jvm.Cond.instanceMethod ({ cls := "PageBanks", name := "sell", desc := "(I)I" } : Jvm.MethodName)) ∈ lw_all := lw_g (lw_at lw_m4 162 rfl) rfl
theorem q923 : (Jvm.Cond.selects "PageBanks" ({ cls := "PageBanks", name := "sell", desc := "(I)I" } : Jvm.MethodName) ({ cls := "PageBanks", name := "sell", desc := "(I)I" } : Jvm.MethodName)) ∈ lw_all := lw_g (lw_at lw_m4 163 rfl) rfl
theorem q924 : (Jvm.Cond.code ({ cls := "PageBanks", name := "sell", desc := "(I)I" } : Jvm.MethodName) prog_1_method_23_code (4 : Nat) (Option.some Jvm.ClassFile.FieldType.int)) ∈ lw_all := lw_g (lw_at lw_m4 164 rfl) rfl
theorem q925 : (Jvm.Cond.methodLink "PageBanks" (284 : Nat) ({ cls := "PageBanks$Ring", name := "remove", desc := "(LPageBanks$Page;)V" } : Jvm.MethodName)) ∈ lw_all := lw_g (lw_at lw_m4 165 rfl) rfl
theorem q929 : (Jvm.Cond.methodLink "PageBanks" (286 : Nat) ({ cls := "PageBanks", name := "end", desc := "(LPageBanks$Page;)V" } : Jvm.MethodName)) ∈ lw_all := lw_g (lw_at lw_m4 169 rfl) rfl
theorem q930 : (Jvm.Cond.privateMethod ({ cls := "PageBanks", name := "end", desc := "(LPageBanks$Page;)V" } : Jvm.MethodName)) ∈ lw_tbl := lw_at lw_m4 170 rfl
theorem q931 : (Jvm.Cond.instanceMethod ({ cls := "PageBanks", name := "end", desc := "(LPageBanks$Page;)V" } : Jvm.MethodName)) ∈ lw_all := lw_g (lw_at lw_m4 171 rfl) rfl
theorem q932 : (Jvm.Cond.code ({ cls := "PageBanks", name := "end", desc := "(LPageBanks$Page;)V" } : Jvm.MethodName) prog_1_method_13_code (2 : Nat) (Option.none : Option Jvm.ClassFile.FieldType)) ∈ lw_all := lw_g (lw_at lw_m4 172 rfl) rfl
theorem q937 : (Jvm.Cond.instanceMethod ({ cls := "PageBanks", name := "weak", desc := "(I)I" } : Jvm.MethodName)) ∈ lw_all := lw_g (lw_at lw_m4 177 rfl) rfl
theorem q938 : (Jvm.Cond.selects "PageBanks" ({ cls := "PageBanks", name := "weak", desc := "(I)I" } : Jvm.MethodName) ({ cls := "PageBanks", name := "weak", desc := "(I)I" } : Jvm.MethodName)) ∈ lw_all := lw_g (lw_at lw_m4 178 rfl) rfl
theorem q939 : (Jvm.Cond.code ({ cls := "PageBanks", name := "weak", desc := "(I)I" } : Jvm.MethodName) prog_1_method_24_code (2 : Nat) (Option.some Jvm.ClassFile.FieldType.int)) ∈ lw_all := lw_g (lw_at lw_m4 179 rfl) rfl
theorem q944 : (Jvm.Cond.instanceMethod ({ cls := "PageBanks", name := "read", desc := "(II)I" } : Jvm.MethodName)) ∈ lw_all := lw_g (lw_at lw_m4 184 rfl) rfl
theorem q945 : (Jvm.Cond.selects "PageBanks" ({ cls := "PageBanks", name := "read", desc := "(II)I" } : Jvm.MethodName) ({ cls := "PageBanks", name := "read", desc := "(II)I" } : Jvm.MethodName)) ∈ lw_all := lw_g (lw_at lw_m4 185 rfl) rfl
theorem q946 : (Jvm.Cond.code ({ cls := "PageBanks", name := "read", desc := "(II)I" } : Jvm.MethodName) prog_1_method_25_code (4 : Nat) (Option.some Jvm.ClassFile.FieldType.int)) ∈ lw_all := lw_g (lw_at lw_m4 186 rfl) rfl
theorem q947 : (Jvm.Cond.methodLink "PageBanks" (289 : Nat) ({ cls := "PageBanks", name := "wantWord", desc := "(I)V" } : Jvm.MethodName)) ∈ lw_all := lw_g (lw_at lw_m4 187 rfl) rfl
theorem q948 : (Jvm.Cond.static ({ cls := "PageBanks", name := "wantWord", desc := "(I)V" } : Jvm.MethodName)) ∈ lw_all := lw_g (lw_at lw_m4 188 rfl) rfl
theorem q949 : (Jvm.Cond.code ({ cls := "PageBanks", name := "wantWord", desc := "(I)V" } : Jvm.MethodName) prog_1_method_10_code (1 : Nat) (Option.none : Option Jvm.ClassFile.FieldType)) ∈ lw_all := lw_g (lw_at lw_m4 189 rfl) rfl
theorem q954 : (Jvm.Cond.instanceMethod ({ cls := "PageBanks", name := "write", desc := "(III)I" } : Jvm.MethodName)) ∈ lw_all := lw_g (lw_at lw_m4 194 rfl) rfl
theorem q955 : (Jvm.Cond.selects "PageBanks" ({ cls := "PageBanks", name := "write", desc := "(III)I" } : Jvm.MethodName) ({ cls := "PageBanks", name := "write", desc := "(III)I" } : Jvm.MethodName)) ∈ lw_all := lw_g (lw_at lw_m4 195 rfl) rfl
theorem q956 : (Jvm.Cond.code ({ cls := "PageBanks", name := "write", desc := "(III)I" } : Jvm.MethodName) prog_1_method_26_code (6 : Nat) (Option.some Jvm.ClassFile.FieldType.int)) ∈ lw_all := lw_g (lw_at lw_m4 196 rfl) rfl
theorem q961 : (Jvm.Cond.instanceMethod ({ cls := "PageBanks", name := "move", desc := "(II)I" } : Jvm.MethodName)) ∈ lw_all := lw_g (lw_at lw_m4 201 rfl) rfl
theorem q962 : (Jvm.Cond.selects "PageBanks" ({ cls := "PageBanks", name := "move", desc := "(II)I" } : Jvm.MethodName) ({ cls := "PageBanks", name := "move", desc := "(II)I" } : Jvm.MethodName)) ∈ lw_all := lw_g (lw_at lw_m4 202 rfl) rfl
theorem q963 : (Jvm.Cond.codeWith ({ cls := "PageBanks", name := "move", desc := "(II)I" } : Jvm.MethodName) prog_1_method_27_code (8 : Nat) (Option.some Jvm.ClassFile.FieldType.int) [((28 : Nat), (43 : Nat), (62 : Nat), (0 : Nat)), ((62 : Nat), (64 : Nat), (62 : Nat), (0 : Nat))]) ∈ lw_all := lw_g (lw_at lw_m4 203 rfl) rfl
theorem q968 : (Jvm.Cond.instanceMethod ({ cls := "PageBanks", name := "limit", desc := "(II)I" } : Jvm.MethodName)) ∈ lw_all := lw_g (lw_at lw_m4 208 rfl) rfl
theorem q969 : (Jvm.Cond.selects "PageBanks" ({ cls := "PageBanks", name := "limit", desc := "(II)I" } : Jvm.MethodName) ({ cls := "PageBanks", name := "limit", desc := "(II)I" } : Jvm.MethodName)) ∈ lw_all := lw_g (lw_at lw_m4 209 rfl) rfl
theorem q970 : (Jvm.Cond.code ({ cls := "PageBanks", name := "limit", desc := "(II)I" } : Jvm.MethodName) prog_1_method_28_code (5 : Nat) (Option.some Jvm.ClassFile.FieldType.int)) ∈ lw_all := lw_g (lw_at lw_m4 210 rfl) rfl
theorem q971 : (Jvm.Cond.methodLink "PageBanks" (292 : Nat) ({ cls := "PageBanks$Bank", name := "isRoot", desc := "()Z" } : Jvm.MethodName)) ∈ lw_all := lw_g (lw_at lw_m4 211 rfl) rfl
theorem q976 : (Jvm.Cond.instanceMethod ({ cls := "PageBanks", name := "reserve", desc := "(II)I" } : Jvm.MethodName)) ∈ lw_all := lw_g (lw_at lw_m4 216 rfl) rfl
theorem q977 : (Jvm.Cond.selects "PageBanks" ({ cls := "PageBanks", name := "reserve", desc := "(II)I" } : Jvm.MethodName) ({ cls := "PageBanks", name := "reserve", desc := "(II)I" } : Jvm.MethodName)) ∈ lw_all := lw_g (lw_at lw_m4 217 rfl) rfl
theorem q978 : (Jvm.Cond.code ({ cls := "PageBanks", name := "reserve", desc := "(II)I" } : Jvm.MethodName) prog_1_method_29_code (4 : Nat) (Option.some Jvm.ClassFile.FieldType.int)) ∈ lw_all := lw_g (lw_at lw_m4 218 rfl) rfl
theorem q983 : (Jvm.Cond.instanceMethod ({ cls := "PageBanks", name := "unreserve", desc := "(II)I" } : Jvm.MethodName)) ∈ lw_all := lw_g (lw_at lw_m4 223 rfl) rfl
theorem q984 : (Jvm.Cond.selects "PageBanks" ({ cls := "PageBanks", name := "unreserve", desc := "(II)I" } : Jvm.MethodName) ({ cls := "PageBanks", name := "unreserve", desc := "(II)I" } : Jvm.MethodName)) ∈ lw_all := lw_g (lw_at lw_m4 224 rfl) rfl
theorem q985 : (Jvm.Cond.code ({ cls := "PageBanks", name := "unreserve", desc := "(II)I" } : Jvm.MethodName) prog_1_method_30_code (4 : Nat) (Option.some Jvm.ClassFile.FieldType.int)) ∈ lw_all := lw_g (lw_at lw_m4 225 rfl) rfl
theorem q990 : (Jvm.Cond.instanceMethod ({ cls := "PageBanks", name := "freeze", desc := "(IZ)Z" } : Jvm.MethodName)) ∈ lw_all := lw_g (lw_at lw_m4 230 rfl) rfl
theorem q991 : (Jvm.Cond.selects "PageBanks" ({ cls := "PageBanks", name := "freeze", desc := "(IZ)Z" } : Jvm.MethodName) ({ cls := "PageBanks", name := "freeze", desc := "(IZ)Z" } : Jvm.MethodName)) ∈ lw_all := lw_g (lw_at lw_m4 231 rfl) rfl
theorem q992 : (Jvm.Cond.code ({ cls := "PageBanks", name := "freeze", desc := "(IZ)Z" } : Jvm.MethodName) prog_1_method_31_code (5 : Nat) (Option.some Jvm.ClassFile.FieldType.boolean)) ∈ lw_all := lw_g (lw_at lw_m4 232 rfl) rfl
theorem q993 : (Jvm.Cond.fieldLink "PageBanks" (300 : Nat) "PageBanks$State" "FROZEN" "LPageBanks$State;") ∈ lw_all := lw_g (lw_at lw_m4 233 rfl) rfl
theorem q995 : (Jvm.Cond.fieldLink "PageBanks" (303 : Nat) "PageBanks$State" "LIVE" "LPageBanks$State;") ∈ lw_all := lw_g (lw_at lw_m4 235 rfl) rfl
theorem q1000 : (Jvm.Cond.instanceMethod ({ cls := "PageBanks", name := "destroy", desc := "(I)I" } : Jvm.MethodName)) ∈ lw_all := lw_g (lw_at lw_m5 0 rfl) rfl
theorem q1001 : (Jvm.Cond.selects "PageBanks" ({ cls := "PageBanks", name := "destroy", desc := "(I)I" } : Jvm.MethodName) ({ cls := "PageBanks", name := "destroy", desc := "(I)I" } : Jvm.MethodName)) ∈ lw_all := lw_g (lw_at lw_m5 1 rfl) rfl
theorem q1002 : (Jvm.Cond.code ({ cls := "PageBanks", name := "destroy", desc := "(I)I" } : Jvm.MethodName) prog_1_method_32_code (3 : Nat) (Option.some Jvm.ClassFile.FieldType.int)) ∈ lw_all := lw_g (lw_at lw_m5 2 rfl) rfl
theorem q1003 : (Jvm.Cond.methodLink "PageBanks" (257 : Nat) ({ cls := "PageBanks", name := "doom", desc := "(LPageBanks$Bank;)V" } : Jvm.MethodName)) ∈ lw_all := lw_g (lw_at lw_m5 3 rfl) rfl
theorem q1004 : (Jvm.Cond.privateMethod ({ cls := "PageBanks", name := "doom", desc := "(LPageBanks$Bank;)V" } : Jvm.MethodName)) ∈ lw_tbl := lw_at lw_m5 4 rfl
theorem q1005 : (Jvm.Cond.instanceMethod ({ cls := "PageBanks", name := "doom", desc := "(LPageBanks$Bank;)V" } : Jvm.MethodName)) ∈ lw_all := lw_g (lw_at lw_m5 5 rfl) rfl
theorem q1006 : (Jvm.Cond.code ({ cls := "PageBanks", name := "doom", desc := "(LPageBanks$Bank;)V" } : Jvm.MethodName) prog_1_method_18_code (3 : Nat) (Option.none : Option Jvm.ClassFile.FieldType)) ∈ lw_all := lw_g (lw_at lw_m5 6 rfl) rfl
theorem q1007 : (Jvm.Cond.fieldLink "PageBanks" (232 : Nat) "PageBanks$State" "DYING" "LPageBanks$State;") ∈ lw_all := lw_g (lw_at lw_m5 7 rfl) rfl
theorem q1008 : (Jvm.Cond.interfaceEntry "PageBanks" (254 : Nat)) ∈ lw_tbl := lw_at lw_m5 8 rfl
theorem q1009 : (Jvm.Cond.methodLink "PageBanks" (254 : Nat) ({ cls := "java/util/List", name := "size", desc := "()I" } : Jvm.MethodName)) ∈ lw_all := lw_g (lw_at lw_m5 9 rfl) rfl
theorem q1017 : (Jvm.Cond.interfaceEntry "PageBanks" (215 : Nat)) ∈ lw_tbl := lw_at lw_m5 17 rfl
theorem q1018 : (Jvm.Cond.methodLink "PageBanks" (215 : Nat) ({ cls := "java/util/List", name := "get", desc := "(I)Ljava/lang/Object;" } : Jvm.MethodName)) ∈ lw_all := lw_g (lw_at lw_m5 18 rfl) rfl
theorem q1036 : (Jvm.Cond.methodLink "PageBanks" (227 : Nat) ({ cls := "PageBanks$Bank", name := "isEmpty", desc := "()Z" } : Jvm.MethodName)) ∈ lw_all := lw_g (lw_at lw_m5 36 rfl) rfl
theorem q1049 : (Jvm.Cond.methodLink "PageBanks" (230 : Nat) ({ cls := "PageBanks", name := "remove", desc := "(LPageBanks$Bank;)V" } : Jvm.MethodName)) ∈ lw_all := lw_g (lw_at lw_m5 49 rfl) rfl
theorem q1050 : (Jvm.Cond.privateMethod ({ cls := "PageBanks", name := "remove", desc := "(LPageBanks$Bank;)V" } : Jvm.MethodName)) ∈ lw_tbl := lw_at lw_m5 50 rfl
theorem q1051 : (Jvm.Cond.instanceMethod ({ cls := "PageBanks", name := "remove", desc := "(LPageBanks$Bank;)V" } : Jvm.MethodName)) ∈ lw_all := lw_g (lw_at lw_m5 51 rfl) rfl
theorem q1052 : (Jvm.Cond.code ({ cls := "PageBanks", name := "remove", desc := "(LPageBanks$Bank;)V" } : Jvm.MethodName) prog_1_method_16_code (3 : Nat) (Option.none : Option Jvm.ClassFile.FieldType)) ∈ lw_all := lw_g (lw_at lw_m5 52 rfl) rfl
theorem q1053 : (Jvm.Cond.interfaceEntry "PageBanks" (221 : Nat)) ∈ lw_tbl := lw_at lw_m5 53 rfl
theorem q1054 : (Jvm.Cond.methodLink "PageBanks" (221 : Nat) ({ cls := "java/util/List", name := "remove", desc := "(I)Ljava/lang/Object;" } : Jvm.MethodName)) ∈ lw_all := lw_g (lw_at lw_m5 54 rfl) rfl
theorem q1071 : (Jvm.Cond.instanceMethod ({ cls := "PageBanks", name := "work", desc := "(I)I" } : Jvm.MethodName)) ∈ lw_all := lw_g (lw_at lw_m5 71 rfl) rfl
theorem q1072 : (Jvm.Cond.selects "PageBanks" ({ cls := "PageBanks", name := "work", desc := "(I)I" } : Jvm.MethodName) ({ cls := "PageBanks", name := "work", desc := "(I)I" } : Jvm.MethodName)) ∈ lw_all := lw_g (lw_at lw_m5 72 rfl) rfl
theorem q1073 : (Jvm.Cond.code ({ cls := "PageBanks", name := "work", desc := "(I)I" } : Jvm.MethodName) prog_1_method_33_code (5 : Nat) (Option.some Jvm.ClassFile.FieldType.int)) ∈ lw_all := lw_g (lw_at lw_m5 73 rfl) rfl
theorem q1074 : (Jvm.Cond.methodLink "PageBanks" (307 : Nat) ({ cls := "PageBanks", name := "reap", desc := "(LPageBanks$Bank;)V" } : Jvm.MethodName)) ∈ lw_all := lw_g (lw_at lw_m5 74 rfl) rfl
theorem q1075 : (Jvm.Cond.privateMethod ({ cls := "PageBanks", name := "reap", desc := "(LPageBanks$Bank;)V" } : Jvm.MethodName)) ∈ lw_tbl := lw_at lw_m5 75 rfl
theorem q1076 : (Jvm.Cond.instanceMethod ({ cls := "PageBanks", name := "reap", desc := "(LPageBanks$Bank;)V" } : Jvm.MethodName)) ∈ lw_all := lw_g (lw_at lw_m5 76 rfl) rfl
theorem q1077 : (Jvm.Cond.code ({ cls := "PageBanks", name := "reap", desc := "(LPageBanks$Bank;)V" } : Jvm.MethodName) prog_1_method_17_code (4 : Nat) (Option.none : Option Jvm.ClassFile.FieldType)) ∈ lw_all := lw_g (lw_at lw_m5 77 rfl) rfl
theorem q1082 : (Jvm.Cond.instanceMethod ({ cls := "PageBanks", name := "handUp", desc := "(I)I" } : Jvm.MethodName)) ∈ lw_all := lw_g (lw_at lw_m5 82 rfl) rfl
theorem q1083 : (Jvm.Cond.selects "PageBanks" ({ cls := "PageBanks", name := "handUp", desc := "(I)I" } : Jvm.MethodName) ({ cls := "PageBanks", name := "handUp", desc := "(I)I" } : Jvm.MethodName)) ∈ lw_all := lw_g (lw_at lw_m5 83 rfl) rfl
theorem q1084 : (Jvm.Cond.code ({ cls := "PageBanks", name := "handUp", desc := "(I)I" } : Jvm.MethodName) prog_1_method_34_code (7 : Nat) (Option.some Jvm.ClassFile.FieldType.int)) ∈ lw_all := lw_g (lw_at lw_m5 84 rfl) rfl
theorem q1085 : (Jvm.Cond.interfaceEntry "PageBanks" (312 : Nat)) ∈ lw_tbl := lw_at lw_m5 85 rfl
theorem q1086 : (Jvm.Cond.methodLink "PageBanks" (312 : Nat) ({ cls := "PageBanks$Walk", name := "remove", desc := "()V" } : Jvm.MethodName)) ∈ lw_all := lw_g (lw_at lw_m5 86 rfl) rfl
theorem q1099 : (Jvm.Cond.instanceMethod ({ cls := "PageBanks", name := "told", desc := "(II)I" } : Jvm.MethodName)) ∈ lw_all := lw_g (lw_at lw_m5 99 rfl) rfl
theorem q1100 : (Jvm.Cond.selects "PageBanks" ({ cls := "PageBanks", name := "told", desc := "(II)I" } : Jvm.MethodName) ({ cls := "PageBanks", name := "told", desc := "(II)I" } : Jvm.MethodName)) ∈ lw_all := lw_g (lw_at lw_m5 100 rfl) rfl
theorem q1101 : (Jvm.Cond.code ({ cls := "PageBanks", name := "told", desc := "(II)I" } : Jvm.MethodName) prog_1_method_35_code (4 : Nat) (Option.some Jvm.ClassFile.FieldType.int)) ∈ lw_all := lw_g (lw_at lw_m5 101 rfl) rfl
theorem q1102 : (Jvm.Cond.methodLink "PageBanks" (324 : Nat) ({ cls := "PageBanks$Bank", name := "told", desc := "(I)I" } : Jvm.MethodName)) ∈ lw_all := lw_g (lw_at lw_m5 102 rfl) rfl
theorem q1113 : (Jvm.Cond.instanceMethod ({ cls := "PageBanks", name := "page", desc := "(II)I" } : Jvm.MethodName)) ∈ lw_all := lw_g (lw_at lw_m5 113 rfl) rfl
theorem q1114 : (Jvm.Cond.selects "PageBanks" ({ cls := "PageBanks", name := "page", desc := "(II)I" } : Jvm.MethodName) ({ cls := "PageBanks", name := "page", desc := "(II)I" } : Jvm.MethodName)) ∈ lw_all := lw_g (lw_at lw_m5 114 rfl) rfl
theorem q1115 : (Jvm.Cond.code ({ cls := "PageBanks", name := "page", desc := "(II)I" } : Jvm.MethodName) prog_1_method_36_code (7 : Nat) (Option.some Jvm.ClassFile.FieldType.int)) ∈ lw_all := lw_g (lw_at lw_m5 115 rfl) rfl
theorem q1120 : (Jvm.Cond.instanceMethod ({ cls := "PageBanks", name := "owner", desc := "(I)I" } : Jvm.MethodName)) ∈ lw_all := lw_g (lw_at lw_m5 120 rfl) rfl
theorem q1121 : (Jvm.Cond.selects "PageBanks" ({ cls := "PageBanks", name := "owner", desc := "(I)I" } : Jvm.MethodName) ({ cls := "PageBanks", name := "owner", desc := "(I)I" } : Jvm.MethodName)) ∈ lw_all := lw_g (lw_at lw_m5 121 rfl) rfl
theorem q1122 : (Jvm.Cond.code ({ cls := "PageBanks", name := "owner", desc := "(I)I" } : Jvm.MethodName) prog_1_method_37_code (2 : Nat) (Option.some Jvm.ClassFile.FieldType.int)) ∈ lw_all := lw_g (lw_at lw_m5 122 rfl) rfl
theorem q1365 : (Jvm.Cond.castable "PageBanks" "java/lang/Object") ∈ lw_tbl := lw_at lw_m6 125 rfl
theorem in_X1 : ∀ w ∈ wsX10, w ∈ lw_all := lw_in wsX10 [321, 323, 325, 327, 329, 331, 333, 335, 337, 339, 341, 343, 345, 347] (by decide +kernel) (by decide +kernel)

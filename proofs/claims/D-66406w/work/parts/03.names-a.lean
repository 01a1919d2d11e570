/-! java/lang/Record -/
set_option maxRecDepth 100000
def RJ0 : String := "java/lang/Record"
abbrev cJ0_init : ByteArray := prog_31_method_1_code
def yJ0_init : MethodName := ⟨RJ0, "<init>", "()V"⟩
theorem dJ0_init_0 : decode cJ0_init 0 = .ok (.aload_n 0, 1) := by decide +kernel
theorem dJ0_init_1 : decode cJ0_init 1 = .ok (.invokespecial 1, 3) := by decide +kernel
theorem dJ0_init_4 : decode cJ0_init 4 = .ok (.return_, 1) := by decide +kernel
theorem q43 : (Jvm.Cond.initialized "java/lang/Record") ∈ lw_all := lw_g (lw_at lw_m1 3 rfl) rfl
theorem q113 : (Jvm.Cond.instanceMethod ({ cls := "java/lang/Record", name := "<init>", desc := "()V" } : Jvm.MethodName)) ∈ lw_all := lw_g (lw_at lw_m1 73 rfl) rfl
theorem q114 : (Jvm.Cond.code ({ cls := "java/lang/Record", name := "<init>", desc := "()V" } : Jvm.MethodName) prog_31_method_1_code (1 : Nat) (Option.none : Option Jvm.ClassFile.FieldType)) ∈ lw_all := lw_g (lw_at lw_m1 74 rfl) rfl
theorem q115 : (Jvm.Cond.methodLink "java/lang/Record" (1 : Nat) ({ cls := "java/lang/Object", name := "<init>", desc := "()V" } : Jvm.MethodName)) ∈ lw_all := lw_g (lw_at lw_m1 75 rfl) rfl

/-! java/lang/Enum -/
set_option maxRecDepth 100000
def RJ1 : String := "java/lang/Enum"
abbrev cJ1_ordinal : ByteArray := prog_22_method_2_code
def yJ1_ordinal : MethodName := ⟨RJ1, "ordinal", "()I"⟩
theorem dJ1_ordinal_0 : decode cJ1_ordinal 0 = .ok (.aload_n 0, 1) := by decide +kernel
theorem dJ1_ordinal_1 : decode cJ1_ordinal 1 = .ok (.getfield 7, 3) := by decide +kernel
theorem dJ1_ordinal_4 : decode cJ1_ordinal 4 = .ok (.ireturn, 1) := by decide +kernel
theorem q52 : (Jvm.Cond.initialized "java/lang/Enum") ∈ lw_all := lw_g (lw_at lw_m1 12 rfl) rfl
theorem q705 : (Jvm.Cond.declares ({ cls := "java/lang/Enum", name := "ordinal", desc := "()I" } : Jvm.MethodName)) ∈ lw_tbl := lw_at lw_m3 185 rfl
theorem q707 : (Jvm.Cond.instanceMethod ({ cls := "java/lang/Enum", name := "ordinal", desc := "()I" } : Jvm.MethodName)) ∈ lw_all := lw_g (lw_at lw_m3 187 rfl) rfl
theorem q708 : (Jvm.Cond.code ({ cls := "java/lang/Enum", name := "ordinal", desc := "()I" } : Jvm.MethodName) prog_22_method_2_code (1 : Nat) (Option.some Jvm.ClassFile.FieldType.int)) ∈ lw_all := lw_g (lw_at lw_m3 188 rfl) rfl
theorem q1398 : (Jvm.Cond.fieldLink "java/lang/Enum" (7 : Nat) "java/lang/Enum" "ordinal" "I") ∈ lw_all := lw_g (lw_at lw_m6 158 rfl) rfl

/-! java/lang/String -/
set_option maxRecDepth 100000
def RJ10 : String := "java/lang/String"
def TJ10 : u_T := fun k => match k with
  | 0 => ("java/lang/String", "value", "[B", true)
  | _ => ("java/lang/String", "coder", "B", true)
def tyJ10 : Nat → FieldType := fun k => match k with
  | 0 => .array .byte
  | _ => .byte
abbrev wsJ100 : List Cond := u_ws RJ10 TJ10 2
theorem nmJ10 : ∀ a, a < 2 → ∀ b, b < 2 → a ≠ b → (TJ10 a).2.1 ≠ (TJ10 b).2.1 := by decide +kernel
theorem tyJ10_ok : ∀ k, k < 2 → parseFieldDescriptor (TJ10 k).2.2.1 = some (tyJ10 k) := by decide +kernel
theorem q64 : (Jvm.Cond.initialized "java/lang/String") ∈ lw_all := lw_g (lw_at lw_m1 24 rfl) rfl
theorem q589 : (Jvm.Cond.instantiable "java/lang/String" (4 : Nat)) ∈ lw_all := lw_g (lw_at lw_m3 69 rfl) rfl
theorem q591 : (Jvm.Cond.laysFinal "java/lang/String" "java/lang/String" "value" "[B") ∈ lw_all := lw_g (lw_at lw_m3 71 rfl) rfl
theorem q592 : (Jvm.Cond.soleField "java/lang/String" "value") ∈ lw_all := lw_g (lw_at lw_m3 72 rfl) rfl
theorem q593 : (Jvm.Cond.laysFinal "java/lang/String" "java/lang/String" "coder" "B") ∈ lw_all := lw_g (lw_at lw_m3 73 rfl) rfl
theorem q594 : (Jvm.Cond.soleField "java/lang/String" "coder") ∈ lw_all := lw_g (lw_at lw_m3 74 rfl) rfl
theorem q1387 : (Jvm.Cond.castable "java/lang/String" "java/lang/Object") ∈ lw_tbl := lw_at lw_m6 147 rfl
theorem in_J10 : ∀ w ∈ wsJ100, w ∈ lw_all := lw_in wsJ100 [591, 593] (by decide +kernel) (by decide +kernel)

/-! java/lang/Math -/
set_option maxRecDepth 100000
def RJ11 : String := "java/lang/Math"
abbrev cJ11_min : ByteArray := prog_30_method_69_code
def yJ11_min : MethodName := ⟨RJ11, "min", "(II)I"⟩
def dkwJ11_min_0 : List UInt8 := [26, 27, 163, 0, 7, 26, 167, 0, 4, 27, 172]
abbrev dktJ11_min_0 : List UInt8 := dkwJ11_min_0 ++ []
theorem dksJ11_min_0 : cJ11_min.data.toList.drop 0 = dktJ11_min_0 := by decide +kernel
theorem dJ11_min_0 : decode cJ11_min 0 = .ok (.iload_n 0, 1) := dk_26 (dk_at dksJ11_min_0 0 rfl rfl)
theorem dJ11_min_1 : decode cJ11_min 1 = .ok (.iload_n 1, 1) := dk_27 (dk_at dksJ11_min_0 1 rfl rfl)
theorem dJ11_min_2 : decode cJ11_min 2 = .ok (.if_icmp .gt 7, 3) := dk_163 0 7 (dk_at dksJ11_min_0 2 rfl rfl)
theorem dJ11_min_5 : decode cJ11_min 5 = .ok (.iload_n 0, 1) := dk_26 (dk_at dksJ11_min_0 5 rfl rfl)
theorem dJ11_min_6 : decode cJ11_min 6 = .ok (.goto 4, 3) := dk_167 0 4 (dk_at dksJ11_min_0 6 rfl rfl)
theorem dJ11_min_9 : decode cJ11_min 9 = .ok (.iload_n 1, 1) := dk_27 (dk_at dksJ11_min_0 9 rfl rfl)
theorem dJ11_min_10 : decode cJ11_min 10 = .ok (.ireturn, 1) := dk_172 (dk_at dksJ11_min_0 10 rfl rfl)
abbrev cJ11_max : ByteArray := prog_30_method_65_code
def yJ11_max : MethodName := ⟨RJ11, "max", "(II)I"⟩
def dkwJ11_max_0 : List UInt8 := [26, 27, 161, 0, 7, 26, 167, 0, 4, 27, 172]
abbrev dktJ11_max_0 : List UInt8 := dkwJ11_max_0 ++ []
theorem dksJ11_max_0 : cJ11_max.data.toList.drop 0 = dktJ11_max_0 := by decide +kernel
theorem dJ11_max_0 : decode cJ11_max 0 = .ok (.iload_n 0, 1) := dk_26 (dk_at dksJ11_max_0 0 rfl rfl)
theorem dJ11_max_1 : decode cJ11_max 1 = .ok (.iload_n 1, 1) := dk_27 (dk_at dksJ11_max_0 1 rfl rfl)
theorem dJ11_max_2 : decode cJ11_max 2 = .ok (.if_icmp .lt 7, 3) := dk_161 0 7 (dk_at dksJ11_max_0 2 rfl rfl)
theorem dJ11_max_5 : decode cJ11_max 5 = .ok (.iload_n 0, 1) := dk_26 (dk_at dksJ11_max_0 5 rfl rfl)
theorem dJ11_max_6 : decode cJ11_max 6 = .ok (.goto 4, 3) := dk_167 0 4 (dk_at dksJ11_max_0 6 rfl rfl)
theorem dJ11_max_9 : decode cJ11_max 9 = .ok (.iload_n 1, 1) := dk_27 (dk_at dksJ11_max_0 9 rfl rfl)
theorem dJ11_max_10 : decode cJ11_max 10 = .ok (.ireturn, 1) := dk_172 (dk_at dksJ11_max_0 10 rfl rfl)
theorem q66 : (Jvm.Cond.initialized "java/lang/Math") ∈ lw_all := lw_g (lw_at lw_m1 26 rfl) rfl
theorem q662 : (Jvm.Cond.static ({ cls := "java/lang/Math", name := "min", desc := "(II)I" } : Jvm.MethodName)) ∈ lw_all := lw_g (lw_at lw_m3 142 rfl) rfl
theorem q663 : (Jvm.Cond.code ({ cls := "java/lang/Math", name := "min", desc := "(II)I" } : Jvm.MethodName) prog_30_method_69_code (2 : Nat) (Option.some Jvm.ClassFile.FieldType.int)) ∈ lw_all := lw_g (lw_at lw_m3 143 rfl) rfl
theorem q790 : (Jvm.Cond.static ({ cls := "java/lang/Math", name := "max", desc := "(II)I" } : Jvm.MethodName)) ∈ lw_all := lw_g (lw_at lw_m4 30 rfl) rfl
theorem q791 : (Jvm.Cond.code ({ cls := "java/lang/Math", name := "max", desc := "(II)I" } : Jvm.MethodName) prog_30_method_65_code (2 : Nat) (Option.some Jvm.ClassFile.FieldType.int)) ∈ lw_all := lw_g (lw_at lw_m4 31 rfl) rfl

/-! java/lang/IllegalArgumentException -/
set_option maxRecDepth 100000
def RJ12 : String := "java/lang/IllegalArgumentException"
def TJ12 : u_T := fun k => match k with
  | 0 => ("java/lang/Throwable", "cause", "Ljava/lang/Throwable;", false)
  | 1 => ("java/lang/Throwable", "stackTrace", "[Ljava/lang/StackTraceElement;", false)
  | 2 => ("java/lang/Throwable", "suppressedExceptions", "Ljava/util/List;", false)
  | 3 => ("java/lang/Throwable", "detailMessage", "Ljava/lang/String;", false)
  | 4 => ("java/lang/Throwable", "backtrace", "Ljava/lang/Object;", false)
  | _ => ("java/lang/Throwable", "depth", "I", false)
def tyJ12 : Nat → FieldType := fun k => match k with
  | 0 => .object "java/lang/Throwable"
  | 1 => .array (.object "java/lang/StackTraceElement")
  | 2 => .object "java/util/List"
  | 3 => .object "java/lang/String"
  | 4 => .object "java/lang/Object"
  | _ => .int
abbrev wsJ120 : List Cond := u_ws RJ12 TJ12 6
theorem nmJ12 : ∀ a, a < 6 → ∀ b, b < 6 → a ≠ b → (TJ12 a).2.1 ≠ (TJ12 b).2.1 := by decide +kernel
theorem tyJ12_ok : ∀ k, k < 6 → parseFieldDescriptor (TJ12 k).2.2.1 = some (tyJ12 k) := by decide +kernel
abbrev cJ12_init : ByteArray := prog_24_method_1_code
def yJ12_init : MethodName := ⟨RJ12, "<init>", "()V"⟩
theorem dJ12_init_0 : decode cJ12_init 0 = .ok (.aload_n 0, 1) := by decide +kernel
theorem dJ12_init_1 : decode cJ12_init 1 = .ok (.invokespecial 1, 3) := by decide +kernel
theorem dJ12_init_4 : decode cJ12_init 4 = .ok (.return_, 1) := by decide +kernel
theorem q67 : (Jvm.Cond.initialized "java/lang/IllegalArgumentException") ∈ lw_all := lw_g (lw_at lw_m1 27 rfl) rfl
theorem q466 : (Jvm.Cond.selects "java/lang/IllegalArgumentException" ({ cls := "java/lang/Throwable", name := "fillInStackTrace", desc := "()Ljava/lang/Throwable;" } : Jvm.MethodName) ({ cls := "java/lang/Throwable", name := "fillInStackTrace", desc := "()Ljava/lang/Throwable;" } : Jvm.MethodName)) ∈ lw_all := lw_g (lw_at lw_m2 186 rfl) rfl
theorem q710 : (Jvm.Cond.instantiable "java/lang/IllegalArgumentException" (6 : Nat)) ∈ lw_all := lw_g (lw_at lw_m3 190 rfl) rfl
theorem q711 : (Jvm.Cond.castable "java/lang/IllegalArgumentException" "java/lang/IllegalArgumentException") ∈ lw_tbl := lw_at lw_m3 191 rfl
theorem q712 : (Jvm.Cond.selects "java/lang/IllegalArgumentException" ({ cls := "java/lang/Throwable", name := "fillInStackTrace", desc := "(I)Ljava/lang/Throwable;" } : Jvm.MethodName) ({ cls := "java/lang/Throwable", name := "fillInStackTrace", desc := "(I)Ljava/lang/Throwable;" } : Jvm.MethodName)) ∈ lw_all := lw_g (lw_at lw_m3 192 rfl) rfl
theorem q713 : (Jvm.Cond.lays "java/lang/IllegalArgumentException" "java/lang/Throwable" "cause" "Ljava/lang/Throwable;") ∈ lw_all := lw_g (lw_at lw_m3 193 rfl) rfl
theorem q714 : (Jvm.Cond.lays "java/lang/IllegalArgumentException" "java/lang/Throwable" "stackTrace" "[Ljava/lang/StackTraceElement;") ∈ lw_all := lw_g (lw_at lw_m3 194 rfl) rfl
theorem q715 : (Jvm.Cond.lays "java/lang/IllegalArgumentException" "java/lang/Throwable" "suppressedExceptions" "Ljava/util/List;") ∈ lw_all := lw_g (lw_at lw_m3 195 rfl) rfl
theorem q716 : (Jvm.Cond.lays "java/lang/IllegalArgumentException" "java/lang/Throwable" "detailMessage" "Ljava/lang/String;") ∈ lw_all := lw_g (lw_at lw_m3 196 rfl) rfl
theorem q717 : (Jvm.Cond.lays "java/lang/IllegalArgumentException" "java/lang/Throwable" "backtrace" "Ljava/lang/Object;") ∈ lw_all := lw_g (lw_at lw_m3 197 rfl) rfl
theorem q719 : (Jvm.Cond.instanceMethod ({ cls := "java/lang/IllegalArgumentException", name := "<init>", desc := "()V" } : Jvm.MethodName)) ∈ lw_all := lw_g (lw_at lw_m3 199 rfl) rfl
theorem q720 : (Jvm.Cond.code ({ cls := "java/lang/IllegalArgumentException", name := "<init>", desc := "()V" } : Jvm.MethodName) prog_24_method_1_code (1 : Nat) (Option.none : Option Jvm.ClassFile.FieldType)) ∈ lw_all := lw_g (lw_at lw_m3 200 rfl) rfl
theorem q721 : (Jvm.Cond.methodLink "java/lang/IllegalArgumentException" (1 : Nat) ({ cls := "java/lang/RuntimeException", name := "<init>", desc := "()V" } : Jvm.MethodName)) ∈ lw_all := lw_g (lw_at lw_m3 201 rfl) rfl
theorem q722 : (Jvm.Cond.lays "java/lang/IllegalArgumentException" "java/lang/Throwable" "depth" "I") ∈ lw_all := lw_g (lw_at lw_m3 202 rfl) rfl
theorem q723 : (Jvm.Cond.superclass "java/lang/IllegalArgumentException" "java/lang/RuntimeException") ∈ lw_all := lw_g (lw_at lw_m3 203 rfl) rfl
theorem q818 : (Jvm.Cond.selects "java/lang/IllegalArgumentException" ({ cls := "java/lang/Object", name := "getClass", desc := "()Ljava/lang/Class;" } : Jvm.MethodName) ({ cls := "java/lang/Object", name := "getClass", desc := "()Ljava/lang/Class;" } : Jvm.MethodName)) ∈ lw_all := lw_g (lw_at lw_m4 58 rfl) rfl
theorem q1380 : (Jvm.Cond.castable "java/lang/IllegalArgumentException" "java/lang/Object") ∈ lw_tbl := lw_at lw_m6 140 rfl
theorem in_J12 : ∀ w ∈ wsJ120, w ∈ lw_all := lw_in wsJ120 [713, 714, 715, 716, 717, 722] (by decide +kernel) (by decide +kernel)

/-! java/lang/IllegalStateException -/
set_option maxRecDepth 100000
def RJ13 : String := "java/lang/IllegalStateException"
def TJ13 : u_T := fun k => match k with
  | 0 => ("java/lang/Throwable", "cause", "Ljava/lang/Throwable;", false)
  | 1 => ("java/lang/Throwable", "stackTrace", "[Ljava/lang/StackTraceElement;", false)
  | 2 => ("java/lang/Throwable", "suppressedExceptions", "Ljava/util/List;", false)
  | 3 => ("java/lang/Throwable", "detailMessage", "Ljava/lang/String;", false)
  | 4 => ("java/lang/Throwable", "backtrace", "Ljava/lang/Object;", false)
  | _ => ("java/lang/Throwable", "depth", "I", false)
def tyJ13 : Nat → FieldType := fun k => match k with
  | 0 => .object "java/lang/Throwable"
  | 1 => .array (.object "java/lang/StackTraceElement")
  | 2 => .object "java/util/List"
  | 3 => .object "java/lang/String"
  | 4 => .object "java/lang/Object"
  | _ => .int
abbrev wsJ130 : List Cond := u_ws RJ13 TJ13 6
theorem nmJ13 : ∀ a, a < 6 → ∀ b, b < 6 → a ≠ b → (TJ13 a).2.1 ≠ (TJ13 b).2.1 := by decide +kernel
theorem tyJ13_ok : ∀ k, k < 6 → parseFieldDescriptor (TJ13 k).2.2.1 = some (tyJ13 k) := by decide +kernel
abbrev cJ13_init : ByteArray := prog_25_method_1_code
def yJ13_init : MethodName := ⟨RJ13, "<init>", "()V"⟩
theorem dJ13_init_0 : decode cJ13_init 0 = .ok (.aload_n 0, 1) := by decide +kernel
theorem dJ13_init_1 : decode cJ13_init 1 = .ok (.invokespecial 1, 3) := by decide +kernel
theorem dJ13_init_4 : decode cJ13_init 4 = .ok (.return_, 1) := by decide +kernel
theorem q68 : (Jvm.Cond.initialized "java/lang/IllegalStateException") ∈ lw_all := lw_g (lw_at lw_m1 28 rfl) rfl
theorem q467 : (Jvm.Cond.selects "java/lang/IllegalStateException" ({ cls := "java/lang/Throwable", name := "fillInStackTrace", desc := "()Ljava/lang/Throwable;" } : Jvm.MethodName) ({ cls := "java/lang/Throwable", name := "fillInStackTrace", desc := "()Ljava/lang/Throwable;" } : Jvm.MethodName)) ∈ lw_all := lw_g (lw_at lw_m2 187 rfl) rfl
theorem q725 : (Jvm.Cond.instantiable "java/lang/IllegalStateException" (6 : Nat)) ∈ lw_all := lw_g (lw_at lw_m3 205 rfl) rfl
theorem q726 : (Jvm.Cond.castable "java/lang/IllegalStateException" "java/lang/IllegalStateException") ∈ lw_tbl := lw_at lw_m3 206 rfl
theorem q727 : (Jvm.Cond.selects "java/lang/IllegalStateException" ({ cls := "java/lang/Throwable", name := "fillInStackTrace", desc := "(I)Ljava/lang/Throwable;" } : Jvm.MethodName) ({ cls := "java/lang/Throwable", name := "fillInStackTrace", desc := "(I)Ljava/lang/Throwable;" } : Jvm.MethodName)) ∈ lw_all := lw_g (lw_at lw_m3 207 rfl) rfl
theorem q728 : (Jvm.Cond.lays "java/lang/IllegalStateException" "java/lang/Throwable" "cause" "Ljava/lang/Throwable;") ∈ lw_all := lw_g (lw_at lw_m3 208 rfl) rfl
theorem q729 : (Jvm.Cond.lays "java/lang/IllegalStateException" "java/lang/Throwable" "stackTrace" "[Ljava/lang/StackTraceElement;") ∈ lw_all := lw_g (lw_at lw_m3 209 rfl) rfl
theorem q730 : (Jvm.Cond.lays "java/lang/IllegalStateException" "java/lang/Throwable" "suppressedExceptions" "Ljava/util/List;") ∈ lw_all := lw_g (lw_at lw_m3 210 rfl) rfl
theorem q731 : (Jvm.Cond.lays "java/lang/IllegalStateException" "java/lang/Throwable" "detailMessage" "Ljava/lang/String;") ∈ lw_all := lw_g (lw_at lw_m3 211 rfl) rfl
theorem q732 : (Jvm.Cond.lays "java/lang/IllegalStateException" "java/lang/Throwable" "backtrace" "Ljava/lang/Object;") ∈ lw_all := lw_g (lw_at lw_m3 212 rfl) rfl
theorem q734 : (Jvm.Cond.instanceMethod ({ cls := "java/lang/IllegalStateException", name := "<init>", desc := "()V" } : Jvm.MethodName)) ∈ lw_all := lw_g (lw_at lw_m3 214 rfl) rfl
theorem q735 : (Jvm.Cond.code ({ cls := "java/lang/IllegalStateException", name := "<init>", desc := "()V" } : Jvm.MethodName) prog_25_method_1_code (1 : Nat) (Option.none : Option Jvm.ClassFile.FieldType)) ∈ lw_all := lw_g (lw_at lw_m3 215 rfl) rfl
theorem q736 : (Jvm.Cond.methodLink "java/lang/IllegalStateException" (1 : Nat) ({ cls := "java/lang/RuntimeException", name := "<init>", desc := "()V" } : Jvm.MethodName)) ∈ lw_all := lw_g (lw_at lw_m3 216 rfl) rfl
theorem q737 : (Jvm.Cond.lays "java/lang/IllegalStateException" "java/lang/Throwable" "depth" "I") ∈ lw_all := lw_g (lw_at lw_m3 217 rfl) rfl
theorem q738 : (Jvm.Cond.superclass "java/lang/IllegalStateException" "java/lang/RuntimeException") ∈ lw_all := lw_g (lw_at lw_m3 218 rfl) rfl
theorem q819 : (Jvm.Cond.selects "java/lang/IllegalStateException" ({ cls := "java/lang/Object", name := "getClass", desc := "()Ljava/lang/Class;" } : Jvm.MethodName) ({ cls := "java/lang/Object", name := "getClass", desc := "()Ljava/lang/Class;" } : Jvm.MethodName)) ∈ lw_all := lw_g (lw_at lw_m4 59 rfl) rfl
theorem q1381 : (Jvm.Cond.castable "java/lang/IllegalStateException" "java/lang/Object") ∈ lw_tbl := lw_at lw_m6 141 rfl
theorem in_J13 : ∀ w ∈ wsJ130, w ∈ lw_all := lw_in wsJ130 [728, 729, 730, 731, 732, 737] (by decide +kernel) (by decide +kernel)

/-! java/lang/UnsupportedOperationException -/
set_option maxRecDepth 100000
def RJ14 : String := "java/lang/UnsupportedOperationException"
def TJ14 : u_T := fun k => match k with
  | 0 => ("java/lang/Throwable", "cause", "Ljava/lang/Throwable;", false)
  | 1 => ("java/lang/Throwable", "stackTrace", "[Ljava/lang/StackTraceElement;", false)
  | 2 => ("java/lang/Throwable", "suppressedExceptions", "Ljava/util/List;", false)
  | 3 => ("java/lang/Throwable", "detailMessage", "Ljava/lang/String;", false)
  | 4 => ("java/lang/Throwable", "backtrace", "Ljava/lang/Object;", false)
  | _ => ("java/lang/Throwable", "depth", "I", false)
def tyJ14 : Nat → FieldType := fun k => match k with
  | 0 => .object "java/lang/Throwable"
  | 1 => .array (.object "java/lang/StackTraceElement")
  | 2 => .object "java/util/List"
  | 3 => .object "java/lang/String"
  | 4 => .object "java/lang/Object"
  | _ => .int
abbrev wsJ140 : List Cond := u_ws RJ14 TJ14 6
theorem nmJ14 : ∀ a, a < 6 → ∀ b, b < 6 → a ≠ b → (TJ14 a).2.1 ≠ (TJ14 b).2.1 := by decide +kernel
theorem tyJ14_ok : ∀ k, k < 6 → parseFieldDescriptor (TJ14 k).2.2.1 = some (tyJ14 k) := by decide +kernel
abbrev cJ14_init : ByteArray := prog_36_method_1_code
def yJ14_init : MethodName := ⟨RJ14, "<init>", "()V"⟩
theorem dJ14_init_0 : decode cJ14_init 0 = .ok (.aload_n 0, 1) := by decide +kernel
theorem dJ14_init_1 : decode cJ14_init 1 = .ok (.invokespecial 1, 3) := by decide +kernel
theorem dJ14_init_4 : decode cJ14_init 4 = .ok (.return_, 1) := by decide +kernel
theorem q69 : (Jvm.Cond.initialized "java/lang/UnsupportedOperationException") ∈ lw_all := lw_g (lw_at lw_m1 29 rfl) rfl
theorem q469 : (Jvm.Cond.selects "java/lang/UnsupportedOperationException" ({ cls := "java/lang/Throwable", name := "fillInStackTrace", desc := "()Ljava/lang/Throwable;" } : Jvm.MethodName) ({ cls := "java/lang/Throwable", name := "fillInStackTrace", desc := "()Ljava/lang/Throwable;" } : Jvm.MethodName)) ∈ lw_all := lw_g (lw_at lw_m2 189 rfl) rfl
theorem q745 : (Jvm.Cond.instantiable "java/lang/UnsupportedOperationException" (6 : Nat)) ∈ lw_all := lw_g (lw_at lw_m3 225 rfl) rfl
theorem q746 : (Jvm.Cond.castable "java/lang/UnsupportedOperationException" "java/lang/UnsupportedOperationException") ∈ lw_tbl := lw_at lw_m3 226 rfl
theorem q747 : (Jvm.Cond.selects "java/lang/UnsupportedOperationException" ({ cls := "java/lang/Throwable", name := "fillInStackTrace", desc := "(I)Ljava/lang/Throwable;" } : Jvm.MethodName) ({ cls := "java/lang/Throwable", name := "fillInStackTrace", desc := "(I)Ljava/lang/Throwable;" } : Jvm.MethodName)) ∈ lw_all := lw_g (lw_at lw_m3 227 rfl) rfl
theorem q748 : (Jvm.Cond.lays "java/lang/UnsupportedOperationException" "java/lang/Throwable" "cause" "Ljava/lang/Throwable;") ∈ lw_all := lw_g (lw_at lw_m3 228 rfl) rfl
theorem q749 : (Jvm.Cond.lays "java/lang/UnsupportedOperationException" "java/lang/Throwable" "stackTrace" "[Ljava/lang/StackTraceElement;") ∈ lw_all := lw_g (lw_at lw_m3 229 rfl) rfl
theorem q750 : (Jvm.Cond.lays "java/lang/UnsupportedOperationException" "java/lang/Throwable" "suppressedExceptions" "Ljava/util/List;") ∈ lw_all := lw_g (lw_at lw_m3 230 rfl) rfl
theorem q751 : (Jvm.Cond.lays "java/lang/UnsupportedOperationException" "java/lang/Throwable" "detailMessage" "Ljava/lang/String;") ∈ lw_all := lw_g (lw_at lw_m3 231 rfl) rfl
theorem q752 : (Jvm.Cond.lays "java/lang/UnsupportedOperationException" "java/lang/Throwable" "backtrace" "Ljava/lang/Object;") ∈ lw_all := lw_g (lw_at lw_m3 232 rfl) rfl
theorem q754 : (Jvm.Cond.instanceMethod ({ cls := "java/lang/UnsupportedOperationException", name := "<init>", desc := "()V" } : Jvm.MethodName)) ∈ lw_all := lw_g (lw_at lw_m3 234 rfl) rfl
theorem q755 : (Jvm.Cond.code ({ cls := "java/lang/UnsupportedOperationException", name := "<init>", desc := "()V" } : Jvm.MethodName) prog_36_method_1_code (1 : Nat) (Option.none : Option Jvm.ClassFile.FieldType)) ∈ lw_all := lw_g (lw_at lw_m3 235 rfl) rfl
theorem q756 : (Jvm.Cond.methodLink "java/lang/UnsupportedOperationException" (1 : Nat) ({ cls := "java/lang/RuntimeException", name := "<init>", desc := "()V" } : Jvm.MethodName)) ∈ lw_all := lw_g (lw_at lw_m3 236 rfl) rfl
theorem q757 : (Jvm.Cond.lays "java/lang/UnsupportedOperationException" "java/lang/Throwable" "depth" "I") ∈ lw_all := lw_g (lw_at lw_m3 237 rfl) rfl
theorem q758 : (Jvm.Cond.superclass "java/lang/UnsupportedOperationException" "java/lang/RuntimeException") ∈ lw_all := lw_g (lw_at lw_m3 238 rfl) rfl
theorem q821 : (Jvm.Cond.selects "java/lang/UnsupportedOperationException" ({ cls := "java/lang/Object", name := "getClass", desc := "()Ljava/lang/Class;" } : Jvm.MethodName) ({ cls := "java/lang/Object", name := "getClass", desc := "()Ljava/lang/Class;" } : Jvm.MethodName)) ∈ lw_all := lw_g (lw_at lw_m4 61 rfl) rfl
theorem q1382 : (Jvm.Cond.castable "java/lang/UnsupportedOperationException" "java/lang/Object") ∈ lw_tbl := lw_at lw_m6 142 rfl
theorem in_J14 : ∀ w ∈ wsJ140, w ∈ lw_all := lw_in wsJ140 [748, 749, 750, 751, 752, 757] (by decide +kernel) (by decide +kernel)

/-! jdk/internal/util/ArraysSupport -/
set_option maxRecDepth 100000
def RJ15 : String := "jdk/internal/util/ArraysSupport"
abbrev cJ15_newLength : ByteArray := prog_49_method_27_code
def yJ15_newLength : MethodName := ⟨RJ15, "newLength", "(III)I"⟩
def dkwJ15_newLength_1 : List UInt8 := [184, 0, 201, 172]
abbrev dktJ15_newLength_1 : List UInt8 := dkwJ15_newLength_1 ++ []
def dkwJ15_newLength_0 : List UInt8 := [26, 27, 28, 184, 0, 194, 96, 62, 3, 29, 162, 0, 11, 29, 18, 200, 163, 0, 5, 29, 172, 26, 27]
abbrev dktJ15_newLength_0 : List UInt8 := dkwJ15_newLength_0 ++ dktJ15_newLength_1
theorem dksJ15_newLength_0 : cJ15_newLength.data.toList.drop 0 = dktJ15_newLength_0 := by decide +kernel
theorem dksJ15_newLength_1 : cJ15_newLength.data.toList.drop 23 = dktJ15_newLength_1 := dk_seg dksJ15_newLength_0 23 rfl rfl
theorem dJ15_newLength_0 : decode cJ15_newLength 0 = .ok (.iload_n 0, 1) := dk_26 (dk_at dksJ15_newLength_0 0 rfl rfl)
theorem dJ15_newLength_1 : decode cJ15_newLength 1 = .ok (.iload_n 1, 1) := dk_27 (dk_at dksJ15_newLength_0 1 rfl rfl)
theorem dJ15_newLength_2 : decode cJ15_newLength 2 = .ok (.iload_n 2, 1) := dk_28 (dk_at dksJ15_newLength_0 2 rfl rfl)
theorem dJ15_newLength_3 : decode cJ15_newLength 3 = .ok (.invokestatic 194, 3) := dk_184 0 194 (dk_at dksJ15_newLength_0 3 rfl rfl)
theorem dJ15_newLength_6 : decode cJ15_newLength 6 = .ok (.iadd, 1) := dk_96 (dk_at dksJ15_newLength_0 6 rfl rfl)
theorem dJ15_newLength_7 : decode cJ15_newLength 7 = .ok (.istore_n 3, 1) := dk_62 (dk_at dksJ15_newLength_0 7 rfl rfl)
theorem dJ15_newLength_8 : decode cJ15_newLength 8 = .ok (.iconst 0, 1) := dk_3 (dk_at dksJ15_newLength_0 8 rfl rfl)
theorem dJ15_newLength_9 : decode cJ15_newLength 9 = .ok (.iload_n 3, 1) := dk_29 (dk_at dksJ15_newLength_0 9 rfl rfl)
theorem dJ15_newLength_10 : decode cJ15_newLength 10 = .ok (.if_icmp .ge 11, 3) := dk_162 0 11 (dk_at dksJ15_newLength_0 10 rfl rfl)
theorem dJ15_newLength_13 : decode cJ15_newLength 13 = .ok (.iload_n 3, 1) := dk_29 (dk_at dksJ15_newLength_0 13 rfl rfl)
theorem dJ15_newLength_14 : decode cJ15_newLength 14 = .ok (.ldc 200, 2) := dk_18 200 (dk_at dksJ15_newLength_0 14 rfl rfl)
theorem dJ15_newLength_16 : decode cJ15_newLength 16 = .ok (.if_icmp .gt 5, 3) := dk_163 0 5 (dk_at dksJ15_newLength_0 16 rfl rfl)
theorem dJ15_newLength_19 : decode cJ15_newLength 19 = .ok (.iload_n 3, 1) := dk_29 (dk_at dksJ15_newLength_0 19 rfl rfl)
theorem dJ15_newLength_20 : decode cJ15_newLength 20 = .ok (.ireturn, 1) := dk_172 (dk_at dksJ15_newLength_0 20 rfl rfl)
theorem dJ15_newLength_21 : decode cJ15_newLength 21 = .ok (.iload_n 0, 1) := dk_26 (dk_at dksJ15_newLength_0 21 rfl rfl)
theorem dJ15_newLength_22 : decode cJ15_newLength 22 = .ok (.iload_n 1, 1) := dk_27 (dk_at dksJ15_newLength_0 22 rfl rfl)
theorem dJ15_newLength_23 : decode cJ15_newLength 23 = .ok (.invokestatic 201, 3) := dk_184 0 201 (dk_at dksJ15_newLength_1 0 rfl rfl)
theorem dJ15_newLength_26 : decode cJ15_newLength 26 = .ok (.ireturn, 1) := dk_172 (dk_at dksJ15_newLength_1 3 rfl rfl)
abbrev cJ15_hugeLength : ByteArray := prog_49_method_28_code
def yJ15_hugeLength : MethodName := ⟨RJ15, "hugeLength", "(II)I"⟩
def dkwJ15_hugeLength_2 : List UInt8 := [191, 28, 18, 200, 163, 0, 6, 18, 200, 172, 28, 172]
abbrev dktJ15_hugeLength_2 : List UInt8 := dkwJ15_hugeLength_2 ++ []
def dkwJ15_hugeLength_1 : List UInt8 := [26, 182, 0, 98, 18, 208, 182, 0, 94, 27, 182, 0, 98, 18, 210, 182, 0, 94, 182, 0, 101, 183, 0, 212]
abbrev dktJ15_hugeLength_1 : List UInt8 := dkwJ15_hugeLength_1 ++ dktJ15_hugeLength_2
def dkwJ15_hugeLength_0 : List UInt8 := [26, 27, 96, 61, 28, 156, 0, 44, 187, 0, 204, 89, 187, 0, 89, 89, 183, 0, 91, 18, 206, 182, 0, 94]
abbrev dktJ15_hugeLength_0 : List UInt8 := dkwJ15_hugeLength_0 ++ dktJ15_hugeLength_1
theorem dksJ15_hugeLength_0 : cJ15_hugeLength.data.toList.drop 0 = dktJ15_hugeLength_0 := by decide +kernel
theorem dksJ15_hugeLength_1 : cJ15_hugeLength.data.toList.drop 24 = dktJ15_hugeLength_1 := dk_seg dksJ15_hugeLength_0 24 rfl rfl
theorem dksJ15_hugeLength_2 : cJ15_hugeLength.data.toList.drop 48 = dktJ15_hugeLength_2 := dk_seg dksJ15_hugeLength_1 24 rfl rfl
theorem dJ15_hugeLength_0 : decode cJ15_hugeLength 0 = .ok (.iload_n 0, 1) := dk_26 (dk_at dksJ15_hugeLength_0 0 rfl rfl)
theorem dJ15_hugeLength_1 : decode cJ15_hugeLength 1 = .ok (.iload_n 1, 1) := dk_27 (dk_at dksJ15_hugeLength_0 1 rfl rfl)
theorem dJ15_hugeLength_2 : decode cJ15_hugeLength 2 = .ok (.iadd, 1) := dk_96 (dk_at dksJ15_hugeLength_0 2 rfl rfl)
theorem dJ15_hugeLength_3 : decode cJ15_hugeLength 3 = .ok (.istore_n 2, 1) := dk_61 (dk_at dksJ15_hugeLength_0 3 rfl rfl)
theorem dJ15_hugeLength_4 : decode cJ15_hugeLength 4 = .ok (.iload_n 2, 1) := dk_28 (dk_at dksJ15_hugeLength_0 4 rfl rfl)
theorem dJ15_hugeLength_5 : decode cJ15_hugeLength 5 = .ok (.ifCond .ge 44, 3) := dk_156 0 44 (dk_at dksJ15_hugeLength_0 5 rfl rfl)
theorem dJ15_hugeLength_8 : decode cJ15_hugeLength 8 = .ok (.new 204, 3) := dk_187 0 204 (dk_at dksJ15_hugeLength_0 8 rfl rfl)
theorem dJ15_hugeLength_11 : decode cJ15_hugeLength 11 = .ok (.dup, 1) := dk_89 (dk_at dksJ15_hugeLength_0 11 rfl rfl)
theorem dJ15_hugeLength_12 : decode cJ15_hugeLength 12 = .ok (.new 89, 3) := dk_187 0 89 (dk_at dksJ15_hugeLength_0 12 rfl rfl)
theorem dJ15_hugeLength_15 : decode cJ15_hugeLength 15 = .ok (.dup, 1) := dk_89 (dk_at dksJ15_hugeLength_0 15 rfl rfl)
theorem dJ15_hugeLength_16 : decode cJ15_hugeLength 16 = .ok (.invokespecial 91, 3) := dk_183 0 91 (dk_at dksJ15_hugeLength_0 16 rfl rfl)
theorem dJ15_hugeLength_19 : decode cJ15_hugeLength 19 = .ok (.ldc 206, 2) := dk_18 206 (dk_at dksJ15_hugeLength_0 19 rfl rfl)
theorem dJ15_hugeLength_21 : decode cJ15_hugeLength 21 = .ok (.invokevirtual 94, 3) := dk_182 0 94 (dk_at dksJ15_hugeLength_0 21 rfl rfl)
theorem dJ15_hugeLength_24 : decode cJ15_hugeLength 24 = .ok (.iload_n 0, 1) := dk_26 (dk_at dksJ15_hugeLength_1 0 rfl rfl)
theorem dJ15_hugeLength_25 : decode cJ15_hugeLength 25 = .ok (.invokevirtual 98, 3) := dk_182 0 98 (dk_at dksJ15_hugeLength_1 1 rfl rfl)
theorem dJ15_hugeLength_28 : decode cJ15_hugeLength 28 = .ok (.ldc 208, 2) := dk_18 208 (dk_at dksJ15_hugeLength_1 4 rfl rfl)
theorem dJ15_hugeLength_30 : decode cJ15_hugeLength 30 = .ok (.invokevirtual 94, 3) := dk_182 0 94 (dk_at dksJ15_hugeLength_1 6 rfl rfl)
theorem dJ15_hugeLength_33 : decode cJ15_hugeLength 33 = .ok (.iload_n 1, 1) := dk_27 (dk_at dksJ15_hugeLength_1 9 rfl rfl)
theorem dJ15_hugeLength_34 : decode cJ15_hugeLength 34 = .ok (.invokevirtual 98, 3) := dk_182 0 98 (dk_at dksJ15_hugeLength_1 10 rfl rfl)
theorem dJ15_hugeLength_37 : decode cJ15_hugeLength 37 = .ok (.ldc 210, 2) := dk_18 210 (dk_at dksJ15_hugeLength_1 13 rfl rfl)
theorem dJ15_hugeLength_39 : decode cJ15_hugeLength 39 = .ok (.invokevirtual 94, 3) := dk_182 0 94 (dk_at dksJ15_hugeLength_1 15 rfl rfl)
theorem dJ15_hugeLength_42 : decode cJ15_hugeLength 42 = .ok (.invokevirtual 101, 3) := dk_182 0 101 (dk_at dksJ15_hugeLength_1 18 rfl rfl)
theorem dJ15_hugeLength_45 : decode cJ15_hugeLength 45 = .ok (.invokespecial 212, 3) := dk_183 0 212 (dk_at dksJ15_hugeLength_1 21 rfl rfl)
theorem dJ15_hugeLength_48 : decode cJ15_hugeLength 48 = .ok (.athrow, 1) := dk_191 (dk_at dksJ15_hugeLength_2 0 rfl rfl)
theorem dJ15_hugeLength_49 : decode cJ15_hugeLength 49 = .ok (.iload_n 2, 1) := dk_28 (dk_at dksJ15_hugeLength_2 1 rfl rfl)
theorem dJ15_hugeLength_50 : decode cJ15_hugeLength 50 = .ok (.ldc 200, 2) := dk_18 200 (dk_at dksJ15_hugeLength_2 2 rfl rfl)
theorem dJ15_hugeLength_52 : decode cJ15_hugeLength 52 = .ok (.if_icmp .gt 6, 3) := dk_163 0 6 (dk_at dksJ15_hugeLength_2 4 rfl rfl)
theorem dJ15_hugeLength_55 : decode cJ15_hugeLength 55 = .ok (.ldc 200, 2) := dk_18 200 (dk_at dksJ15_hugeLength_2 7 rfl rfl)
theorem dJ15_hugeLength_57 : decode cJ15_hugeLength 57 = .ok (.ireturn, 1) := dk_172 (dk_at dksJ15_hugeLength_2 9 rfl rfl)
theorem dJ15_hugeLength_58 : decode cJ15_hugeLength 58 = .ok (.iload_n 2, 1) := dk_28 (dk_at dksJ15_hugeLength_2 10 rfl rfl)
theorem dJ15_hugeLength_59 : decode cJ15_hugeLength 59 = .ok (.ireturn, 1) := dk_172 (dk_at dksJ15_hugeLength_2 11 rfl rfl)
theorem q70 : (Jvm.Cond.initialized "jdk/internal/util/ArraysSupport") ∈ lw_all := lw_g (lw_at lw_m1 30 rfl) rfl
theorem q787 : (Jvm.Cond.static ({ cls := "jdk/internal/util/ArraysSupport", name := "newLength", desc := "(III)I" } : Jvm.MethodName)) ∈ lw_all := lw_g (lw_at lw_m4 27 rfl) rfl
theorem q788 : (Jvm.Cond.code ({ cls := "jdk/internal/util/ArraysSupport", name := "newLength", desc := "(III)I" } : Jvm.MethodName) prog_49_method_27_code (4 : Nat) (Option.some Jvm.ClassFile.FieldType.int)) ∈ lw_all := lw_g (lw_at lw_m4 28 rfl) rfl
theorem q789 : (Jvm.Cond.methodLink "jdk/internal/util/ArraysSupport" (194 : Nat) ({ cls := "java/lang/Math", name := "max", desc := "(II)I" } : Jvm.MethodName)) ∈ lw_all := lw_g (lw_at lw_m4 29 rfl) rfl
theorem q792 : (Jvm.Cond.constant "jdk/internal/util/ArraysSupport" (200 : Nat) (2147483639 : Int32)) ∈ lw_all := lw_g (lw_at lw_m4 32 rfl) rfl
theorem q793 : (Jvm.Cond.methodLink "jdk/internal/util/ArraysSupport" (201 : Nat) ({ cls := "jdk/internal/util/ArraysSupport", name := "hugeLength", desc := "(II)I" } : Jvm.MethodName)) ∈ lw_all := lw_g (lw_at lw_m4 33 rfl) rfl
theorem q794 : (Jvm.Cond.static ({ cls := "jdk/internal/util/ArraysSupport", name := "hugeLength", desc := "(II)I" } : Jvm.MethodName)) ∈ lw_all := lw_g (lw_at lw_m4 34 rfl) rfl
theorem q795 : (Jvm.Cond.code ({ cls := "jdk/internal/util/ArraysSupport", name := "hugeLength", desc := "(II)I" } : Jvm.MethodName) prog_49_method_28_code (3 : Nat) (Option.some Jvm.ClassFile.FieldType.int)) ∈ lw_all := lw_g (lw_at lw_m4 35 rfl) rfl

/-! java/util/Arrays -/
set_option maxRecDepth 100000
def RJ16 : String := "java/util/Arrays"
abbrev cJ16_copyOf : ByteArray := prog_41_method_119_code
def yJ16_copyOf : MethodName := ⟨RJ16, "copyOf", "([Ljava/lang/Object;I)[Ljava/lang/Object;"⟩
def dkwJ16_copyOf_0 : List UInt8 := [42, 27, 42, 182, 0, 86, 184, 1, 44, 176]
abbrev dktJ16_copyOf_0 : List UInt8 := dkwJ16_copyOf_0 ++ []
theorem dksJ16_copyOf_0 : cJ16_copyOf.data.toList.drop 0 = dktJ16_copyOf_0 := by decide +kernel
theorem dJ16_copyOf_0 : decode cJ16_copyOf 0 = .ok (.aload_n 0, 1) := dk_42 (dk_at dksJ16_copyOf_0 0 rfl rfl)
theorem dJ16_copyOf_1 : decode cJ16_copyOf 1 = .ok (.iload_n 1, 1) := dk_27 (dk_at dksJ16_copyOf_0 1 rfl rfl)
theorem dJ16_copyOf_2 : decode cJ16_copyOf 2 = .ok (.aload_n 0, 1) := dk_42 (dk_at dksJ16_copyOf_0 2 rfl rfl)
theorem dJ16_copyOf_3 : decode cJ16_copyOf 3 = .ok (.invokevirtual 86, 3) := dk_182 0 86 (dk_at dksJ16_copyOf_0 3 rfl rfl)
theorem dJ16_copyOf_6 : decode cJ16_copyOf 6 = .ok (.invokestatic 300, 3) := dk_184 1 44 (dk_at dksJ16_copyOf_0 6 rfl rfl)
theorem dJ16_copyOf_9 : decode cJ16_copyOf 9 = .ok (.areturn, 1) := dk_176 (dk_at dksJ16_copyOf_0 9 rfl rfl)
abbrev cJ16_copyOf_2 : ByteArray := prog_41_method_120_code
def yJ16_copyOf_2 : MethodName := ⟨RJ16, "copyOf", "([Ljava/lang/Object;ILjava/lang/Class;)[Ljava/lang/Object;"⟩
def dkwJ16_copyOf_2_1 : List UInt8 := [78, 42, 3, 45, 3, 42, 190, 27, 184, 1, 48, 184, 0, 150, 45, 176]
abbrev dktJ16_copyOf_2_1 : List UInt8 := dkwJ16_copyOf_2_1 ++ []
def dkwJ16_copyOf_2_0 : List UInt8 := [44, 18, 110, 166, 0, 10, 27, 189, 0, 2, 167, 0, 14, 44, 182, 0, 90, 27, 184, 0, 95, 192, 0, 110]
abbrev dktJ16_copyOf_2_0 : List UInt8 := dkwJ16_copyOf_2_0 ++ dktJ16_copyOf_2_1
theorem dksJ16_copyOf_2_0 : cJ16_copyOf_2.data.toList.drop 0 = dktJ16_copyOf_2_0 := by decide +kernel
theorem dksJ16_copyOf_2_1 : cJ16_copyOf_2.data.toList.drop 24 = dktJ16_copyOf_2_1 := dk_seg dksJ16_copyOf_2_0 24 rfl rfl
theorem dJ16_copyOf_2_0 : decode cJ16_copyOf_2 0 = .ok (.aload_n 2, 1) := dk_44 (dk_at dksJ16_copyOf_2_0 0 rfl rfl)
theorem dJ16_copyOf_2_1 : decode cJ16_copyOf_2 1 = .ok (.ldc 110, 2) := dk_18 110 (dk_at dksJ16_copyOf_2_0 1 rfl rfl)
theorem dJ16_copyOf_2_3 : decode cJ16_copyOf_2 3 = .ok (.if_acmp .ne 10, 3) := dk_166 0 10 (dk_at dksJ16_copyOf_2_0 3 rfl rfl)
theorem dJ16_copyOf_2_6 : decode cJ16_copyOf_2 6 = .ok (.iload_n 1, 1) := dk_27 (dk_at dksJ16_copyOf_2_0 6 rfl rfl)
theorem dJ16_copyOf_2_7 : decode cJ16_copyOf_2 7 = .ok (.anewarray 2, 3) := dk_189 0 2 (dk_at dksJ16_copyOf_2_0 7 rfl rfl)
theorem dJ16_copyOf_2_10 : decode cJ16_copyOf_2 10 = .ok (.goto 14, 3) := dk_167 0 14 (dk_at dksJ16_copyOf_2_0 10 rfl rfl)
theorem dJ16_copyOf_2_13 : decode cJ16_copyOf_2 13 = .ok (.aload_n 2, 1) := dk_44 (dk_at dksJ16_copyOf_2_0 13 rfl rfl)
theorem dJ16_copyOf_2_14 : decode cJ16_copyOf_2 14 = .ok (.invokevirtual 90, 3) := dk_182 0 90 (dk_at dksJ16_copyOf_2_0 14 rfl rfl)
theorem dJ16_copyOf_2_17 : decode cJ16_copyOf_2 17 = .ok (.iload_n 1, 1) := dk_27 (dk_at dksJ16_copyOf_2_0 17 rfl rfl)
theorem dJ16_copyOf_2_18 : decode cJ16_copyOf_2 18 = .ok (.invokestatic 95, 3) := dk_184 0 95 (dk_at dksJ16_copyOf_2_0 18 rfl rfl)
theorem dJ16_copyOf_2_21 : decode cJ16_copyOf_2 21 = .ok (.checkcast 110, 3) := dk_192 0 110 (dk_at dksJ16_copyOf_2_0 21 rfl rfl)
theorem dJ16_copyOf_2_24 : decode cJ16_copyOf_2 24 = .ok (.astore_n 3, 1) := dk_78 (dk_at dksJ16_copyOf_2_1 0 rfl rfl)
theorem dJ16_copyOf_2_25 : decode cJ16_copyOf_2 25 = .ok (.aload_n 0, 1) := dk_42 (dk_at dksJ16_copyOf_2_1 1 rfl rfl)
theorem dJ16_copyOf_2_26 : decode cJ16_copyOf_2 26 = .ok (.iconst 0, 1) := dk_3 (dk_at dksJ16_copyOf_2_1 2 rfl rfl)
theorem dJ16_copyOf_2_27 : decode cJ16_copyOf_2 27 = .ok (.aload_n 3, 1) := dk_45 (dk_at dksJ16_copyOf_2_1 3 rfl rfl)
theorem dJ16_copyOf_2_28 : decode cJ16_copyOf_2 28 = .ok (.iconst 0, 1) := dk_3 (dk_at dksJ16_copyOf_2_1 4 rfl rfl)
theorem dJ16_copyOf_2_29 : decode cJ16_copyOf_2 29 = .ok (.aload_n 0, 1) := dk_42 (dk_at dksJ16_copyOf_2_1 5 rfl rfl)
theorem dJ16_copyOf_2_30 : decode cJ16_copyOf_2 30 = .ok (.arraylength, 1) := dk_190 (dk_at dksJ16_copyOf_2_1 6 rfl rfl)
theorem dJ16_copyOf_2_31 : decode cJ16_copyOf_2 31 = .ok (.iload_n 1, 1) := dk_27 (dk_at dksJ16_copyOf_2_1 7 rfl rfl)
theorem dJ16_copyOf_2_32 : decode cJ16_copyOf_2 32 = .ok (.invokestatic 304, 3) := dk_184 1 48 (dk_at dksJ16_copyOf_2_1 8 rfl rfl)
theorem dJ16_copyOf_2_35 : decode cJ16_copyOf_2 35 = .ok (.invokestatic 150, 3) := dk_184 0 150 (dk_at dksJ16_copyOf_2_1 11 rfl rfl)
theorem dJ16_copyOf_2_38 : decode cJ16_copyOf_2 38 = .ok (.aload_n 3, 1) := dk_45 (dk_at dksJ16_copyOf_2_1 14 rfl rfl)
theorem dJ16_copyOf_2_39 : decode cJ16_copyOf_2 39 = .ok (.areturn, 1) := dk_176 (dk_at dksJ16_copyOf_2_1 15 rfl rfl)
theorem q71 : (Jvm.Cond.initialized "java/util/Arrays") ∈ lw_all := lw_g (lw_at lw_m1 31 rfl) rfl
theorem q797 : (Jvm.Cond.static ({ cls := "java/util/Arrays", name := "copyOf", desc := "([Ljava/lang/Object;I)[Ljava/lang/Object;" } : Jvm.MethodName)) ∈ lw_all := lw_g (lw_at lw_m4 37 rfl) rfl
theorem q798 : (Jvm.Cond.code ({ cls := "java/util/Arrays", name := "copyOf", desc := "([Ljava/lang/Object;I)[Ljava/lang/Object;" } : Jvm.MethodName) prog_41_method_119_code (2 : Nat) (Option.some (Jvm.ClassFile.FieldType.array (Jvm.ClassFile.FieldType.object "java/lang/Object")))) ∈ lw_all := lw_g (lw_at lw_m4 38 rfl) rfl
theorem q799 : (Jvm.Cond.methodLink "java/util/Arrays" (86 : Nat) ({ cls := "java/lang/Object", name := "getClass", desc := "()Ljava/lang/Class;" } : Jvm.MethodName)) ∈ lw_all := lw_g (lw_at lw_m4 39 rfl) rfl
theorem q826 : (Jvm.Cond.methodLink "java/util/Arrays" (300 : Nat) ({ cls := "java/util/Arrays", name := "copyOf", desc := "([Ljava/lang/Object;ILjava/lang/Class;)[Ljava/lang/Object;" } : Jvm.MethodName)) ∈ lw_all := lw_g (lw_at lw_m4 66 rfl) rfl
theorem q827 : (Jvm.Cond.static ({ cls := "java/util/Arrays", name := "copyOf", desc := "([Ljava/lang/Object;ILjava/lang/Class;)[Ljava/lang/Object;" } : Jvm.MethodName)) ∈ lw_all := lw_g (lw_at lw_m4 67 rfl) rfl
theorem q828 : (Jvm.Cond.code ({ cls := "java/util/Arrays", name := "copyOf", desc := "([Ljava/lang/Object;ILjava/lang/Class;)[Ljava/lang/Object;" } : Jvm.MethodName) prog_41_method_120_code (4 : Nat) (Option.some (Jvm.ClassFile.FieldType.array (Jvm.ClassFile.FieldType.object "java/lang/Object")))) ∈ lw_all := lw_g (lw_at lw_m4 68 rfl) rfl
theorem q829 : (Jvm.Cond.classLink "java/util/Arrays" (110 : Nat) "[Ljava/lang/Object;") ∈ lw_all := lw_g (lw_at lw_m4 69 rfl) rfl
theorem q831 : (Jvm.Cond.classLink "java/util/Arrays" (2 : Nat) "java/lang/Object") ∈ lw_all := lw_g (lw_at lw_m4 71 rfl) rfl
theorem q832 : (Jvm.Cond.methodLink "java/util/Arrays" (304 : Nat) ({ cls := "java/lang/Math", name := "min", desc := "(II)I" } : Jvm.MethodName)) ∈ lw_all := lw_g (lw_at lw_m4 72 rfl) rfl
theorem q833 : (Jvm.Cond.methodLink "java/util/Arrays" (150 : Nat) ({ cls := "java/lang/System", name := "arraycopy", desc := "(Ljava/lang/Object;ILjava/lang/Object;II)V" } : Jvm.MethodName)) ∈ lw_all := lw_g (lw_at lw_m4 73 rfl) rfl

/-! java/lang/Long -/
set_option maxRecDepth 100000
def RJ17 : String := "java/lang/Long"
abbrev cJ17_numberOfTrailingZeros : ByteArray := prog_29_method_49_code
def yJ17_numberOfTrailingZeros : MethodName := ⟨RJ17, "numberOfTrailingZeros", "(J)I"⟩
def dkwJ17_numberOfTrailingZeros_1 : List UInt8 := [184, 1, 55, 172]
abbrev dktJ17_numberOfTrailingZeros_1 : List UInt8 := dkwJ17_numberOfTrailingZeros_1 ++ []
def dkwJ17_numberOfTrailingZeros_0 : List UInt8 := [30, 136, 61, 28, 154, 0, 17, 16, 32, 30, 16, 32, 125, 136, 184, 1, 55, 96, 167, 0, 7, 28]
abbrev dktJ17_numberOfTrailingZeros_0 : List UInt8 := dkwJ17_numberOfTrailingZeros_0 ++ dktJ17_numberOfTrailingZeros_1
theorem dksJ17_numberOfTrailingZeros_0 : cJ17_numberOfTrailingZeros.data.toList.drop 0 = dktJ17_numberOfTrailingZeros_0 := by decide +kernel
theorem dksJ17_numberOfTrailingZeros_1 : cJ17_numberOfTrailingZeros.data.toList.drop 22 = dktJ17_numberOfTrailingZeros_1 := dk_seg dksJ17_numberOfTrailingZeros_0 22 rfl rfl
theorem dJ17_numberOfTrailingZeros_0 : decode cJ17_numberOfTrailingZeros 0 = .ok (.lload_n 0, 1) := dk_30 (dk_at dksJ17_numberOfTrailingZeros_0 0 rfl rfl)
theorem dJ17_numberOfTrailingZeros_1 : decode cJ17_numberOfTrailingZeros 1 = .ok (.l2i, 1) := dk_136 (dk_at dksJ17_numberOfTrailingZeros_0 1 rfl rfl)
theorem dJ17_numberOfTrailingZeros_2 : decode cJ17_numberOfTrailingZeros 2 = .ok (.istore_n 2, 1) := dk_61 (dk_at dksJ17_numberOfTrailingZeros_0 2 rfl rfl)
theorem dJ17_numberOfTrailingZeros_3 : decode cJ17_numberOfTrailingZeros 3 = .ok (.iload_n 2, 1) := dk_28 (dk_at dksJ17_numberOfTrailingZeros_0 3 rfl rfl)
theorem dJ17_numberOfTrailingZeros_4 : decode cJ17_numberOfTrailingZeros 4 = .ok (.ifCond .ne 17, 3) := dk_154 0 17 (dk_at dksJ17_numberOfTrailingZeros_0 4 rfl rfl)
theorem dJ17_numberOfTrailingZeros_7 : decode cJ17_numberOfTrailingZeros 7 = .ok (.bipush 32, 2) := dk_16 32 (dk_at dksJ17_numberOfTrailingZeros_0 7 rfl rfl)
theorem dJ17_numberOfTrailingZeros_9 : decode cJ17_numberOfTrailingZeros 9 = .ok (.lload_n 0, 1) := dk_30 (dk_at dksJ17_numberOfTrailingZeros_0 9 rfl rfl)
theorem dJ17_numberOfTrailingZeros_10 : decode cJ17_numberOfTrailingZeros 10 = .ok (.bipush 32, 2) := dk_16 32 (dk_at dksJ17_numberOfTrailingZeros_0 10 rfl rfl)
theorem dJ17_numberOfTrailingZeros_12 : decode cJ17_numberOfTrailingZeros 12 = .ok (.lushr, 1) := dk_125 (dk_at dksJ17_numberOfTrailingZeros_0 12 rfl rfl)
theorem dJ17_numberOfTrailingZeros_13 : decode cJ17_numberOfTrailingZeros 13 = .ok (.l2i, 1) := dk_136 (dk_at dksJ17_numberOfTrailingZeros_0 13 rfl rfl)
theorem dJ17_numberOfTrailingZeros_14 : decode cJ17_numberOfTrailingZeros 14 = .ok (.invokestatic 311, 3) := dk_184 1 55 (dk_at dksJ17_numberOfTrailingZeros_0 14 rfl rfl)
theorem dJ17_numberOfTrailingZeros_17 : decode cJ17_numberOfTrailingZeros 17 = .ok (.iadd, 1) := dk_96 (dk_at dksJ17_numberOfTrailingZeros_0 17 rfl rfl)
theorem dJ17_numberOfTrailingZeros_18 : decode cJ17_numberOfTrailingZeros 18 = .ok (.goto 7, 3) := dk_167 0 7 (dk_at dksJ17_numberOfTrailingZeros_0 18 rfl rfl)
theorem dJ17_numberOfTrailingZeros_21 : decode cJ17_numberOfTrailingZeros 21 = .ok (.iload_n 2, 1) := dk_28 (dk_at dksJ17_numberOfTrailingZeros_0 21 rfl rfl)
theorem dJ17_numberOfTrailingZeros_22 : decode cJ17_numberOfTrailingZeros 22 = .ok (.invokestatic 311, 3) := dk_184 1 55 (dk_at dksJ17_numberOfTrailingZeros_1 0 rfl rfl)
theorem dJ17_numberOfTrailingZeros_25 : decode cJ17_numberOfTrailingZeros 25 = .ok (.ireturn, 1) := dk_172 (dk_at dksJ17_numberOfTrailingZeros_1 3 rfl rfl)
theorem q73 : (Jvm.Cond.initialized "java/lang/Long") ∈ lw_all := lw_g (lw_at lw_m1 33 rfl) rfl
theorem q850 : (Jvm.Cond.static ({ cls := "java/lang/Long", name := "numberOfTrailingZeros", desc := "(J)I" } : Jvm.MethodName)) ∈ lw_all := lw_g (lw_at lw_m4 90 rfl) rfl
theorem q851 : (Jvm.Cond.code ({ cls := "java/lang/Long", name := "numberOfTrailingZeros", desc := "(J)I" } : Jvm.MethodName) prog_29_method_49_code (3 : Nat) (Option.some Jvm.ClassFile.FieldType.int)) ∈ lw_all := lw_g (lw_at lw_m4 91 rfl) rfl
theorem q852 : (Jvm.Cond.methodLink "java/lang/Long" (311 : Nat) ({ cls := "java/lang/Integer", name := "numberOfTrailingZeros", desc := "(I)I" } : Jvm.MethodName)) ∈ lw_all := lw_g (lw_at lw_m4 92 rfl) rfl

/-! java/lang/Integer -/
set_option maxRecDepth 100000
def RJ18 : String := "java/lang/Integer"
abbrev cJ18_numberOfTrailingZeros : ByteArray := prog_27_method_48_code
def yJ18_numberOfTrailingZeros : MethodName := ⟨RJ18, "numberOfTrailingZeros", "(I)I"⟩
def dkwJ18_numberOfTrailingZeros_3 : List UInt8 := [5, 124, 59, 27, 26, 4, 124, 96, 172]
abbrev dktJ18_numberOfTrailingZeros_3 : List UInt8 := dkwJ18_numberOfTrailingZeros_3 ++ []
def dkwJ18_numberOfTrailingZeros_2 : List UInt8 := [124, 59, 26, 16, 16, 164, 0, 10, 132, 1, 4, 26, 7, 124, 59, 26, 7, 164, 0, 10, 132, 1, 2, 26]
abbrev dktJ18_numberOfTrailingZeros_2 : List UInt8 := dkwJ18_numberOfTrailingZeros_2 ++ dktJ18_numberOfTrailingZeros_3
def dkwJ18_numberOfTrailingZeros_1 : List UInt8 := [164, 0, 11, 132, 1, 16, 26, 16, 16, 124, 59, 26, 17, 1, 0, 164, 0, 11, 132, 1, 8, 26, 16, 8]
abbrev dktJ18_numberOfTrailingZeros_1 : List UInt8 := dkwJ18_numberOfTrailingZeros_1 ++ dktJ18_numberOfTrailingZeros_2
def dkwJ18_numberOfTrailingZeros_0 : List UInt8 := [26, 2, 130, 26, 4, 100, 126, 59, 26, 157, 0, 8, 26, 16, 32, 126, 172, 4, 60, 26, 19, 1, 8]
abbrev dktJ18_numberOfTrailingZeros_0 : List UInt8 := dkwJ18_numberOfTrailingZeros_0 ++ dktJ18_numberOfTrailingZeros_1
theorem dksJ18_numberOfTrailingZeros_0 : cJ18_numberOfTrailingZeros.data.toList.drop 0 = dktJ18_numberOfTrailingZeros_0 := by decide +kernel
theorem dksJ18_numberOfTrailingZeros_1 : cJ18_numberOfTrailingZeros.data.toList.drop 23 = dktJ18_numberOfTrailingZeros_1 := dk_seg dksJ18_numberOfTrailingZeros_0 23 rfl rfl
theorem dksJ18_numberOfTrailingZeros_2 : cJ18_numberOfTrailingZeros.data.toList.drop 47 = dktJ18_numberOfTrailingZeros_2 := dk_seg dksJ18_numberOfTrailingZeros_1 24 rfl rfl
theorem dksJ18_numberOfTrailingZeros_3 : cJ18_numberOfTrailingZeros.data.toList.drop 71 = dktJ18_numberOfTrailingZeros_3 := dk_seg dksJ18_numberOfTrailingZeros_2 24 rfl rfl
theorem dJ18_numberOfTrailingZeros_0 : decode cJ18_numberOfTrailingZeros 0 = .ok (.iload_n 0, 1) := dk_26 (dk_at dksJ18_numberOfTrailingZeros_0 0 rfl rfl)
theorem dJ18_numberOfTrailingZeros_1 : decode cJ18_numberOfTrailingZeros 1 = .ok (.iconst (-1), 1) := dk_2 (dk_at dksJ18_numberOfTrailingZeros_0 1 rfl rfl)
theorem dJ18_numberOfTrailingZeros_2 : decode cJ18_numberOfTrailingZeros 2 = .ok (.ixor, 1) := dk_130 (dk_at dksJ18_numberOfTrailingZeros_0 2 rfl rfl)
theorem dJ18_numberOfTrailingZeros_3 : decode cJ18_numberOfTrailingZeros 3 = .ok (.iload_n 0, 1) := dk_26 (dk_at dksJ18_numberOfTrailingZeros_0 3 rfl rfl)
theorem dJ18_numberOfTrailingZeros_4 : decode cJ18_numberOfTrailingZeros 4 = .ok (.iconst 1, 1) := dk_4 (dk_at dksJ18_numberOfTrailingZeros_0 4 rfl rfl)
theorem dJ18_numberOfTrailingZeros_5 : decode cJ18_numberOfTrailingZeros 5 = .ok (.isub, 1) := dk_100 (dk_at dksJ18_numberOfTrailingZeros_0 5 rfl rfl)
theorem dJ18_numberOfTrailingZeros_6 : decode cJ18_numberOfTrailingZeros 6 = .ok (.iand, 1) := dk_126 (dk_at dksJ18_numberOfTrailingZeros_0 6 rfl rfl)
theorem dJ18_numberOfTrailingZeros_7 : decode cJ18_numberOfTrailingZeros 7 = .ok (.istore_n 0, 1) := dk_59 (dk_at dksJ18_numberOfTrailingZeros_0 7 rfl rfl)
theorem dJ18_numberOfTrailingZeros_8 : decode cJ18_numberOfTrailingZeros 8 = .ok (.iload_n 0, 1) := dk_26 (dk_at dksJ18_numberOfTrailingZeros_0 8 rfl rfl)
theorem dJ18_numberOfTrailingZeros_9 : decode cJ18_numberOfTrailingZeros 9 = .ok (.ifCond .gt 8, 3) := dk_157 0 8 (dk_at dksJ18_numberOfTrailingZeros_0 9 rfl rfl)
theorem dJ18_numberOfTrailingZeros_12 : decode cJ18_numberOfTrailingZeros 12 = .ok (.iload_n 0, 1) := dk_26 (dk_at dksJ18_numberOfTrailingZeros_0 12 rfl rfl)
theorem dJ18_numberOfTrailingZeros_13 : decode cJ18_numberOfTrailingZeros 13 = .ok (.bipush 32, 2) := dk_16 32 (dk_at dksJ18_numberOfTrailingZeros_0 13 rfl rfl)
theorem dJ18_numberOfTrailingZeros_15 : decode cJ18_numberOfTrailingZeros 15 = .ok (.iand, 1) := dk_126 (dk_at dksJ18_numberOfTrailingZeros_0 15 rfl rfl)
theorem dJ18_numberOfTrailingZeros_16 : decode cJ18_numberOfTrailingZeros 16 = .ok (.ireturn, 1) := dk_172 (dk_at dksJ18_numberOfTrailingZeros_0 16 rfl rfl)
theorem dJ18_numberOfTrailingZeros_17 : decode cJ18_numberOfTrailingZeros 17 = .ok (.iconst 1, 1) := dk_4 (dk_at dksJ18_numberOfTrailingZeros_0 17 rfl rfl)
theorem dJ18_numberOfTrailingZeros_18 : decode cJ18_numberOfTrailingZeros 18 = .ok (.istore_n 1, 1) := dk_60 (dk_at dksJ18_numberOfTrailingZeros_0 18 rfl rfl)
theorem dJ18_numberOfTrailingZeros_19 : decode cJ18_numberOfTrailingZeros 19 = .ok (.iload_n 0, 1) := dk_26 (dk_at dksJ18_numberOfTrailingZeros_0 19 rfl rfl)
theorem dJ18_numberOfTrailingZeros_20 : decode cJ18_numberOfTrailingZeros 20 = .ok (.ldc_w 264, 3) := dk_19 1 8 (dk_at dksJ18_numberOfTrailingZeros_0 20 rfl rfl)
theorem dJ18_numberOfTrailingZeros_23 : decode cJ18_numberOfTrailingZeros 23 = .ok (.if_icmp .le 11, 3) := dk_164 0 11 (dk_at dksJ18_numberOfTrailingZeros_1 0 rfl rfl)
theorem dJ18_numberOfTrailingZeros_26 : decode cJ18_numberOfTrailingZeros 26 = .ok (.iinc 1 16, 3) := dk_132 1 16 (dk_at dksJ18_numberOfTrailingZeros_1 3 rfl rfl)
theorem dJ18_numberOfTrailingZeros_29 : decode cJ18_numberOfTrailingZeros 29 = .ok (.iload_n 0, 1) := dk_26 (dk_at dksJ18_numberOfTrailingZeros_1 6 rfl rfl)
theorem dJ18_numberOfTrailingZeros_30 : decode cJ18_numberOfTrailingZeros 30 = .ok (.bipush 16, 2) := dk_16 16 (dk_at dksJ18_numberOfTrailingZeros_1 7 rfl rfl)
theorem dJ18_numberOfTrailingZeros_32 : decode cJ18_numberOfTrailingZeros 32 = .ok (.iushr, 1) := dk_124 (dk_at dksJ18_numberOfTrailingZeros_1 9 rfl rfl)
theorem dJ18_numberOfTrailingZeros_33 : decode cJ18_numberOfTrailingZeros 33 = .ok (.istore_n 0, 1) := dk_59 (dk_at dksJ18_numberOfTrailingZeros_1 10 rfl rfl)
theorem dJ18_numberOfTrailingZeros_34 : decode cJ18_numberOfTrailingZeros 34 = .ok (.iload_n 0, 1) := dk_26 (dk_at dksJ18_numberOfTrailingZeros_1 11 rfl rfl)
theorem dJ18_numberOfTrailingZeros_35 : decode cJ18_numberOfTrailingZeros 35 = .ok (.sipush 256, 3) := dk_17 1 0 (dk_at dksJ18_numberOfTrailingZeros_1 12 rfl rfl)
theorem dJ18_numberOfTrailingZeros_38 : decode cJ18_numberOfTrailingZeros 38 = .ok (.if_icmp .le 11, 3) := dk_164 0 11 (dk_at dksJ18_numberOfTrailingZeros_1 15 rfl rfl)
theorem dJ18_numberOfTrailingZeros_41 : decode cJ18_numberOfTrailingZeros 41 = .ok (.iinc 1 8, 3) := dk_132 1 8 (dk_at dksJ18_numberOfTrailingZeros_1 18 rfl rfl)
theorem dJ18_numberOfTrailingZeros_44 : decode cJ18_numberOfTrailingZeros 44 = .ok (.iload_n 0, 1) := dk_26 (dk_at dksJ18_numberOfTrailingZeros_1 21 rfl rfl)
theorem dJ18_numberOfTrailingZeros_45 : decode cJ18_numberOfTrailingZeros 45 = .ok (.bipush 8, 2) := dk_16 8 (dk_at dksJ18_numberOfTrailingZeros_1 22 rfl rfl)
theorem dJ18_numberOfTrailingZeros_47 : decode cJ18_numberOfTrailingZeros 47 = .ok (.iushr, 1) := dk_124 (dk_at dksJ18_numberOfTrailingZeros_2 0 rfl rfl)
theorem dJ18_numberOfTrailingZeros_48 : decode cJ18_numberOfTrailingZeros 48 = .ok (.istore_n 0, 1) := dk_59 (dk_at dksJ18_numberOfTrailingZeros_2 1 rfl rfl)
theorem dJ18_numberOfTrailingZeros_49 : decode cJ18_numberOfTrailingZeros 49 = .ok (.iload_n 0, 1) := dk_26 (dk_at dksJ18_numberOfTrailingZeros_2 2 rfl rfl)
theorem dJ18_numberOfTrailingZeros_50 : decode cJ18_numberOfTrailingZeros 50 = .ok (.bipush 16, 2) := dk_16 16 (dk_at dksJ18_numberOfTrailingZeros_2 3 rfl rfl)
theorem dJ18_numberOfTrailingZeros_52 : decode cJ18_numberOfTrailingZeros 52 = .ok (.if_icmp .le 10, 3) := dk_164 0 10 (dk_at dksJ18_numberOfTrailingZeros_2 5 rfl rfl)
theorem dJ18_numberOfTrailingZeros_55 : decode cJ18_numberOfTrailingZeros 55 = .ok (.iinc 1 4, 3) := dk_132 1 4 (dk_at dksJ18_numberOfTrailingZeros_2 8 rfl rfl)
theorem dJ18_numberOfTrailingZeros_58 : decode cJ18_numberOfTrailingZeros 58 = .ok (.iload_n 0, 1) := dk_26 (dk_at dksJ18_numberOfTrailingZeros_2 11 rfl rfl)
theorem dJ18_numberOfTrailingZeros_59 : decode cJ18_numberOfTrailingZeros 59 = .ok (.iconst 4, 1) := dk_7 (dk_at dksJ18_numberOfTrailingZeros_2 12 rfl rfl)
theorem dJ18_numberOfTrailingZeros_60 : decode cJ18_numberOfTrailingZeros 60 = .ok (.iushr, 1) := dk_124 (dk_at dksJ18_numberOfTrailingZeros_2 13 rfl rfl)
theorem dJ18_numberOfTrailingZeros_61 : decode cJ18_numberOfTrailingZeros 61 = .ok (.istore_n 0, 1) := dk_59 (dk_at dksJ18_numberOfTrailingZeros_2 14 rfl rfl)
theorem dJ18_numberOfTrailingZeros_62 : decode cJ18_numberOfTrailingZeros 62 = .ok (.iload_n 0, 1) := dk_26 (dk_at dksJ18_numberOfTrailingZeros_2 15 rfl rfl)
theorem dJ18_numberOfTrailingZeros_63 : decode cJ18_numberOfTrailingZeros 63 = .ok (.iconst 4, 1) := dk_7 (dk_at dksJ18_numberOfTrailingZeros_2 16 rfl rfl)
theorem dJ18_numberOfTrailingZeros_64 : decode cJ18_numberOfTrailingZeros 64 = .ok (.if_icmp .le 10, 3) := dk_164 0 10 (dk_at dksJ18_numberOfTrailingZeros_2 17 rfl rfl)
theorem dJ18_numberOfTrailingZeros_67 : decode cJ18_numberOfTrailingZeros 67 = .ok (.iinc 1 2, 3) := dk_132 1 2 (dk_at dksJ18_numberOfTrailingZeros_2 20 rfl rfl)
theorem dJ18_numberOfTrailingZeros_70 : decode cJ18_numberOfTrailingZeros 70 = .ok (.iload_n 0, 1) := dk_26 (dk_at dksJ18_numberOfTrailingZeros_2 23 rfl rfl)
theorem dJ18_numberOfTrailingZeros_71 : decode cJ18_numberOfTrailingZeros 71 = .ok (.iconst 2, 1) := dk_5 (dk_at dksJ18_numberOfTrailingZeros_3 0 rfl rfl)
theorem dJ18_numberOfTrailingZeros_72 : decode cJ18_numberOfTrailingZeros 72 = .ok (.iushr, 1) := dk_124 (dk_at dksJ18_numberOfTrailingZeros_3 1 rfl rfl)
theorem dJ18_numberOfTrailingZeros_73 : decode cJ18_numberOfTrailingZeros 73 = .ok (.istore_n 0, 1) := dk_59 (dk_at dksJ18_numberOfTrailingZeros_3 2 rfl rfl)
theorem dJ18_numberOfTrailingZeros_74 : decode cJ18_numberOfTrailingZeros 74 = .ok (.iload_n 1, 1) := dk_27 (dk_at dksJ18_numberOfTrailingZeros_3 3 rfl rfl)
theorem dJ18_numberOfTrailingZeros_75 : decode cJ18_numberOfTrailingZeros 75 = .ok (.iload_n 0, 1) := dk_26 (dk_at dksJ18_numberOfTrailingZeros_3 4 rfl rfl)
theorem dJ18_numberOfTrailingZeros_76 : decode cJ18_numberOfTrailingZeros 76 = .ok (.iconst 1, 1) := dk_4 (dk_at dksJ18_numberOfTrailingZeros_3 5 rfl rfl)
theorem dJ18_numberOfTrailingZeros_77 : decode cJ18_numberOfTrailingZeros 77 = .ok (.iushr, 1) := dk_124 (dk_at dksJ18_numberOfTrailingZeros_3 6 rfl rfl)
theorem dJ18_numberOfTrailingZeros_78 : decode cJ18_numberOfTrailingZeros 78 = .ok (.iadd, 1) := dk_96 (dk_at dksJ18_numberOfTrailingZeros_3 7 rfl rfl)
theorem dJ18_numberOfTrailingZeros_79 : decode cJ18_numberOfTrailingZeros 79 = .ok (.ireturn, 1) := dk_172 (dk_at dksJ18_numberOfTrailingZeros_3 8 rfl rfl)
theorem q74 : (Jvm.Cond.initialized "java/lang/Integer") ∈ lw_all := lw_g (lw_at lw_m1 34 rfl) rfl
theorem q853 : (Jvm.Cond.static ({ cls := "java/lang/Integer", name := "numberOfTrailingZeros", desc := "(I)I" } : Jvm.MethodName)) ∈ lw_all := lw_g (lw_at lw_m4 93 rfl) rfl
theorem q854 : (Jvm.Cond.code ({ cls := "java/lang/Integer", name := "numberOfTrailingZeros", desc := "(I)I" } : Jvm.MethodName) prog_27_method_48_code (2 : Nat) (Option.some Jvm.ClassFile.FieldType.int)) ∈ lw_all := lw_g (lw_at lw_m4 94 rfl) rfl
theorem q855 : (Jvm.Cond.constant "java/lang/Integer" (264 : Nat) (65536 : Int32)) ∈ lw_all := lw_g (lw_at lw_m4 95 rfl) rfl

/-! java/util/NoSuchElementException -/
set_option maxRecDepth 100000
def RJ19 : String := "java/util/NoSuchElementException"
def TJ19 : u_T := fun k => match k with
  | 0 => ("java/lang/Throwable", "cause", "Ljava/lang/Throwable;", false)
  | 1 => ("java/lang/Throwable", "stackTrace", "[Ljava/lang/StackTraceElement;", false)
  | 2 => ("java/lang/Throwable", "suppressedExceptions", "Ljava/util/List;", false)
  | 3 => ("java/lang/Throwable", "detailMessage", "Ljava/lang/String;", false)
  | 4 => ("java/lang/Throwable", "backtrace", "Ljava/lang/Object;", false)
  | _ => ("java/lang/Throwable", "depth", "I", false)
def tyJ19 : Nat → FieldType := fun k => match k with
  | 0 => .object "java/lang/Throwable"
  | 1 => .array (.object "java/lang/StackTraceElement")
  | 2 => .object "java/util/List"
  | 3 => .object "java/lang/String"
  | 4 => .object "java/lang/Object"
  | _ => .int
abbrev wsJ190 : List Cond := u_ws RJ19 TJ19 6
theorem nmJ19 : ∀ a, a < 6 → ∀ b, b < 6 → a ≠ b → (TJ19 a).2.1 ≠ (TJ19 b).2.1 := by decide +kernel
theorem tyJ19_ok : ∀ k, k < 6 → parseFieldDescriptor (TJ19 k).2.2.1 = some (tyJ19 k) := by decide +kernel
abbrev cJ19_init : ByteArray := prog_45_method_1_code
def yJ19_init : MethodName := ⟨RJ19, "<init>", "()V"⟩
theorem dJ19_init_0 : decode cJ19_init 0 = .ok (.aload_n 0, 1) := by decide +kernel
theorem dJ19_init_1 : decode cJ19_init 1 = .ok (.invokespecial 1, 3) := by decide +kernel
theorem dJ19_init_4 : decode cJ19_init 4 = .ok (.return_, 1) := by decide +kernel
theorem q75 : (Jvm.Cond.initialized "java/util/NoSuchElementException") ∈ lw_all := lw_g (lw_at lw_m1 35 rfl) rfl
theorem q433 : (Jvm.Cond.instantiable "java/util/NoSuchElementException" (6 : Nat)) ∈ lw_all := lw_g (lw_at lw_m2 153 rfl) rfl
theorem q434 : (Jvm.Cond.castable "java/util/NoSuchElementException" "java/util/NoSuchElementException") ∈ lw_tbl := lw_at lw_m2 154 rfl
theorem q441 : (Jvm.Cond.selects "java/util/NoSuchElementException" ({ cls := "java/lang/Throwable", name := "fillInStackTrace", desc := "(I)Ljava/lang/Throwable;" } : Jvm.MethodName) ({ cls := "java/lang/Throwable", name := "fillInStackTrace", desc := "(I)Ljava/lang/Throwable;" } : Jvm.MethodName)) ∈ lw_all := lw_g (lw_at lw_m2 161 rfl) rfl
theorem q442 : (Jvm.Cond.selects "java/util/NoSuchElementException" ({ cls := "java/lang/Throwable", name := "fillInStackTrace", desc := "()Ljava/lang/Throwable;" } : Jvm.MethodName) ({ cls := "java/lang/Throwable", name := "fillInStackTrace", desc := "()Ljava/lang/Throwable;" } : Jvm.MethodName)) ∈ lw_all := lw_g (lw_at lw_m2 162 rfl) rfl
theorem q443 : (Jvm.Cond.lays "java/util/NoSuchElementException" "java/lang/Throwable" "cause" "Ljava/lang/Throwable;") ∈ lw_all := lw_g (lw_at lw_m2 163 rfl) rfl
theorem q445 : (Jvm.Cond.lays "java/util/NoSuchElementException" "java/lang/Throwable" "stackTrace" "[Ljava/lang/StackTraceElement;") ∈ lw_all := lw_g (lw_at lw_m2 165 rfl) rfl
theorem q447 : (Jvm.Cond.lays "java/util/NoSuchElementException" "java/lang/Throwable" "suppressedExceptions" "Ljava/util/List;") ∈ lw_all := lw_g (lw_at lw_m2 167 rfl) rfl
theorem q449 : (Jvm.Cond.lays "java/util/NoSuchElementException" "java/lang/Throwable" "detailMessage" "Ljava/lang/String;") ∈ lw_all := lw_g (lw_at lw_m2 169 rfl) rfl
theorem q451 : (Jvm.Cond.lays "java/util/NoSuchElementException" "java/lang/Throwable" "backtrace" "Ljava/lang/Object;") ∈ lw_all := lw_g (lw_at lw_m2 171 rfl) rfl
theorem q477 : (Jvm.Cond.instanceMethod ({ cls := "java/util/NoSuchElementException", name := "<init>", desc := "()V" } : Jvm.MethodName)) ∈ lw_all := lw_g (lw_at lw_m2 197 rfl) rfl
theorem q478 : (Jvm.Cond.code ({ cls := "java/util/NoSuchElementException", name := "<init>", desc := "()V" } : Jvm.MethodName) prog_45_method_1_code (1 : Nat) (Option.none : Option Jvm.ClassFile.FieldType)) ∈ lw_all := lw_g (lw_at lw_m2 198 rfl) rfl
theorem q479 : (Jvm.Cond.methodLink "java/util/NoSuchElementException" (1 : Nat) ({ cls := "java/lang/RuntimeException", name := "<init>", desc := "()V" } : Jvm.MethodName)) ∈ lw_all := lw_g (lw_at lw_m2 199 rfl) rfl
theorem q495 : (Jvm.Cond.lays "java/util/NoSuchElementException" "java/lang/Throwable" "depth" "I") ∈ lw_all := lw_g (lw_at lw_m2 215 rfl) rfl
theorem q498 : (Jvm.Cond.superclass "java/util/NoSuchElementException" "java/lang/RuntimeException") ∈ lw_all := lw_g (lw_at lw_m2 218 rfl) rfl
theorem q824 : (Jvm.Cond.selects "java/util/NoSuchElementException" ({ cls := "java/lang/Object", name := "getClass", desc := "()Ljava/lang/Class;" } : Jvm.MethodName) ({ cls := "java/lang/Object", name := "getClass", desc := "()Ljava/lang/Class;" } : Jvm.MethodName)) ∈ lw_all := lw_g (lw_at lw_m4 64 rfl) rfl
theorem q1383 : (Jvm.Cond.castable "java/util/NoSuchElementException" "java/lang/Object") ∈ lw_tbl := lw_at lw_m6 143 rfl
theorem in_J19 : ∀ w ∈ wsJ190, w ∈ lw_all := lw_in wsJ190 [443, 445, 447, 449, 451, 495] (by decide +kernel) (by decide +kernel)

/-! java/util/AbstractCollection -/
set_option maxRecDepth 100000
def RJ2 : String := "java/util/AbstractCollection"
abbrev cJ2_init : ByteArray := prog_37_method_1_code
def yJ2_init : MethodName := ⟨RJ2, "<init>", "()V"⟩
theorem dJ2_init_0 : decode cJ2_init 0 = .ok (.aload_n 0, 1) := by decide +kernel
theorem dJ2_init_1 : decode cJ2_init 1 = .ok (.invokespecial 1, 3) := by decide +kernel
theorem dJ2_init_4 : decode cJ2_init 4 = .ok (.return_, 1) := by decide +kernel
theorem q55 : (Jvm.Cond.initialized "java/util/AbstractCollection") ∈ lw_all := lw_g (lw_at lw_m1 15 rfl) rfl
theorem q251 : (Jvm.Cond.instanceMethod ({ cls := "java/util/AbstractCollection", name := "<init>", desc := "()V" } : Jvm.MethodName)) ∈ lw_all := lw_g (lw_at lw_m1 211 rfl) rfl
theorem q252 : (Jvm.Cond.code ({ cls := "java/util/AbstractCollection", name := "<init>", desc := "()V" } : Jvm.MethodName) prog_37_method_1_code (1 : Nat) (Option.none : Option Jvm.ClassFile.FieldType)) ∈ lw_all := lw_g (lw_at lw_m1 212 rfl) rfl
theorem q253 : (Jvm.Cond.methodLink "java/util/AbstractCollection" (1 : Nat) ({ cls := "java/lang/Object", name := "<init>", desc := "()V" } : Jvm.MethodName)) ∈ lw_all := lw_g (lw_at lw_m1 213 rfl) rfl

/-! java/util/Objects -/
set_option maxRecDepth 100000
def RJ20 : String := "java/util/Objects"
abbrev cJ20_checkIndex : ByteArray := prog_46_method_17_code
def yJ20_checkIndex : MethodName := ⟨RJ20, "checkIndex", "(II)I"⟩
def dkwJ20_checkIndex_0 : List UInt8 := [26, 27, 1, 184, 0, 105, 172]
abbrev dktJ20_checkIndex_0 : List UInt8 := dkwJ20_checkIndex_0 ++ []
theorem dksJ20_checkIndex_0 : cJ20_checkIndex.data.toList.drop 0 = dktJ20_checkIndex_0 := by decide +kernel
theorem dJ20_checkIndex_0 : decode cJ20_checkIndex 0 = .ok (.iload_n 0, 1) := dk_26 (dk_at dksJ20_checkIndex_0 0 rfl rfl)
theorem dJ20_checkIndex_1 : decode cJ20_checkIndex 1 = .ok (.iload_n 1, 1) := dk_27 (dk_at dksJ20_checkIndex_0 1 rfl rfl)
theorem dJ20_checkIndex_2 : decode cJ20_checkIndex 2 = .ok (.aconst_null, 1) := dk_1 (dk_at dksJ20_checkIndex_0 2 rfl rfl)
theorem dJ20_checkIndex_3 : decode cJ20_checkIndex 3 = .ok (.invokestatic 105, 3) := dk_184 0 105 (dk_at dksJ20_checkIndex_0 3 rfl rfl)
theorem dJ20_checkIndex_6 : decode cJ20_checkIndex 6 = .ok (.ireturn, 1) := dk_172 (dk_at dksJ20_checkIndex_0 6 rfl rfl)
theorem q77 : (Jvm.Cond.initialized "java/util/Objects") ∈ lw_all := lw_g (lw_at lw_m1 37 rfl) rfl
theorem q1027 : (Jvm.Cond.static ({ cls := "java/util/Objects", name := "checkIndex", desc := "(II)I" } : Jvm.MethodName)) ∈ lw_all := lw_g (lw_at lw_m5 27 rfl) rfl
theorem q1028 : (Jvm.Cond.code ({ cls := "java/util/Objects", name := "checkIndex", desc := "(II)I" } : Jvm.MethodName) prog_46_method_17_code (2 : Nat) (Option.some Jvm.ClassFile.FieldType.int)) ∈ lw_all := lw_g (lw_at lw_m5 28 rfl) rfl
theorem q1029 : (Jvm.Cond.methodLink "java/util/Objects" (105 : Nat) ({ cls := "jdk/internal/util/Preconditions", name := "checkIndex", desc := "(IILjava/util/function/BiFunction;)I" } : Jvm.MethodName)) ∈ lw_all := lw_g (lw_at lw_m5 29 rfl) rfl

/-! jdk/internal/util/Preconditions -/
set_option maxRecDepth 100000
def RJ21 : String := "jdk/internal/util/Preconditions"
abbrev cJ21_checkIndex : ByteArray := prog_50_method_11_code
def yJ21_checkIndex : MethodName := ⟨RJ21, "checkIndex", "(IILjava/util/function/BiFunction;)I"⟩
def dkwJ21_checkIndex_0 : List UInt8 := [26, 155, 0, 8, 26, 27, 161, 0, 10, 44, 26, 27, 184, 0, 95, 191, 26, 172]
abbrev dktJ21_checkIndex_0 : List UInt8 := dkwJ21_checkIndex_0 ++ []
theorem dksJ21_checkIndex_0 : cJ21_checkIndex.data.toList.drop 0 = dktJ21_checkIndex_0 := by decide +kernel
theorem dJ21_checkIndex_0 : decode cJ21_checkIndex 0 = .ok (.iload_n 0, 1) := dk_26 (dk_at dksJ21_checkIndex_0 0 rfl rfl)
theorem dJ21_checkIndex_1 : decode cJ21_checkIndex 1 = .ok (.ifCond .lt 8, 3) := dk_155 0 8 (dk_at dksJ21_checkIndex_0 1 rfl rfl)
theorem dJ21_checkIndex_4 : decode cJ21_checkIndex 4 = .ok (.iload_n 0, 1) := dk_26 (dk_at dksJ21_checkIndex_0 4 rfl rfl)
theorem dJ21_checkIndex_5 : decode cJ21_checkIndex 5 = .ok (.iload_n 1, 1) := dk_27 (dk_at dksJ21_checkIndex_0 5 rfl rfl)
theorem dJ21_checkIndex_6 : decode cJ21_checkIndex 6 = .ok (.if_icmp .lt 10, 3) := dk_161 0 10 (dk_at dksJ21_checkIndex_0 6 rfl rfl)
theorem dJ21_checkIndex_9 : decode cJ21_checkIndex 9 = .ok (.aload_n 2, 1) := dk_44 (dk_at dksJ21_checkIndex_0 9 rfl rfl)
theorem dJ21_checkIndex_10 : decode cJ21_checkIndex 10 = .ok (.iload_n 0, 1) := dk_26 (dk_at dksJ21_checkIndex_0 10 rfl rfl)
theorem dJ21_checkIndex_11 : decode cJ21_checkIndex 11 = .ok (.iload_n 1, 1) := dk_27 (dk_at dksJ21_checkIndex_0 11 rfl rfl)
theorem dJ21_checkIndex_12 : decode cJ21_checkIndex 12 = .ok (.invokestatic 95, 3) := dk_184 0 95 (dk_at dksJ21_checkIndex_0 12 rfl rfl)
theorem dJ21_checkIndex_15 : decode cJ21_checkIndex 15 = .ok (.athrow, 1) := dk_191 (dk_at dksJ21_checkIndex_0 15 rfl rfl)
theorem dJ21_checkIndex_16 : decode cJ21_checkIndex 16 = .ok (.iload_n 0, 1) := dk_26 (dk_at dksJ21_checkIndex_0 16 rfl rfl)
theorem dJ21_checkIndex_17 : decode cJ21_checkIndex 17 = .ok (.ireturn, 1) := dk_172 (dk_at dksJ21_checkIndex_0 17 rfl rfl)
theorem q78 : (Jvm.Cond.initialized "jdk/internal/util/Preconditions") ∈ lw_all := lw_g (lw_at lw_m1 38 rfl) rfl
theorem q1030 : (Jvm.Cond.static ({ cls := "jdk/internal/util/Preconditions", name := "checkIndex", desc := "(IILjava/util/function/BiFunction;)I" } : Jvm.MethodName)) ∈ lw_all := lw_g (lw_at lw_m5 30 rfl) rfl
theorem q1031 : (Jvm.Cond.code ({ cls := "jdk/internal/util/Preconditions", name := "checkIndex", desc := "(IILjava/util/function/BiFunction;)I" } : Jvm.MethodName) prog_50_method_11_code (3 : Nat) (Option.some Jvm.ClassFile.FieldType.int)) ∈ lw_all := lw_g (lw_at lw_m5 31 rfl) rfl

/-! java/util/ArrayList$Itr -/
set_option maxRecDepth 100000
def RJ22 : String := "java/util/ArrayList$Itr"
def TJ22 : u_T := fun k => match k with
  | 0 => ("java/util/ArrayList$Itr", "cursor", "I", false)
  | 1 => ("java/util/ArrayList$Itr", "lastRet", "I", false)
  | 2 => ("java/util/ArrayList$Itr", "expectedModCount", "I", false)
  | _ => ("java/util/ArrayList$Itr", "this$0", "Ljava/util/ArrayList;", true)
def tyJ22 : Nat → FieldType := fun k => match k with
  | 0 => .int
  | 1 => .int
  | 2 => .int
  | _ => .object "java/util/ArrayList"
abbrev wsJ220 : List Cond := u_ws RJ22 TJ22 4
theorem nmJ22 : ∀ a, a < 4 → ∀ b, b < 4 → a ≠ b → (TJ22 a).2.1 ≠ (TJ22 b).2.1 := by decide +kernel
theorem tyJ22_ok : ∀ k, k < 4 → parseFieldDescriptor (TJ22 k).2.2.1 = some (tyJ22 k) := by decide +kernel
abbrev cJ22_init : ByteArray := prog_40_method_1_code
def yJ22_init : MethodName := ⟨RJ22, "<init>", "(Ljava/util/ArrayList;)V"⟩
def dkwJ22_init_1 : List UInt8 := [181, 0, 22, 177]
abbrev dktJ22_init_1 : List UInt8 := dkwJ22_init_1 ++ []
def dkwJ22_init_0 : List UInt8 := [42, 43, 181, 0, 1, 42, 183, 0, 7, 42, 2, 181, 0, 13, 42, 42, 180, 0, 1, 180, 0, 17]
abbrev dktJ22_init_0 : List UInt8 := dkwJ22_init_0 ++ dktJ22_init_1
theorem dksJ22_init_0 : cJ22_init.data.toList.drop 0 = dktJ22_init_0 := by decide +kernel
theorem dksJ22_init_1 : cJ22_init.data.toList.drop 22 = dktJ22_init_1 := dk_seg dksJ22_init_0 22 rfl rfl
theorem dJ22_init_0 : decode cJ22_init 0 = .ok (.aload_n 0, 1) := dk_42 (dk_at dksJ22_init_0 0 rfl rfl)
theorem dJ22_init_1 : decode cJ22_init 1 = .ok (.aload_n 1, 1) := dk_43 (dk_at dksJ22_init_0 1 rfl rfl)
theorem dJ22_init_2 : decode cJ22_init 2 = .ok (.putfield 1, 3) := dk_181 0 1 (dk_at dksJ22_init_0 2 rfl rfl)
theorem dJ22_init_5 : decode cJ22_init 5 = .ok (.aload_n 0, 1) := dk_42 (dk_at dksJ22_init_0 5 rfl rfl)
theorem dJ22_init_6 : decode cJ22_init 6 = .ok (.invokespecial 7, 3) := dk_183 0 7 (dk_at dksJ22_init_0 6 rfl rfl)
theorem dJ22_init_9 : decode cJ22_init 9 = .ok (.aload_n 0, 1) := dk_42 (dk_at dksJ22_init_0 9 rfl rfl)
theorem dJ22_init_10 : decode cJ22_init 10 = .ok (.iconst (-1), 1) := dk_2 (dk_at dksJ22_init_0 10 rfl rfl)
theorem dJ22_init_11 : decode cJ22_init 11 = .ok (.putfield 13, 3) := dk_181 0 13 (dk_at dksJ22_init_0 11 rfl rfl)
theorem dJ22_init_14 : decode cJ22_init 14 = .ok (.aload_n 0, 1) := dk_42 (dk_at dksJ22_init_0 14 rfl rfl)
theorem dJ22_init_15 : decode cJ22_init 15 = .ok (.aload_n 0, 1) := dk_42 (dk_at dksJ22_init_0 15 rfl rfl)
theorem dJ22_init_16 : decode cJ22_init 16 = .ok (.getfield 1, 3) := dk_180 0 1 (dk_at dksJ22_init_0 16 rfl rfl)
theorem dJ22_init_19 : decode cJ22_init 19 = .ok (.getfield 17, 3) := dk_180 0 17 (dk_at dksJ22_init_0 19 rfl rfl)
theorem dJ22_init_22 : decode cJ22_init 22 = .ok (.putfield 22, 3) := dk_181 0 22 (dk_at dksJ22_init_1 0 rfl rfl)
theorem dJ22_init_25 : decode cJ22_init 25 = .ok (.return_, 1) := dk_177 (dk_at dksJ22_init_1 3 rfl rfl)
abbrev cJ22_hasNext : ByteArray := prog_40_method_2_code
def yJ22_hasNext : MethodName := ⟨RJ22, "hasNext", "()Z"⟩
def dkwJ22_hasNext_0 : List UInt8 := [42, 180, 0, 25, 42, 180, 0, 1, 180, 0, 28, 159, 0, 7, 4, 167, 0, 4, 3, 172]
abbrev dktJ22_hasNext_0 : List UInt8 := dkwJ22_hasNext_0 ++ []
theorem dksJ22_hasNext_0 : cJ22_hasNext.data.toList.drop 0 = dktJ22_hasNext_0 := by decide +kernel
theorem dJ22_hasNext_0 : decode cJ22_hasNext 0 = .ok (.aload_n 0, 1) := dk_42 (dk_at dksJ22_hasNext_0 0 rfl rfl)
theorem dJ22_hasNext_1 : decode cJ22_hasNext 1 = .ok (.getfield 25, 3) := dk_180 0 25 (dk_at dksJ22_hasNext_0 1 rfl rfl)
theorem dJ22_hasNext_4 : decode cJ22_hasNext 4 = .ok (.aload_n 0, 1) := dk_42 (dk_at dksJ22_hasNext_0 4 rfl rfl)
theorem dJ22_hasNext_5 : decode cJ22_hasNext 5 = .ok (.getfield 1, 3) := dk_180 0 1 (dk_at dksJ22_hasNext_0 5 rfl rfl)
theorem dJ22_hasNext_8 : decode cJ22_hasNext 8 = .ok (.getfield 28, 3) := dk_180 0 28 (dk_at dksJ22_hasNext_0 8 rfl rfl)
theorem dJ22_hasNext_11 : decode cJ22_hasNext 11 = .ok (.if_icmp .eq 7, 3) := dk_159 0 7 (dk_at dksJ22_hasNext_0 11 rfl rfl)
theorem dJ22_hasNext_14 : decode cJ22_hasNext 14 = .ok (.iconst 1, 1) := dk_4 (dk_at dksJ22_hasNext_0 14 rfl rfl)
theorem dJ22_hasNext_15 : decode cJ22_hasNext 15 = .ok (.goto 4, 3) := dk_167 0 4 (dk_at dksJ22_hasNext_0 15 rfl rfl)
theorem dJ22_hasNext_18 : decode cJ22_hasNext 18 = .ok (.iconst 0, 1) := dk_3 (dk_at dksJ22_hasNext_0 18 rfl rfl)
theorem dJ22_hasNext_19 : decode cJ22_hasNext 19 = .ok (.ireturn, 1) := dk_172 (dk_at dksJ22_hasNext_0 19 rfl rfl)
abbrev cJ22_next : ByteArray := prog_40_method_3_code
def yJ22_next : MethodName := ⟨RJ22, "next", "()Ljava/lang/Object;"⟩
def dkwJ22_next_2 : List UInt8 := [183, 0, 43, 191, 42, 27, 4, 96, 181, 0, 25, 44, 42, 27, 90, 181, 0, 13, 50, 176]
abbrev dktJ22_next_2 : List UInt8 := dkwJ22_next_2 ++ []
def dkwJ22_next_1 : List UInt8 := [183, 0, 36, 191, 42, 180, 0, 1, 180, 0, 37, 77, 27, 44, 190, 161, 0, 11, 187, 0, 41, 89]
abbrev dktJ22_next_1 : List UInt8 := dkwJ22_next_1 ++ dktJ22_next_2
def dkwJ22_next_0 : List UInt8 := [42, 182, 0, 31, 42, 180, 0, 25, 60, 27, 42, 180, 0, 1, 180, 0, 28, 161, 0, 11, 187, 0, 34, 89]
abbrev dktJ22_next_0 : List UInt8 := dkwJ22_next_0 ++ dktJ22_next_1
theorem dksJ22_next_0 : cJ22_next.data.toList.drop 0 = dktJ22_next_0 := by decide +kernel
theorem dksJ22_next_1 : cJ22_next.data.toList.drop 24 = dktJ22_next_1 := dk_seg dksJ22_next_0 24 rfl rfl
theorem dksJ22_next_2 : cJ22_next.data.toList.drop 46 = dktJ22_next_2 := dk_seg dksJ22_next_1 22 rfl rfl
theorem dJ22_next_0 : decode cJ22_next 0 = .ok (.aload_n 0, 1) := dk_42 (dk_at dksJ22_next_0 0 rfl rfl)
theorem dJ22_next_1 : decode cJ22_next 1 = .ok (.invokevirtual 31, 3) := dk_182 0 31 (dk_at dksJ22_next_0 1 rfl rfl)
theorem dJ22_next_4 : decode cJ22_next 4 = .ok (.aload_n 0, 1) := dk_42 (dk_at dksJ22_next_0 4 rfl rfl)
theorem dJ22_next_5 : decode cJ22_next 5 = .ok (.getfield 25, 3) := dk_180 0 25 (dk_at dksJ22_next_0 5 rfl rfl)
theorem dJ22_next_8 : decode cJ22_next 8 = .ok (.istore_n 1, 1) := dk_60 (dk_at dksJ22_next_0 8 rfl rfl)
theorem dJ22_next_9 : decode cJ22_next 9 = .ok (.iload_n 1, 1) := dk_27 (dk_at dksJ22_next_0 9 rfl rfl)
theorem dJ22_next_10 : decode cJ22_next 10 = .ok (.aload_n 0, 1) := dk_42 (dk_at dksJ22_next_0 10 rfl rfl)
theorem dJ22_next_11 : decode cJ22_next 11 = .ok (.getfield 1, 3) := dk_180 0 1 (dk_at dksJ22_next_0 11 rfl rfl)
theorem dJ22_next_14 : decode cJ22_next 14 = .ok (.getfield 28, 3) := dk_180 0 28 (dk_at dksJ22_next_0 14 rfl rfl)
theorem dJ22_next_17 : decode cJ22_next 17 = .ok (.if_icmp .lt 11, 3) := dk_161 0 11 (dk_at dksJ22_next_0 17 rfl rfl)
theorem dJ22_next_20 : decode cJ22_next 20 = .ok (.new 34, 3) := dk_187 0 34 (dk_at dksJ22_next_0 20 rfl rfl)
theorem dJ22_next_23 : decode cJ22_next 23 = .ok (.dup, 1) := dk_89 (dk_at dksJ22_next_0 23 rfl rfl)
theorem dJ22_next_24 : decode cJ22_next 24 = .ok (.invokespecial 36, 3) := dk_183 0 36 (dk_at dksJ22_next_1 0 rfl rfl)
theorem dJ22_next_27 : decode cJ22_next 27 = .ok (.athrow, 1) := dk_191 (dk_at dksJ22_next_1 3 rfl rfl)
theorem dJ22_next_28 : decode cJ22_next 28 = .ok (.aload_n 0, 1) := dk_42 (dk_at dksJ22_next_1 4 rfl rfl)
theorem dJ22_next_29 : decode cJ22_next 29 = .ok (.getfield 1, 3) := dk_180 0 1 (dk_at dksJ22_next_1 5 rfl rfl)
theorem dJ22_next_32 : decode cJ22_next 32 = .ok (.getfield 37, 3) := dk_180 0 37 (dk_at dksJ22_next_1 8 rfl rfl)
theorem dJ22_next_35 : decode cJ22_next 35 = .ok (.astore_n 2, 1) := dk_77 (dk_at dksJ22_next_1 11 rfl rfl)
theorem dJ22_next_36 : decode cJ22_next 36 = .ok (.iload_n 1, 1) := dk_27 (dk_at dksJ22_next_1 12 rfl rfl)
theorem dJ22_next_37 : decode cJ22_next 37 = .ok (.aload_n 2, 1) := dk_44 (dk_at dksJ22_next_1 13 rfl rfl)
theorem dJ22_next_38 : decode cJ22_next 38 = .ok (.arraylength, 1) := dk_190 (dk_at dksJ22_next_1 14 rfl rfl)
theorem dJ22_next_39 : decode cJ22_next 39 = .ok (.if_icmp .lt 11, 3) := dk_161 0 11 (dk_at dksJ22_next_1 15 rfl rfl)
theorem dJ22_next_42 : decode cJ22_next 42 = .ok (.new 41, 3) := dk_187 0 41 (dk_at dksJ22_next_1 18 rfl rfl)
theorem dJ22_next_45 : decode cJ22_next 45 = .ok (.dup, 1) := dk_89 (dk_at dksJ22_next_1 21 rfl rfl)
theorem dJ22_next_46 : decode cJ22_next 46 = .ok (.invokespecial 43, 3) := dk_183 0 43 (dk_at dksJ22_next_2 0 rfl rfl)
theorem dJ22_next_49 : decode cJ22_next 49 = .ok (.athrow, 1) := dk_191 (dk_at dksJ22_next_2 3 rfl rfl)
theorem dJ22_next_50 : decode cJ22_next 50 = .ok (.aload_n 0, 1) := dk_42 (dk_at dksJ22_next_2 4 rfl rfl)
theorem dJ22_next_51 : decode cJ22_next 51 = .ok (.iload_n 1, 1) := dk_27 (dk_at dksJ22_next_2 5 rfl rfl)
theorem dJ22_next_52 : decode cJ22_next 52 = .ok (.iconst 1, 1) := dk_4 (dk_at dksJ22_next_2 6 rfl rfl)
theorem dJ22_next_53 : decode cJ22_next 53 = .ok (.iadd, 1) := dk_96 (dk_at dksJ22_next_2 7 rfl rfl)
theorem dJ22_next_54 : decode cJ22_next 54 = .ok (.putfield 25, 3) := dk_181 0 25 (dk_at dksJ22_next_2 8 rfl rfl)
theorem dJ22_next_57 : decode cJ22_next 57 = .ok (.aload_n 2, 1) := dk_44 (dk_at dksJ22_next_2 11 rfl rfl)
theorem dJ22_next_58 : decode cJ22_next 58 = .ok (.aload_n 0, 1) := dk_42 (dk_at dksJ22_next_2 12 rfl rfl)
theorem dJ22_next_59 : decode cJ22_next 59 = .ok (.iload_n 1, 1) := dk_27 (dk_at dksJ22_next_2 13 rfl rfl)
theorem dJ22_next_60 : decode cJ22_next 60 = .ok (.dup_x1, 1) := dk_90 (dk_at dksJ22_next_2 14 rfl rfl)
theorem dJ22_next_61 : decode cJ22_next 61 = .ok (.putfield 13, 3) := dk_181 0 13 (dk_at dksJ22_next_2 15 rfl rfl)
theorem dJ22_next_64 : decode cJ22_next 64 = .ok (.aaload, 1) := dk_50 (dk_at dksJ22_next_2 18 rfl rfl)
theorem dJ22_next_65 : decode cJ22_next 65 = .ok (.areturn, 1) := dk_176 (dk_at dksJ22_next_2 19 rfl rfl)
abbrev cJ22_checkForComodification : ByteArray := prog_40_method_6_code
def yJ22_checkForComodification : MethodName := ⟨RJ22, "checkForComodification", "()V"⟩
def dkwJ22_checkForComodification_0 : List UInt8 := [42, 180, 0, 1, 180, 0, 17, 42, 180, 0, 22, 159, 0, 11, 187, 0, 41, 89, 183, 0, 43, 191, 177]
abbrev dktJ22_checkForComodification_0 : List UInt8 := dkwJ22_checkForComodification_0 ++ []
theorem dksJ22_checkForComodification_0 : cJ22_checkForComodification.data.toList.drop 0 = dktJ22_checkForComodification_0 := by decide +kernel
theorem dJ22_checkForComodification_0 : decode cJ22_checkForComodification 0 = .ok (.aload_n 0, 1) := dk_42 (dk_at dksJ22_checkForComodification_0 0 rfl rfl)
theorem dJ22_checkForComodification_1 : decode cJ22_checkForComodification 1 = .ok (.getfield 1, 3) := dk_180 0 1 (dk_at dksJ22_checkForComodification_0 1 rfl rfl)
theorem dJ22_checkForComodification_4 : decode cJ22_checkForComodification 4 = .ok (.getfield 17, 3) := dk_180 0 17 (dk_at dksJ22_checkForComodification_0 4 rfl rfl)
theorem dJ22_checkForComodification_7 : decode cJ22_checkForComodification 7 = .ok (.aload_n 0, 1) := dk_42 (dk_at dksJ22_checkForComodification_0 7 rfl rfl)
theorem dJ22_checkForComodification_8 : decode cJ22_checkForComodification 8 = .ok (.getfield 22, 3) := dk_180 0 22 (dk_at dksJ22_checkForComodification_0 8 rfl rfl)
theorem dJ22_checkForComodification_11 : decode cJ22_checkForComodification 11 = .ok (.if_icmp .eq 11, 3) := dk_159 0 11 (dk_at dksJ22_checkForComodification_0 11 rfl rfl)
theorem dJ22_checkForComodification_14 : decode cJ22_checkForComodification 14 = .ok (.new 41, 3) := dk_187 0 41 (dk_at dksJ22_checkForComodification_0 14 rfl rfl)
theorem dJ22_checkForComodification_17 : decode cJ22_checkForComodification 17 = .ok (.dup, 1) := dk_89 (dk_at dksJ22_checkForComodification_0 17 rfl rfl)
theorem dJ22_checkForComodification_18 : decode cJ22_checkForComodification 18 = .ok (.invokespecial 43, 3) := dk_183 0 43 (dk_at dksJ22_checkForComodification_0 18 rfl rfl)
theorem dJ22_checkForComodification_21 : decode cJ22_checkForComodification 21 = .ok (.athrow, 1) := dk_191 (dk_at dksJ22_checkForComodification_0 21 rfl rfl)
theorem dJ22_checkForComodification_22 : decode cJ22_checkForComodification 22 = .ok (.return_, 1) := dk_177 (dk_at dksJ22_checkForComodification_0 22 rfl rfl)
theorem q79 : (Jvm.Cond.initialized "java/util/ArrayList$Itr") ∈ lw_all := lw_g (lw_at lw_m1 39 rfl) rfl
theorem q257 : (Jvm.Cond.fieldLink "java/util/ArrayList$Itr" (37 : Nat) "java/util/ArrayList" "elementData" "[Ljava/lang/Object;") ∈ lw_all := lw_g (lw_at lw_m1 217 rfl) rfl
theorem q258 : (Jvm.Cond.fieldLinkNest "java/util/ArrayList$Itr" (28 : Nat) "java/util/ArrayList" "size" "I" "java/util/ArrayList") ∈ lw_tbl := lw_at lw_m1 218 rfl
theorem q261 : (Jvm.Cond.fieldLink "java/util/ArrayList$Itr" (17 : Nat) "java/util/ArrayList" "modCount" "I") ∈ lw_all := lw_g (lw_at lw_m1 221 rfl) rfl
theorem q391 : (Jvm.Cond.instantiable "java/util/ArrayList$Itr" (4 : Nat)) ∈ lw_all := lw_g (lw_at lw_m2 111 rfl) rfl
theorem q393 : (Jvm.Cond.instanceMethod ({ cls := "java/util/ArrayList$Itr", name := "<init>", desc := "(Ljava/util/ArrayList;)V" } : Jvm.MethodName)) ∈ lw_all := lw_g (lw_at lw_m2 113 rfl) rfl
theorem q394 : (Jvm.Cond.code ({ cls := "java/util/ArrayList$Itr", name := "<init>", desc := "(Ljava/util/ArrayList;)V" } : Jvm.MethodName) prog_40_method_1_code (2 : Nat) (Option.none : Option Jvm.ClassFile.FieldType)) ∈ lw_all := lw_g (lw_at lw_m2 114 rfl) rfl
theorem q395 : (Jvm.Cond.methodLink "java/util/ArrayList$Itr" (7 : Nat) ({ cls := "java/lang/Object", name := "<init>", desc := "()V" } : Jvm.MethodName)) ∈ lw_all := lw_g (lw_at lw_m2 115 rfl) rfl
theorem q396 : (Jvm.Cond.fieldLink "java/util/ArrayList$Itr" (25 : Nat) "java/util/ArrayList$Itr" "cursor" "I") ∈ lw_all := lw_g (lw_at lw_m2 116 rfl) rfl
theorem q397 : (Jvm.Cond.fieldLink "java/util/ArrayList$Itr" (13 : Nat) "java/util/ArrayList$Itr" "lastRet" "I") ∈ lw_all := lw_g (lw_at lw_m2 117 rfl) rfl
theorem q398 : (Jvm.Cond.fieldLink "java/util/ArrayList$Itr" (22 : Nat) "java/util/ArrayList$Itr" "expectedModCount" "I") ∈ lw_all := lw_g (lw_at lw_m2 118 rfl) rfl
theorem q399 : (Jvm.Cond.fieldLink "java/util/ArrayList$Itr" (1 : Nat) "java/util/ArrayList$Itr" "this$0" "Ljava/util/ArrayList;") ∈ lw_all := lw_g (lw_at lw_m2 119 rfl) rfl
theorem q400 : (Jvm.Cond.lays "java/util/ArrayList$Itr" "java/util/ArrayList$Itr" "cursor" "I") ∈ lw_all := lw_g (lw_at lw_m2 120 rfl) rfl
theorem q401 : (Jvm.Cond.soleField "java/util/ArrayList$Itr" "cursor") ∈ lw_all := lw_g (lw_at lw_m2 121 rfl) rfl
theorem q402 : (Jvm.Cond.lays "java/util/ArrayList$Itr" "java/util/ArrayList$Itr" "lastRet" "I") ∈ lw_all := lw_g (lw_at lw_m2 122 rfl) rfl
theorem q403 : (Jvm.Cond.soleField "java/util/ArrayList$Itr" "lastRet") ∈ lw_all := lw_g (lw_at lw_m2 123 rfl) rfl
theorem q404 : (Jvm.Cond.lays "java/util/ArrayList$Itr" "java/util/ArrayList$Itr" "expectedModCount" "I") ∈ lw_all := lw_g (lw_at lw_m2 124 rfl) rfl
theorem q405 : (Jvm.Cond.soleField "java/util/ArrayList$Itr" "expectedModCount") ∈ lw_all := lw_g (lw_at lw_m2 125 rfl) rfl
theorem q406 : (Jvm.Cond.laysFinal "java/util/ArrayList$Itr" "java/util/ArrayList$Itr" "this$0" "Ljava/util/ArrayList;") ∈ lw_all := lw_g (lw_at lw_m2 126 rfl) rfl
theorem q407 : (Jvm.Cond.soleField "java/util/ArrayList$Itr" "this$0") ∈ lw_all := lw_g (lw_at lw_m2 127 rfl) rfl
theorem q408 : (Jvm.Cond.superclass "java/util/ArrayList$Itr" "java/lang/Object") ∈ lw_all := lw_g (lw_at lw_m2 128 rfl) rfl
theorem q413 : (Jvm.Cond.castable "java/util/ArrayList$Itr" "java/util/Iterator") ∈ lw_tbl := lw_at lw_m2 133 rfl
theorem q414 : (Jvm.Cond.selects "java/util/ArrayList$Itr" ({ cls := "java/util/Iterator", name := "hasNext", desc := "()Z" } : Jvm.MethodName) ({ cls := "java/util/ArrayList$Itr", name := "hasNext", desc := "()Z" } : Jvm.MethodName)) ∈ lw_all := lw_g (lw_at lw_m2 134 rfl) rfl
theorem q415 : (Jvm.Cond.unhidden "java/util/ArrayList$Itr" "hasNext" "()Z") ∈ lw_tbl := lw_at lw_m2 135 rfl
theorem q416 : (Jvm.Cond.instanceMethod ({ cls := "java/util/ArrayList$Itr", name := "hasNext", desc := "()Z" } : Jvm.MethodName)) ∈ lw_all := lw_g (lw_at lw_m2 136 rfl) rfl
theorem q417 : (Jvm.Cond.publicMethod ({ cls := "java/util/ArrayList$Itr", name := "hasNext", desc := "()Z" } : Jvm.MethodName)) ∈ lw_tbl := lw_at lw_m2 137 rfl
theorem q418 : (Jvm.Cond.code ({ cls := "java/util/ArrayList$Itr", name := "hasNext", desc := "()Z" } : Jvm.MethodName) prog_40_method_2_code (1 : Nat) (Option.some Jvm.ClassFile.FieldType.boolean)) ∈ lw_all := lw_g (lw_at lw_m2 138 rfl) rfl
theorem q423 : (Jvm.Cond.selects "java/util/ArrayList$Itr" ({ cls := "java/util/Iterator", name := "next", desc := "()Ljava/lang/Object;" } : Jvm.MethodName) ({ cls := "java/util/ArrayList$Itr", name := "next", desc := "()Ljava/lang/Object;" } : Jvm.MethodName)) ∈ lw_all := lw_g (lw_at lw_m2 143 rfl) rfl
theorem q424 : (Jvm.Cond.unhidden "java/util/ArrayList$Itr" "next" "()Ljava/lang/Object;") ∈ lw_tbl := lw_at lw_m2 144 rfl
theorem q425 : (Jvm.Cond.instanceMethod ({ cls := "java/util/ArrayList$Itr", name := "next", desc := "()Ljava/lang/Object;" } : Jvm.MethodName)) ∈ lw_all := lw_g (lw_at lw_m2 145 rfl) rfl
theorem q426 : (Jvm.Cond.publicMethod ({ cls := "java/util/ArrayList$Itr", name := "next", desc := "()Ljava/lang/Object;" } : Jvm.MethodName)) ∈ lw_tbl := lw_at lw_m2 146 rfl
theorem q427 : (Jvm.Cond.code ({ cls := "java/util/ArrayList$Itr", name := "next", desc := "()Ljava/lang/Object;" } : Jvm.MethodName) prog_40_method_3_code (3 : Nat) (Option.some (Jvm.ClassFile.FieldType.object "java/lang/Object"))) ∈ lw_all := lw_g (lw_at lw_m2 147 rfl) rfl
theorem q428 : (Jvm.Cond.methodLink "java/util/ArrayList$Itr" (31 : Nat) ({ cls := "java/util/ArrayList$Itr", name := "checkForComodification", desc := "()V" } : Jvm.MethodName)) ∈ lw_all := lw_g (lw_at lw_m2 148 rfl) rfl
theorem q429 : (Jvm.Cond.instanceMethod ({ cls := "java/util/ArrayList$Itr", name := "checkForComodification", desc := "()V" } : Jvm.MethodName)) ∈ lw_all := lw_g (lw_at lw_m2 149 rfl) rfl
theorem q430 : (Jvm.Cond.selects "java/util/ArrayList$Itr" ({ cls := "java/util/ArrayList$Itr", name := "checkForComodification", desc := "()V" } : Jvm.MethodName) ({ cls := "java/util/ArrayList$Itr", name := "checkForComodification", desc := "()V" } : Jvm.MethodName)) ∈ lw_all := lw_g (lw_at lw_m2 150 rfl) rfl
theorem q431 : (Jvm.Cond.code ({ cls := "java/util/ArrayList$Itr", name := "checkForComodification", desc := "()V" } : Jvm.MethodName) prog_40_method_6_code (1 : Nat) (Option.none : Option Jvm.ClassFile.FieldType)) ∈ lw_all := lw_g (lw_at lw_m2 151 rfl) rfl
theorem q432 : (Jvm.Cond.classLink "java/util/ArrayList$Itr" (34 : Nat) "java/util/NoSuchElementException") ∈ lw_all := lw_g (lw_at lw_m2 152 rfl) rfl
theorem q476 : (Jvm.Cond.methodLink "java/util/ArrayList$Itr" (36 : Nat) ({ cls := "java/util/NoSuchElementException", name := "<init>", desc := "()V" } : Jvm.MethodName)) ∈ lw_all := lw_g (lw_at lw_m2 196 rfl) rfl
theorem q823 : (Jvm.Cond.selects "java/util/ArrayList$Itr" ({ cls := "java/lang/Object", name := "getClass", desc := "()Ljava/lang/Class;" } : Jvm.MethodName) ({ cls := "java/lang/Object", name := "getClass", desc := "()Ljava/lang/Class;" } : Jvm.MethodName)) ∈ lw_all := lw_g (lw_at lw_m4 63 rfl) rfl
theorem q1385 : (Jvm.Cond.castable "java/util/ArrayList$Itr" "java/lang/Object") ∈ lw_tbl := lw_at lw_m6 145 rfl
theorem in_J22 : ∀ w ∈ wsJ220, w ∈ lw_all := lw_in wsJ220 [400, 402, 404, 406] (by decide +kernel) (by decide +kernel)

/-! java/lang/Object -/
set_option maxRecDepth 100000
def RJ23 : String := "java/lang/Object"
abbrev cJ23_init : ByteArray := object_method_1_code
def yJ23_init : MethodName := ⟨RJ23, "<init>", "()V"⟩
theorem dJ23_init_0 : decode cJ23_init 0 = .ok (.return_, 1) := by decide +kernel
theorem q86 : (Jvm.Cond.instanceMethod ({ cls := "java/lang/Object", name := "<init>", desc := "()V" } : Jvm.MethodName)) ∈ lw_all := lw_g (lw_at lw_m1 46 rfl) rfl
theorem q87 : (Jvm.Cond.code ({ cls := "java/lang/Object", name := "<init>", desc := "()V" } : Jvm.MethodName) object_method_1_code (1 : Nat) (Option.none : Option Jvm.ClassFile.FieldType)) ∈ lw_all := lw_g (lw_at lw_m1 47 rfl) rfl
theorem q800 : (Jvm.Cond.instanceMethod ({ cls := "java/lang/Object", name := "getClass", desc := "()Ljava/lang/Class;" } : Jvm.MethodName)) ∈ lw_all := lw_g (lw_at lw_m4 40 rfl) rfl
theorem q801 : (Jvm.Cond.sameMethod "java/lang/Object" "java/lang/Object" "getClass" "()Ljava/lang/Class;") ∈ lw_all := lw_g (lw_at lw_m4 41 rfl) rfl
theorem q825 : (Jvm.Cond.native ({ cls := "java/lang/Object", name := "getClass", desc := "()Ljava/lang/Class;" } : Jvm.MethodName)) ∈ lw_all := lw_g (lw_at lw_m4 65 rfl) rfl
theorem q1390 : (Jvm.Cond.declares ({ cls := "java/lang/Object", name := "getClass", desc := "()Ljava/lang/Class;" } : Jvm.MethodName)) ∈ lw_tbl := lw_at lw_m6 150 rfl

/-! java/util/AbstractList -/
set_option maxRecDepth 100000
def RJ3 : String := "java/util/AbstractList"
abbrev cJ3_init : ByteArray := prog_38_method_1_code
def yJ3_init : MethodName := ⟨RJ3, "<init>", "()V"⟩
def dkwJ3_init_0 : List UInt8 := [42, 183, 0, 1, 42, 3, 181, 0, 7, 177]
abbrev dktJ3_init_0 : List UInt8 := dkwJ3_init_0 ++ []
theorem dksJ3_init_0 : cJ3_init.data.toList.drop 0 = dktJ3_init_0 := by decide +kernel
theorem dJ3_init_0 : decode cJ3_init 0 = .ok (.aload_n 0, 1) := dk_42 (dk_at dksJ3_init_0 0 rfl rfl)
theorem dJ3_init_1 : decode cJ3_init 1 = .ok (.invokespecial 1, 3) := dk_183 0 1 (dk_at dksJ3_init_0 1 rfl rfl)
theorem dJ3_init_4 : decode cJ3_init 4 = .ok (.aload_n 0, 1) := dk_42 (dk_at dksJ3_init_0 4 rfl rfl)
theorem dJ3_init_5 : decode cJ3_init 5 = .ok (.iconst 0, 1) := dk_3 (dk_at dksJ3_init_0 5 rfl rfl)
theorem dJ3_init_6 : decode cJ3_init 6 = .ok (.putfield 7, 3) := dk_181 0 7 (dk_at dksJ3_init_0 6 rfl rfl)
theorem dJ3_init_9 : decode cJ3_init 9 = .ok (.return_, 1) := dk_177 (dk_at dksJ3_init_0 9 rfl rfl)
theorem q56 : (Jvm.Cond.initialized "java/util/AbstractList") ∈ lw_all := lw_g (lw_at lw_m1 16 rfl) rfl
theorem q248 : (Jvm.Cond.instanceMethod ({ cls := "java/util/AbstractList", name := "<init>", desc := "()V" } : Jvm.MethodName)) ∈ lw_all := lw_g (lw_at lw_m1 208 rfl) rfl
theorem q249 : (Jvm.Cond.code ({ cls := "java/util/AbstractList", name := "<init>", desc := "()V" } : Jvm.MethodName) prog_38_method_1_code (1 : Nat) (Option.none : Option Jvm.ClassFile.FieldType)) ∈ lw_all := lw_g (lw_at lw_m1 209 rfl) rfl
theorem q250 : (Jvm.Cond.methodLink "java/util/AbstractList" (1 : Nat) ({ cls := "java/util/AbstractCollection", name := "<init>", desc := "()V" } : Jvm.MethodName)) ∈ lw_all := lw_g (lw_at lw_m1 210 rfl) rfl
theorem q260 : (Jvm.Cond.fieldLink "java/util/AbstractList" (7 : Nat) "java/util/AbstractList" "modCount" "I") ∈ lw_all := lw_g (lw_at lw_m1 220 rfl) rfl
theorem q269 : (Jvm.Cond.soleField "java/util/AbstractList" "modCount") ∈ lw_all := lw_g (lw_at lw_m1 229 rfl) rfl

/-! java/util/ArrayList -/
set_option maxRecDepth 100000
def RJ4 : String := "java/util/ArrayList"
def TJ4 : u_T := fun k => match k with
  | 0 => ("java/util/AbstractList", "modCount", "I", false)
  | 1 => ("java/util/ArrayList", "elementData", "[Ljava/lang/Object;", false)
  | _ => ("java/util/ArrayList", "size", "I", false)
def tyJ4 : Nat → FieldType := fun k => match k with
  | 0 => .int
  | 1 => .array (.object "java/lang/Object")
  | _ => .int
abbrev wsJ40 : List Cond := u_ws RJ4 TJ4 3
theorem nmJ4 : ∀ a, a < 3 → ∀ b, b < 3 → a ≠ b → (TJ4 a).2.1 ≠ (TJ4 b).2.1 := by decide +kernel
theorem tyJ4_ok : ∀ k, k < 3 → parseFieldDescriptor (TJ4 k).2.2.1 = some (tyJ4 k) := by decide +kernel
abbrev cJ4_init : ByteArray := prog_39_method_2_code
def yJ4_init : MethodName := ⟨RJ4, "<init>", "()V"⟩
def dkwJ4_init_0 : List UInt8 := [42, 183, 0, 1, 42, 178, 0, 39, 181, 0, 9, 177]
abbrev dktJ4_init_0 : List UInt8 := dkwJ4_init_0 ++ []
theorem dksJ4_init_0 : cJ4_init.data.toList.drop 0 = dktJ4_init_0 := by decide +kernel
theorem dJ4_init_0 : decode cJ4_init 0 = .ok (.aload_n 0, 1) := dk_42 (dk_at dksJ4_init_0 0 rfl rfl)
theorem dJ4_init_1 : decode cJ4_init 1 = .ok (.invokespecial 1, 3) := dk_183 0 1 (dk_at dksJ4_init_0 1 rfl rfl)
theorem dJ4_init_4 : decode cJ4_init 4 = .ok (.aload_n 0, 1) := dk_42 (dk_at dksJ4_init_0 4 rfl rfl)
theorem dJ4_init_5 : decode cJ4_init 5 = .ok (.getstatic 39, 3) := dk_178 0 39 (dk_at dksJ4_init_0 5 rfl rfl)
theorem dJ4_init_8 : decode cJ4_init 8 = .ok (.putfield 9, 3) := dk_181 0 9 (dk_at dksJ4_init_0 8 rfl rfl)
theorem dJ4_init_11 : decode cJ4_init 11 = .ok (.return_, 1) := dk_177 (dk_at dksJ4_init_0 11 rfl rfl)
abbrev cJ4_iterator : ByteArray := prog_39_method_55_code
def yJ4_iterator : MethodName := ⟨RJ4, "iterator", "()Ljava/util/Iterator;"⟩
def dkwJ4_iterator_0 : List UInt8 := [187, 1, 11, 89, 42, 183, 1, 13, 176]
abbrev dktJ4_iterator_0 : List UInt8 := dkwJ4_iterator_0 ++ []
theorem dksJ4_iterator_0 : cJ4_iterator.data.toList.drop 0 = dktJ4_iterator_0 := by decide +kernel
theorem dJ4_iterator_0 : decode cJ4_iterator 0 = .ok (.new 267, 3) := dk_187 1 11 (dk_at dksJ4_iterator_0 0 rfl rfl)
theorem dJ4_iterator_3 : decode cJ4_iterator 3 = .ok (.dup, 1) := dk_89 (dk_at dksJ4_iterator_0 3 rfl rfl)
theorem dJ4_iterator_4 : decode cJ4_iterator 4 = .ok (.aload_n 0, 1) := dk_42 (dk_at dksJ4_iterator_0 4 rfl rfl)
theorem dJ4_iterator_5 : decode cJ4_iterator 5 = .ok (.invokespecial 269, 3) := dk_183 1 13 (dk_at dksJ4_iterator_0 5 rfl rfl)
theorem dJ4_iterator_8 : decode cJ4_iterator 8 = .ok (.areturn, 1) := dk_176 (dk_at dksJ4_iterator_0 8 rfl rfl)
abbrev cJ4_add : ByteArray := prog_39_method_25_code
def yJ4_add : MethodName := ⟨RJ4, "add", "(Ljava/lang/Object;)Z"⟩
def dkwJ4_add_1 : List UInt8 := [172]
abbrev dktJ4_add_1 : List UInt8 := dkwJ4_add_1 ++ []
def dkwJ4_add_0 : List UInt8 := [42, 89, 180, 0, 63, 4, 96, 181, 0, 63, 42, 43, 42, 180, 0, 9, 42, 180, 0, 48, 182, 0, 131, 4]
abbrev dktJ4_add_0 : List UInt8 := dkwJ4_add_0 ++ dktJ4_add_1
theorem dksJ4_add_0 : cJ4_add.data.toList.drop 0 = dktJ4_add_0 := by decide +kernel
theorem dksJ4_add_1 : cJ4_add.data.toList.drop 24 = dktJ4_add_1 := dk_seg dksJ4_add_0 24 rfl rfl
theorem dJ4_add_0 : decode cJ4_add 0 = .ok (.aload_n 0, 1) := dk_42 (dk_at dksJ4_add_0 0 rfl rfl)
theorem dJ4_add_1 : decode cJ4_add 1 = .ok (.dup, 1) := dk_89 (dk_at dksJ4_add_0 1 rfl rfl)
theorem dJ4_add_2 : decode cJ4_add 2 = .ok (.getfield 63, 3) := dk_180 0 63 (dk_at dksJ4_add_0 2 rfl rfl)
theorem dJ4_add_5 : decode cJ4_add 5 = .ok (.iconst 1, 1) := dk_4 (dk_at dksJ4_add_0 5 rfl rfl)
theorem dJ4_add_6 : decode cJ4_add 6 = .ok (.iadd, 1) := dk_96 (dk_at dksJ4_add_0 6 rfl rfl)
theorem dJ4_add_7 : decode cJ4_add 7 = .ok (.putfield 63, 3) := dk_181 0 63 (dk_at dksJ4_add_0 7 rfl rfl)
theorem dJ4_add_10 : decode cJ4_add 10 = .ok (.aload_n 0, 1) := dk_42 (dk_at dksJ4_add_0 10 rfl rfl)
theorem dJ4_add_11 : decode cJ4_add 11 = .ok (.aload_n 1, 1) := dk_43 (dk_at dksJ4_add_0 11 rfl rfl)
theorem dJ4_add_12 : decode cJ4_add 12 = .ok (.aload_n 0, 1) := dk_42 (dk_at dksJ4_add_0 12 rfl rfl)
theorem dJ4_add_13 : decode cJ4_add 13 = .ok (.getfield 9, 3) := dk_180 0 9 (dk_at dksJ4_add_0 13 rfl rfl)
theorem dJ4_add_16 : decode cJ4_add 16 = .ok (.aload_n 0, 1) := dk_42 (dk_at dksJ4_add_0 16 rfl rfl)
theorem dJ4_add_17 : decode cJ4_add 17 = .ok (.getfield 48, 3) := dk_180 0 48 (dk_at dksJ4_add_0 17 rfl rfl)
theorem dJ4_add_20 : decode cJ4_add 20 = .ok (.invokevirtual 131, 3) := dk_182 0 131 (dk_at dksJ4_add_0 20 rfl rfl)
theorem dJ4_add_23 : decode cJ4_add 23 = .ok (.iconst 1, 1) := dk_4 (dk_at dksJ4_add_0 23 rfl rfl)
theorem dJ4_add_24 : decode cJ4_add 24 = .ok (.ireturn, 1) := dk_172 (dk_at dksJ4_add_1 0 rfl rfl)
abbrev cJ4_add_2 : ByteArray := prog_39_method_24_code
def yJ4_add_2 : MethodName := ⟨RJ4, "add", "(Ljava/lang/Object;[Ljava/lang/Object;I)V"⟩
def dkwJ4_add_2_0 : List UInt8 := [29, 44, 190, 160, 0, 8, 42, 182, 0, 129, 77, 44, 29, 43, 83, 42, 29, 4, 96, 181, 0, 48, 177]
abbrev dktJ4_add_2_0 : List UInt8 := dkwJ4_add_2_0 ++ []
theorem dksJ4_add_2_0 : cJ4_add_2.data.toList.drop 0 = dktJ4_add_2_0 := by decide +kernel
theorem dJ4_add_2_0 : decode cJ4_add_2 0 = .ok (.iload_n 3, 1) := dk_29 (dk_at dksJ4_add_2_0 0 rfl rfl)
theorem dJ4_add_2_1 : decode cJ4_add_2 1 = .ok (.aload_n 2, 1) := dk_44 (dk_at dksJ4_add_2_0 1 rfl rfl)
theorem dJ4_add_2_2 : decode cJ4_add_2 2 = .ok (.arraylength, 1) := dk_190 (dk_at dksJ4_add_2_0 2 rfl rfl)
theorem dJ4_add_2_3 : decode cJ4_add_2 3 = .ok (.if_icmp .ne 8, 3) := dk_160 0 8 (dk_at dksJ4_add_2_0 3 rfl rfl)
theorem dJ4_add_2_6 : decode cJ4_add_2 6 = .ok (.aload_n 0, 1) := dk_42 (dk_at dksJ4_add_2_0 6 rfl rfl)
theorem dJ4_add_2_7 : decode cJ4_add_2 7 = .ok (.invokevirtual 129, 3) := dk_182 0 129 (dk_at dksJ4_add_2_0 7 rfl rfl)
theorem dJ4_add_2_10 : decode cJ4_add_2 10 = .ok (.astore_n 2, 1) := dk_77 (dk_at dksJ4_add_2_0 10 rfl rfl)
theorem dJ4_add_2_11 : decode cJ4_add_2 11 = .ok (.aload_n 2, 1) := dk_44 (dk_at dksJ4_add_2_0 11 rfl rfl)
theorem dJ4_add_2_12 : decode cJ4_add_2 12 = .ok (.iload_n 3, 1) := dk_29 (dk_at dksJ4_add_2_0 12 rfl rfl)
theorem dJ4_add_2_13 : decode cJ4_add_2 13 = .ok (.aload_n 1, 1) := dk_43 (dk_at dksJ4_add_2_0 13 rfl rfl)
theorem dJ4_add_2_14 : decode cJ4_add_2 14 = .ok (.aastore, 1) := dk_83 (dk_at dksJ4_add_2_0 14 rfl rfl)
theorem dJ4_add_2_15 : decode cJ4_add_2 15 = .ok (.aload_n 0, 1) := dk_42 (dk_at dksJ4_add_2_0 15 rfl rfl)
theorem dJ4_add_2_16 : decode cJ4_add_2 16 = .ok (.iload_n 3, 1) := dk_29 (dk_at dksJ4_add_2_0 16 rfl rfl)
theorem dJ4_add_2_17 : decode cJ4_add_2 17 = .ok (.iconst 1, 1) := dk_4 (dk_at dksJ4_add_2_0 17 rfl rfl)
theorem dJ4_add_2_18 : decode cJ4_add_2 18 = .ok (.iadd, 1) := dk_96 (dk_at dksJ4_add_2_0 18 rfl rfl)
theorem dJ4_add_2_19 : decode cJ4_add_2 19 = .ok (.putfield 48, 3) := dk_181 0 48 (dk_at dksJ4_add_2_0 19 rfl rfl)
theorem dJ4_add_2_22 : decode cJ4_add_2 22 = .ok (.return_, 1) := dk_177 (dk_at dksJ4_add_2_0 22 rfl rfl)
abbrev cJ4_grow : ByteArray := prog_39_method_7_code
def yJ4_grow : MethodName := ⟨RJ4, "grow", "()[Ljava/lang/Object;"⟩
def dkwJ4_grow_0 : List UInt8 := [42, 42, 180, 0, 48, 4, 96, 182, 0, 69, 176]
abbrev dktJ4_grow_0 : List UInt8 := dkwJ4_grow_0 ++ []
theorem dksJ4_grow_0 : cJ4_grow.data.toList.drop 0 = dktJ4_grow_0 := by decide +kernel
theorem dJ4_grow_0 : decode cJ4_grow 0 = .ok (.aload_n 0, 1) := dk_42 (dk_at dksJ4_grow_0 0 rfl rfl)
theorem dJ4_grow_1 : decode cJ4_grow 1 = .ok (.aload_n 0, 1) := dk_42 (dk_at dksJ4_grow_0 1 rfl rfl)
theorem dJ4_grow_2 : decode cJ4_grow 2 = .ok (.getfield 48, 3) := dk_180 0 48 (dk_at dksJ4_grow_0 2 rfl rfl)
theorem dJ4_grow_5 : decode cJ4_grow 5 = .ok (.iconst 1, 1) := dk_4 (dk_at dksJ4_grow_0 5 rfl rfl)
theorem dJ4_grow_6 : decode cJ4_grow 6 = .ok (.iadd, 1) := dk_96 (dk_at dksJ4_grow_0 6 rfl rfl)
theorem dJ4_grow_7 : decode cJ4_grow 7 = .ok (.invokevirtual 69, 3) := dk_182 0 69 (dk_at dksJ4_grow_0 7 rfl rfl)
theorem dJ4_grow_10 : decode cJ4_grow 10 = .ok (.areturn, 1) := dk_176 (dk_at dksJ4_grow_0 10 rfl rfl)
abbrev cJ4_grow_2 : ByteArray := prog_39_method_6_code
def yJ4_grow_2 : MethodName := ⟨RJ4, "grow", "(I)[Ljava/lang/Object;"⟩
def dkwJ4_grow_2_2 : List UInt8 := [27, 184, 0, 79, 189, 0, 7, 90, 181, 0, 9, 176]
abbrev dktJ4_grow_2_2 : List UInt8 := dkwJ4_grow_2_2 ++ []
def dkwJ4_grow_2_1 : List UInt8 := [28, 4, 122, 184, 0, 73, 62, 42, 42, 180, 0, 9, 29, 184, 0, 66, 90, 181, 0, 9, 176, 42, 16, 10]
abbrev dktJ4_grow_2_1 : List UInt8 := dkwJ4_grow_2_1 ++ dktJ4_grow_2_2
def dkwJ4_grow_2_0 : List UInt8 := [42, 180, 0, 9, 190, 61, 28, 157, 0, 13, 42, 180, 0, 9, 178, 0, 39, 165, 0, 28, 28, 27, 28, 100]
abbrev dktJ4_grow_2_0 : List UInt8 := dkwJ4_grow_2_0 ++ dktJ4_grow_2_1
theorem dksJ4_grow_2_0 : cJ4_grow_2.data.toList.drop 0 = dktJ4_grow_2_0 := by decide +kernel
theorem dksJ4_grow_2_1 : cJ4_grow_2.data.toList.drop 24 = dktJ4_grow_2_1 := dk_seg dksJ4_grow_2_0 24 rfl rfl
theorem dksJ4_grow_2_2 : cJ4_grow_2.data.toList.drop 48 = dktJ4_grow_2_2 := dk_seg dksJ4_grow_2_1 24 rfl rfl
theorem dJ4_grow_2_0 : decode cJ4_grow_2 0 = .ok (.aload_n 0, 1) := dk_42 (dk_at dksJ4_grow_2_0 0 rfl rfl)
theorem dJ4_grow_2_1 : decode cJ4_grow_2 1 = .ok (.getfield 9, 3) := dk_180 0 9 (dk_at dksJ4_grow_2_0 1 rfl rfl)
theorem dJ4_grow_2_4 : decode cJ4_grow_2 4 = .ok (.arraylength, 1) := dk_190 (dk_at dksJ4_grow_2_0 4 rfl rfl)
theorem dJ4_grow_2_5 : decode cJ4_grow_2 5 = .ok (.istore_n 2, 1) := dk_61 (dk_at dksJ4_grow_2_0 5 rfl rfl)
theorem dJ4_grow_2_6 : decode cJ4_grow_2 6 = .ok (.iload_n 2, 1) := dk_28 (dk_at dksJ4_grow_2_0 6 rfl rfl)
theorem dJ4_grow_2_7 : decode cJ4_grow_2 7 = .ok (.ifCond .gt 13, 3) := dk_157 0 13 (dk_at dksJ4_grow_2_0 7 rfl rfl)
theorem dJ4_grow_2_10 : decode cJ4_grow_2 10 = .ok (.aload_n 0, 1) := dk_42 (dk_at dksJ4_grow_2_0 10 rfl rfl)
theorem dJ4_grow_2_11 : decode cJ4_grow_2 11 = .ok (.getfield 9, 3) := dk_180 0 9 (dk_at dksJ4_grow_2_0 11 rfl rfl)
theorem dJ4_grow_2_14 : decode cJ4_grow_2 14 = .ok (.getstatic 39, 3) := dk_178 0 39 (dk_at dksJ4_grow_2_0 14 rfl rfl)
theorem dJ4_grow_2_17 : decode cJ4_grow_2 17 = .ok (.if_acmp .eq 28, 3) := dk_165 0 28 (dk_at dksJ4_grow_2_0 17 rfl rfl)
theorem dJ4_grow_2_20 : decode cJ4_grow_2 20 = .ok (.iload_n 2, 1) := dk_28 (dk_at dksJ4_grow_2_0 20 rfl rfl)
theorem dJ4_grow_2_21 : decode cJ4_grow_2 21 = .ok (.iload_n 1, 1) := dk_27 (dk_at dksJ4_grow_2_0 21 rfl rfl)
theorem dJ4_grow_2_22 : decode cJ4_grow_2 22 = .ok (.iload_n 2, 1) := dk_28 (dk_at dksJ4_grow_2_0 22 rfl rfl)
theorem dJ4_grow_2_23 : decode cJ4_grow_2 23 = .ok (.isub, 1) := dk_100 (dk_at dksJ4_grow_2_0 23 rfl rfl)
theorem dJ4_grow_2_24 : decode cJ4_grow_2 24 = .ok (.iload_n 2, 1) := dk_28 (dk_at dksJ4_grow_2_1 0 rfl rfl)
theorem dJ4_grow_2_25 : decode cJ4_grow_2 25 = .ok (.iconst 1, 1) := dk_4 (dk_at dksJ4_grow_2_1 1 rfl rfl)
theorem dJ4_grow_2_26 : decode cJ4_grow_2 26 = .ok (.ishr, 1) := dk_122 (dk_at dksJ4_grow_2_1 2 rfl rfl)
theorem dJ4_grow_2_27 : decode cJ4_grow_2 27 = .ok (.invokestatic 73, 3) := dk_184 0 73 (dk_at dksJ4_grow_2_1 3 rfl rfl)
theorem dJ4_grow_2_30 : decode cJ4_grow_2 30 = .ok (.istore_n 3, 1) := dk_62 (dk_at dksJ4_grow_2_1 6 rfl rfl)
theorem dJ4_grow_2_31 : decode cJ4_grow_2 31 = .ok (.aload_n 0, 1) := dk_42 (dk_at dksJ4_grow_2_1 7 rfl rfl)
theorem dJ4_grow_2_32 : decode cJ4_grow_2 32 = .ok (.aload_n 0, 1) := dk_42 (dk_at dksJ4_grow_2_1 8 rfl rfl)
theorem dJ4_grow_2_33 : decode cJ4_grow_2 33 = .ok (.getfield 9, 3) := dk_180 0 9 (dk_at dksJ4_grow_2_1 9 rfl rfl)
theorem dJ4_grow_2_36 : decode cJ4_grow_2 36 = .ok (.iload_n 3, 1) := dk_29 (dk_at dksJ4_grow_2_1 12 rfl rfl)
theorem dJ4_grow_2_37 : decode cJ4_grow_2 37 = .ok (.invokestatic 66, 3) := dk_184 0 66 (dk_at dksJ4_grow_2_1 13 rfl rfl)
theorem dJ4_grow_2_40 : decode cJ4_grow_2 40 = .ok (.dup_x1, 1) := dk_90 (dk_at dksJ4_grow_2_1 16 rfl rfl)
theorem dJ4_grow_2_41 : decode cJ4_grow_2 41 = .ok (.putfield 9, 3) := dk_181 0 9 (dk_at dksJ4_grow_2_1 17 rfl rfl)
theorem dJ4_grow_2_44 : decode cJ4_grow_2 44 = .ok (.areturn, 1) := dk_176 (dk_at dksJ4_grow_2_1 20 rfl rfl)
theorem dJ4_grow_2_45 : decode cJ4_grow_2 45 = .ok (.aload_n 0, 1) := dk_42 (dk_at dksJ4_grow_2_1 21 rfl rfl)
theorem dJ4_grow_2_46 : decode cJ4_grow_2 46 = .ok (.bipush 10, 2) := dk_16 10 (dk_at dksJ4_grow_2_1 22 rfl rfl)
theorem dJ4_grow_2_48 : decode cJ4_grow_2 48 = .ok (.iload_n 1, 1) := dk_27 (dk_at dksJ4_grow_2_2 0 rfl rfl)
theorem dJ4_grow_2_49 : decode cJ4_grow_2 49 = .ok (.invokestatic 79, 3) := dk_184 0 79 (dk_at dksJ4_grow_2_2 1 rfl rfl)
theorem dJ4_grow_2_52 : decode cJ4_grow_2 52 = .ok (.anewarray 7, 3) := dk_189 0 7 (dk_at dksJ4_grow_2_2 4 rfl rfl)
theorem dJ4_grow_2_55 : decode cJ4_grow_2 55 = .ok (.dup_x1, 1) := dk_90 (dk_at dksJ4_grow_2_2 7 rfl rfl)
theorem dJ4_grow_2_56 : decode cJ4_grow_2 56 = .ok (.putfield 9, 3) := dk_181 0 9 (dk_at dksJ4_grow_2_2 8 rfl rfl)
theorem dJ4_grow_2_59 : decode cJ4_grow_2 59 = .ok (.areturn, 1) := dk_176 (dk_at dksJ4_grow_2_2 11 rfl rfl)
abbrev cJ4_size : ByteArray := prog_39_method_8_code
def yJ4_size : MethodName := ⟨RJ4, "size", "()I"⟩
theorem dJ4_size_0 : decode cJ4_size 0 = .ok (.aload_n 0, 1) := by decide +kernel
theorem dJ4_size_1 : decode cJ4_size 1 = .ok (.getfield 48, 3) := by decide +kernel
theorem dJ4_size_4 : decode cJ4_size 4 = .ok (.ireturn, 1) := by decide +kernel
abbrev cJ4_get : ByteArray := prog_39_method_20_code
def yJ4_get : MethodName := ⟨RJ4, "get", "(I)Ljava/lang/Object;"⟩
def dkwJ4_get_0 : List UInt8 := [27, 42, 180, 0, 48, 184, 0, 118, 87, 42, 27, 182, 0, 123, 176]
abbrev dktJ4_get_0 : List UInt8 := dkwJ4_get_0 ++ []
theorem dksJ4_get_0 : cJ4_get.data.toList.drop 0 = dktJ4_get_0 := by decide +kernel
theorem dJ4_get_0 : decode cJ4_get 0 = .ok (.iload_n 1, 1) := dk_27 (dk_at dksJ4_get_0 0 rfl rfl)
theorem dJ4_get_1 : decode cJ4_get 1 = .ok (.aload_n 0, 1) := dk_42 (dk_at dksJ4_get_0 1 rfl rfl)
theorem dJ4_get_2 : decode cJ4_get 2 = .ok (.getfield 48, 3) := dk_180 0 48 (dk_at dksJ4_get_0 2 rfl rfl)
theorem dJ4_get_5 : decode cJ4_get 5 = .ok (.invokestatic 118, 3) := dk_184 0 118 (dk_at dksJ4_get_0 5 rfl rfl)
theorem dJ4_get_8 : decode cJ4_get 8 = .ok (.pop, 1) := dk_87 (dk_at dksJ4_get_0 8 rfl rfl)
theorem dJ4_get_9 : decode cJ4_get 9 = .ok (.aload_n 0, 1) := dk_42 (dk_at dksJ4_get_0 9 rfl rfl)
theorem dJ4_get_10 : decode cJ4_get 10 = .ok (.iload_n 1, 1) := dk_27 (dk_at dksJ4_get_0 10 rfl rfl)
theorem dJ4_get_11 : decode cJ4_get 11 = .ok (.invokevirtual 123, 3) := dk_182 0 123 (dk_at dksJ4_get_0 11 rfl rfl)
theorem dJ4_get_14 : decode cJ4_get 14 = .ok (.areturn, 1) := dk_176 (dk_at dksJ4_get_0 14 rfl rfl)
abbrev cJ4_elementData : ByteArray := prog_39_method_18_code
def yJ4_elementData : MethodName := ⟨RJ4, "elementData", "(I)Ljava/lang/Object;"⟩
def dkwJ4_elementData_0 : List UInt8 := [42, 180, 0, 9, 27, 50, 176]
abbrev dktJ4_elementData_0 : List UInt8 := dkwJ4_elementData_0 ++ []
theorem dksJ4_elementData_0 : cJ4_elementData.data.toList.drop 0 = dktJ4_elementData_0 := by decide +kernel
theorem dJ4_elementData_0 : decode cJ4_elementData 0 = .ok (.aload_n 0, 1) := dk_42 (dk_at dksJ4_elementData_0 0 rfl rfl)
theorem dJ4_elementData_1 : decode cJ4_elementData 1 = .ok (.getfield 9, 3) := dk_180 0 9 (dk_at dksJ4_elementData_0 1 rfl rfl)
theorem dJ4_elementData_4 : decode cJ4_elementData 4 = .ok (.iload_n 1, 1) := dk_27 (dk_at dksJ4_elementData_0 4 rfl rfl)
theorem dJ4_elementData_5 : decode cJ4_elementData 5 = .ok (.aaload, 1) := dk_50 (dk_at dksJ4_elementData_0 5 rfl rfl)
theorem dJ4_elementData_6 : decode cJ4_elementData 6 = .ok (.areturn, 1) := dk_176 (dk_at dksJ4_elementData_0 6 rfl rfl)
abbrev cJ4_isEmpty : ByteArray := prog_39_method_9_code
def yJ4_isEmpty : MethodName := ⟨RJ4, "isEmpty", "()Z"⟩
def dkwJ4_isEmpty_0 : List UInt8 := [42, 180, 0, 48, 154, 0, 7, 4, 167, 0, 4, 3, 172]
abbrev dktJ4_isEmpty_0 : List UInt8 := dkwJ4_isEmpty_0 ++ []
theorem dksJ4_isEmpty_0 : cJ4_isEmpty.data.toList.drop 0 = dktJ4_isEmpty_0 := by decide +kernel
theorem dJ4_isEmpty_0 : decode cJ4_isEmpty 0 = .ok (.aload_n 0, 1) := dk_42 (dk_at dksJ4_isEmpty_0 0 rfl rfl)
theorem dJ4_isEmpty_1 : decode cJ4_isEmpty 1 = .ok (.getfield 48, 3) := dk_180 0 48 (dk_at dksJ4_isEmpty_0 1 rfl rfl)
theorem dJ4_isEmpty_4 : decode cJ4_isEmpty 4 = .ok (.ifCond .ne 7, 3) := dk_154 0 7 (dk_at dksJ4_isEmpty_0 4 rfl rfl)
theorem dJ4_isEmpty_7 : decode cJ4_isEmpty 7 = .ok (.iconst 1, 1) := dk_4 (dk_at dksJ4_isEmpty_0 7 rfl rfl)
theorem dJ4_isEmpty_8 : decode cJ4_isEmpty 8 = .ok (.goto 4, 3) := dk_167 0 4 (dk_at dksJ4_isEmpty_0 8 rfl rfl)
theorem dJ4_isEmpty_11 : decode cJ4_isEmpty 11 = .ok (.iconst 0, 1) := dk_3 (dk_at dksJ4_isEmpty_0 11 rfl rfl)
theorem dJ4_isEmpty_12 : decode cJ4_isEmpty 12 = .ok (.ireturn, 1) := dk_172 (dk_at dksJ4_isEmpty_0 12 rfl rfl)
abbrev cJ4_remove : ByteArray := prog_39_method_29_code
def yJ4_remove : MethodName := ⟨RJ4, "remove", "(I)Ljava/lang/Object;"⟩
def dkwJ4_remove_1 : List UInt8 := [45, 176]
abbrev dktJ4_remove_1 : List UInt8 := dkwJ4_remove_1 ++ []
def dkwJ4_remove_0 : List UInt8 := [27, 42, 180, 0, 48, 184, 0, 118, 87, 42, 180, 0, 9, 77, 44, 27, 50, 78, 42, 44, 27, 182, 0, 144]
abbrev dktJ4_remove_0 : List UInt8 := dkwJ4_remove_0 ++ dktJ4_remove_1
theorem dksJ4_remove_0 : cJ4_remove.data.toList.drop 0 = dktJ4_remove_0 := by decide +kernel
theorem dksJ4_remove_1 : cJ4_remove.data.toList.drop 24 = dktJ4_remove_1 := dk_seg dksJ4_remove_0 24 rfl rfl
theorem dJ4_remove_0 : decode cJ4_remove 0 = .ok (.iload_n 1, 1) := dk_27 (dk_at dksJ4_remove_0 0 rfl rfl)
theorem dJ4_remove_1 : decode cJ4_remove 1 = .ok (.aload_n 0, 1) := dk_42 (dk_at dksJ4_remove_0 1 rfl rfl)
theorem dJ4_remove_2 : decode cJ4_remove 2 = .ok (.getfield 48, 3) := dk_180 0 48 (dk_at dksJ4_remove_0 2 rfl rfl)
theorem dJ4_remove_5 : decode cJ4_remove 5 = .ok (.invokestatic 118, 3) := dk_184 0 118 (dk_at dksJ4_remove_0 5 rfl rfl)
theorem dJ4_remove_8 : decode cJ4_remove 8 = .ok (.pop, 1) := dk_87 (dk_at dksJ4_remove_0 8 rfl rfl)
theorem dJ4_remove_9 : decode cJ4_remove 9 = .ok (.aload_n 0, 1) := dk_42 (dk_at dksJ4_remove_0 9 rfl rfl)
theorem dJ4_remove_10 : decode cJ4_remove 10 = .ok (.getfield 9, 3) := dk_180 0 9 (dk_at dksJ4_remove_0 10 rfl rfl)
theorem dJ4_remove_13 : decode cJ4_remove 13 = .ok (.astore_n 2, 1) := dk_77 (dk_at dksJ4_remove_0 13 rfl rfl)
theorem dJ4_remove_14 : decode cJ4_remove 14 = .ok (.aload_n 2, 1) := dk_44 (dk_at dksJ4_remove_0 14 rfl rfl)
theorem dJ4_remove_15 : decode cJ4_remove 15 = .ok (.iload_n 1, 1) := dk_27 (dk_at dksJ4_remove_0 15 rfl rfl)
theorem dJ4_remove_16 : decode cJ4_remove 16 = .ok (.aaload, 1) := dk_50 (dk_at dksJ4_remove_0 16 rfl rfl)
theorem dJ4_remove_17 : decode cJ4_remove 17 = .ok (.astore_n 3, 1) := dk_78 (dk_at dksJ4_remove_0 17 rfl rfl)
theorem dJ4_remove_18 : decode cJ4_remove 18 = .ok (.aload_n 0, 1) := dk_42 (dk_at dksJ4_remove_0 18 rfl rfl)
theorem dJ4_remove_19 : decode cJ4_remove 19 = .ok (.aload_n 2, 1) := dk_44 (dk_at dksJ4_remove_0 19 rfl rfl)
theorem dJ4_remove_20 : decode cJ4_remove 20 = .ok (.iload_n 1, 1) := dk_27 (dk_at dksJ4_remove_0 20 rfl rfl)
theorem dJ4_remove_21 : decode cJ4_remove 21 = .ok (.invokevirtual 144, 3) := dk_182 0 144 (dk_at dksJ4_remove_0 21 rfl rfl)
theorem dJ4_remove_24 : decode cJ4_remove 24 = .ok (.aload_n 3, 1) := dk_45 (dk_at dksJ4_remove_1 0 rfl rfl)
theorem dJ4_remove_25 : decode cJ4_remove 25 = .ok (.areturn, 1) := dk_176 (dk_at dksJ4_remove_1 1 rfl rfl)
abbrev cJ4_fastRemove : ByteArray := prog_39_method_39_code
def yJ4_fastRemove : MethodName := ⟨RJ4, "fastRemove", "([Ljava/lang/Object;I)V"⟩
def dkwJ4_fastRemove_1 : List UInt8 := [4, 96, 43, 28, 29, 28, 100, 184, 0, 112, 43, 42, 29, 90, 181, 0, 48, 1, 83, 177]
abbrev dktJ4_fastRemove_1 : List UInt8 := dkwJ4_fastRemove_1 ++ []
def dkwJ4_fastRemove_0 : List UInt8 := [42, 89, 180, 0, 63, 4, 96, 181, 0, 63, 42, 180, 0, 48, 4, 100, 89, 62, 28, 164, 0, 15, 43, 28]
abbrev dktJ4_fastRemove_0 : List UInt8 := dkwJ4_fastRemove_0 ++ dktJ4_fastRemove_1
theorem dksJ4_fastRemove_0 : cJ4_fastRemove.data.toList.drop 0 = dktJ4_fastRemove_0 := by decide +kernel
theorem dksJ4_fastRemove_1 : cJ4_fastRemove.data.toList.drop 24 = dktJ4_fastRemove_1 := dk_seg dksJ4_fastRemove_0 24 rfl rfl
theorem dJ4_fastRemove_0 : decode cJ4_fastRemove 0 = .ok (.aload_n 0, 1) := dk_42 (dk_at dksJ4_fastRemove_0 0 rfl rfl)
theorem dJ4_fastRemove_1 : decode cJ4_fastRemove 1 = .ok (.dup, 1) := dk_89 (dk_at dksJ4_fastRemove_0 1 rfl rfl)
theorem dJ4_fastRemove_2 : decode cJ4_fastRemove 2 = .ok (.getfield 63, 3) := dk_180 0 63 (dk_at dksJ4_fastRemove_0 2 rfl rfl)
theorem dJ4_fastRemove_5 : decode cJ4_fastRemove 5 = .ok (.iconst 1, 1) := dk_4 (dk_at dksJ4_fastRemove_0 5 rfl rfl)
theorem dJ4_fastRemove_6 : decode cJ4_fastRemove 6 = .ok (.iadd, 1) := dk_96 (dk_at dksJ4_fastRemove_0 6 rfl rfl)
theorem dJ4_fastRemove_7 : decode cJ4_fastRemove 7 = .ok (.putfield 63, 3) := dk_181 0 63 (dk_at dksJ4_fastRemove_0 7 rfl rfl)
theorem dJ4_fastRemove_10 : decode cJ4_fastRemove 10 = .ok (.aload_n 0, 1) := dk_42 (dk_at dksJ4_fastRemove_0 10 rfl rfl)
theorem dJ4_fastRemove_11 : decode cJ4_fastRemove 11 = .ok (.getfield 48, 3) := dk_180 0 48 (dk_at dksJ4_fastRemove_0 11 rfl rfl)
theorem dJ4_fastRemove_14 : decode cJ4_fastRemove 14 = .ok (.iconst 1, 1) := dk_4 (dk_at dksJ4_fastRemove_0 14 rfl rfl)
theorem dJ4_fastRemove_15 : decode cJ4_fastRemove 15 = .ok (.isub, 1) := dk_100 (dk_at dksJ4_fastRemove_0 15 rfl rfl)
theorem dJ4_fastRemove_16 : decode cJ4_fastRemove 16 = .ok (.dup, 1) := dk_89 (dk_at dksJ4_fastRemove_0 16 rfl rfl)
theorem dJ4_fastRemove_17 : decode cJ4_fastRemove 17 = .ok (.istore_n 3, 1) := dk_62 (dk_at dksJ4_fastRemove_0 17 rfl rfl)
theorem dJ4_fastRemove_18 : decode cJ4_fastRemove 18 = .ok (.iload_n 2, 1) := dk_28 (dk_at dksJ4_fastRemove_0 18 rfl rfl)
theorem dJ4_fastRemove_19 : decode cJ4_fastRemove 19 = .ok (.if_icmp .le 15, 3) := dk_164 0 15 (dk_at dksJ4_fastRemove_0 19 rfl rfl)
theorem dJ4_fastRemove_22 : decode cJ4_fastRemove 22 = .ok (.aload_n 1, 1) := dk_43 (dk_at dksJ4_fastRemove_0 22 rfl rfl)
theorem dJ4_fastRemove_23 : decode cJ4_fastRemove 23 = .ok (.iload_n 2, 1) := dk_28 (dk_at dksJ4_fastRemove_0 23 rfl rfl)
theorem dJ4_fastRemove_24 : decode cJ4_fastRemove 24 = .ok (.iconst 1, 1) := dk_4 (dk_at dksJ4_fastRemove_1 0 rfl rfl)
theorem dJ4_fastRemove_25 : decode cJ4_fastRemove 25 = .ok (.iadd, 1) := dk_96 (dk_at dksJ4_fastRemove_1 1 rfl rfl)
theorem dJ4_fastRemove_26 : decode cJ4_fastRemove 26 = .ok (.aload_n 1, 1) := dk_43 (dk_at dksJ4_fastRemove_1 2 rfl rfl)
theorem dJ4_fastRemove_27 : decode cJ4_fastRemove 27 = .ok (.iload_n 2, 1) := dk_28 (dk_at dksJ4_fastRemove_1 3 rfl rfl)
theorem dJ4_fastRemove_28 : decode cJ4_fastRemove 28 = .ok (.iload_n 3, 1) := dk_29 (dk_at dksJ4_fastRemove_1 4 rfl rfl)
theorem dJ4_fastRemove_29 : decode cJ4_fastRemove 29 = .ok (.iload_n 2, 1) := dk_28 (dk_at dksJ4_fastRemove_1 5 rfl rfl)
theorem dJ4_fastRemove_30 : decode cJ4_fastRemove 30 = .ok (.isub, 1) := dk_100 (dk_at dksJ4_fastRemove_1 6 rfl rfl)
theorem dJ4_fastRemove_31 : decode cJ4_fastRemove 31 = .ok (.invokestatic 112, 3) := dk_184 0 112 (dk_at dksJ4_fastRemove_1 7 rfl rfl)
theorem dJ4_fastRemove_34 : decode cJ4_fastRemove 34 = .ok (.aload_n 1, 1) := dk_43 (dk_at dksJ4_fastRemove_1 10 rfl rfl)
theorem dJ4_fastRemove_35 : decode cJ4_fastRemove 35 = .ok (.aload_n 0, 1) := dk_42 (dk_at dksJ4_fastRemove_1 11 rfl rfl)
theorem dJ4_fastRemove_36 : decode cJ4_fastRemove 36 = .ok (.iload_n 3, 1) := dk_29 (dk_at dksJ4_fastRemove_1 12 rfl rfl)
theorem dJ4_fastRemove_37 : decode cJ4_fastRemove 37 = .ok (.dup_x1, 1) := dk_90 (dk_at dksJ4_fastRemove_1 13 rfl rfl)
theorem dJ4_fastRemove_38 : decode cJ4_fastRemove 38 = .ok (.putfield 48, 3) := dk_181 0 48 (dk_at dksJ4_fastRemove_1 14 rfl rfl)
theorem dJ4_fastRemove_41 : decode cJ4_fastRemove 41 = .ok (.aconst_null, 1) := dk_1 (dk_at dksJ4_fastRemove_1 17 rfl rfl)
theorem dJ4_fastRemove_42 : decode cJ4_fastRemove 42 = .ok (.aastore, 1) := dk_83 (dk_at dksJ4_fastRemove_1 18 rfl rfl)
theorem dJ4_fastRemove_43 : decode cJ4_fastRemove 43 = .ok (.return_, 1) := dk_177 (dk_at dksJ4_fastRemove_1 19 rfl rfl)
theorem q57 : (Jvm.Cond.initialized "java/util/ArrayList") ∈ lw_all := lw_g (lw_at lw_m1 17 rfl) rfl
theorem q243 : (Jvm.Cond.instantiable "java/util/ArrayList" (3 : Nat)) ∈ lw_all := lw_g (lw_at lw_m1 203 rfl) rfl
theorem q245 : (Jvm.Cond.instanceMethod ({ cls := "java/util/ArrayList", name := "<init>", desc := "()V" } : Jvm.MethodName)) ∈ lw_all := lw_g (lw_at lw_m1 205 rfl) rfl
theorem q246 : (Jvm.Cond.code ({ cls := "java/util/ArrayList", name := "<init>", desc := "()V" } : Jvm.MethodName) prog_39_method_2_code (1 : Nat) (Option.none : Option Jvm.ClassFile.FieldType)) ∈ lw_all := lw_g (lw_at lw_m1 206 rfl) rfl
theorem q247 : (Jvm.Cond.methodLink "java/util/ArrayList" (1 : Nat) ({ cls := "java/util/AbstractList", name := "<init>", desc := "()V" } : Jvm.MethodName)) ∈ lw_all := lw_g (lw_at lw_m1 207 rfl) rfl
theorem q254 : (Jvm.Cond.fieldLink "java/util/ArrayList" (39 : Nat) "java/util/ArrayList" "DEFAULTCAPACITY_EMPTY_ELEMENTDATA" "[Ljava/lang/Object;") ∈ lw_all := lw_g (lw_at lw_m1 214 rfl) rfl
theorem q255 : (Jvm.Cond.laysStatic "java/util/ArrayList" "DEFAULTCAPACITY_EMPTY_ELEMENTDATA" "[Ljava/lang/Object;") ∈ lw_tbl := lw_at lw_m1 215 rfl
theorem q256 : (Jvm.Cond.fieldLink "java/util/ArrayList" (9 : Nat) "java/util/ArrayList" "elementData" "[Ljava/lang/Object;") ∈ lw_all := lw_g (lw_at lw_m1 216 rfl) rfl
theorem q259 : (Jvm.Cond.fieldLink "java/util/ArrayList" (48 : Nat) "java/util/ArrayList" "size" "I") ∈ lw_all := lw_g (lw_at lw_m1 219 rfl) rfl
theorem q262 : (Jvm.Cond.sameField "java/util/ArrayList" "java/util/AbstractList" "modCount" "I") ∈ lw_all := lw_g (lw_at lw_m1 222 rfl) rfl
theorem q263 : (Jvm.Cond.fieldLink "java/util/ArrayList" (63 : Nat) "java/util/ArrayList" "modCount" "I") ∈ lw_all := lw_g (lw_at lw_m1 223 rfl) rfl
theorem q264 : (Jvm.Cond.lays "java/util/ArrayList" "java/util/ArrayList" "elementData" "[Ljava/lang/Object;") ∈ lw_all := lw_g (lw_at lw_m1 224 rfl) rfl
theorem q265 : (Jvm.Cond.soleField "java/util/ArrayList" "elementData") ∈ lw_all := lw_g (lw_at lw_m1 225 rfl) rfl
theorem q266 : (Jvm.Cond.lays "java/util/ArrayList" "java/util/ArrayList" "size" "I") ∈ lw_all := lw_g (lw_at lw_m1 226 rfl) rfl
theorem q267 : (Jvm.Cond.soleField "java/util/ArrayList" "size") ∈ lw_all := lw_g (lw_at lw_m1 227 rfl) rfl
theorem q268 : (Jvm.Cond.lays "java/util/ArrayList" "java/util/AbstractList" "modCount" "I") ∈ lw_all := lw_g (lw_at lw_m1 228 rfl) rfl
theorem q270 : (Jvm.Cond.superclass "java/util/ArrayList" "java/util/AbstractList") ∈ lw_all := lw_g (lw_at lw_m1 230 rfl) rfl
theorem q384 : (Jvm.Cond.castable "java/util/ArrayList" "java/util/List") ∈ lw_tbl := lw_at lw_m2 104 rfl
theorem q385 : (Jvm.Cond.selects "java/util/ArrayList" ({ cls := "java/util/List", name := "iterator", desc := "()Ljava/util/Iterator;" } : Jvm.MethodName) ({ cls := "java/util/ArrayList", name := "iterator", desc := "()Ljava/util/Iterator;" } : Jvm.MethodName)) ∈ lw_all := lw_g (lw_at lw_m2 105 rfl) rfl
theorem q386 : (Jvm.Cond.unhidden "java/util/ArrayList" "iterator" "()Ljava/util/Iterator;") ∈ lw_tbl := lw_at lw_m2 106 rfl
theorem q387 : (Jvm.Cond.instanceMethod ({ cls := "java/util/ArrayList", name := "iterator", desc := "()Ljava/util/Iterator;" } : Jvm.MethodName)) ∈ lw_all := lw_g (lw_at lw_m2 107 rfl) rfl
theorem q388 : (Jvm.Cond.publicMethod ({ cls := "java/util/ArrayList", name := "iterator", desc := "()Ljava/util/Iterator;" } : Jvm.MethodName)) ∈ lw_tbl := lw_at lw_m2 108 rfl
theorem q389 : (Jvm.Cond.code ({ cls := "java/util/ArrayList", name := "iterator", desc := "()Ljava/util/Iterator;" } : Jvm.MethodName) prog_39_method_55_code (1 : Nat) (Option.some (Jvm.ClassFile.FieldType.object "java/util/Iterator"))) ∈ lw_all := lw_g (lw_at lw_m2 109 rfl) rfl
theorem q390 : (Jvm.Cond.classLink "java/util/ArrayList" (267 : Nat) "java/util/ArrayList$Itr") ∈ lw_all := lw_g (lw_at lw_m2 110 rfl) rfl
theorem q392 : (Jvm.Cond.methodLink "java/util/ArrayList" (269 : Nat) ({ cls := "java/util/ArrayList$Itr", name := "<init>", desc := "(Ljava/util/ArrayList;)V" } : Jvm.MethodName)) ∈ lw_all := lw_g (lw_at lw_m2 112 rfl) rfl
theorem q769 : (Jvm.Cond.selects "java/util/ArrayList" ({ cls := "java/util/List", name := "add", desc := "(Ljava/lang/Object;)Z" } : Jvm.MethodName) ({ cls := "java/util/ArrayList", name := "add", desc := "(Ljava/lang/Object;)Z" } : Jvm.MethodName)) ∈ lw_all := lw_g (lw_at lw_m4 9 rfl) rfl
theorem q770 : (Jvm.Cond.unhidden "java/util/ArrayList" "add" "(Ljava/lang/Object;)Z") ∈ lw_tbl := lw_at lw_m4 10 rfl
theorem q771 : (Jvm.Cond.instanceMethod ({ cls := "java/util/ArrayList", name := "add", desc := "(Ljava/lang/Object;)Z" } : Jvm.MethodName)) ∈ lw_all := lw_g (lw_at lw_m4 11 rfl) rfl
theorem q772 : (Jvm.Cond.publicMethod ({ cls := "java/util/ArrayList", name := "add", desc := "(Ljava/lang/Object;)Z" } : Jvm.MethodName)) ∈ lw_tbl := lw_at lw_m4 12 rfl
theorem q773 : (Jvm.Cond.code ({ cls := "java/util/ArrayList", name := "add", desc := "(Ljava/lang/Object;)Z" } : Jvm.MethodName) prog_39_method_25_code (2 : Nat) (Option.some Jvm.ClassFile.FieldType.boolean)) ∈ lw_all := lw_g (lw_at lw_m4 13 rfl) rfl
theorem q774 : (Jvm.Cond.methodLink "java/util/ArrayList" (131 : Nat) ({ cls := "java/util/ArrayList", name := "add", desc := "(Ljava/lang/Object;[Ljava/lang/Object;I)V" } : Jvm.MethodName)) ∈ lw_all := lw_g (lw_at lw_m4 14 rfl) rfl
theorem q775 : (Jvm.Cond.privateMethod ({ cls := "java/util/ArrayList", name := "add", desc := "(Ljava/lang/Object;[Ljava/lang/Object;I)V" } : Jvm.MethodName)) ∈ lw_tbl := lw_at lw_m4 15 rfl
theorem q776 : (Jvm.Cond.instanceMethod ({ cls := "java/util/ArrayList", name := "add", desc := "(Ljava/lang/Object;[Ljava/lang/Object;I)V" } : Jvm.MethodName)) ∈ lw_all := lw_g (lw_at lw_m4 16 rfl) rfl
theorem q777 : (Jvm.Cond.code ({ cls := "java/util/ArrayList", name := "add", desc := "(Ljava/lang/Object;[Ljava/lang/Object;I)V" } : Jvm.MethodName) prog_39_method_24_code (4 : Nat) (Option.none : Option Jvm.ClassFile.FieldType)) ∈ lw_all := lw_g (lw_at lw_m4 17 rfl) rfl
theorem q778 : (Jvm.Cond.methodLink "java/util/ArrayList" (129 : Nat) ({ cls := "java/util/ArrayList", name := "grow", desc := "()[Ljava/lang/Object;" } : Jvm.MethodName)) ∈ lw_all := lw_g (lw_at lw_m4 18 rfl) rfl
theorem q779 : (Jvm.Cond.privateMethod ({ cls := "java/util/ArrayList", name := "grow", desc := "()[Ljava/lang/Object;" } : Jvm.MethodName)) ∈ lw_tbl := lw_at lw_m4 19 rfl
theorem q780 : (Jvm.Cond.instanceMethod ({ cls := "java/util/ArrayList", name := "grow", desc := "()[Ljava/lang/Object;" } : Jvm.MethodName)) ∈ lw_all := lw_g (lw_at lw_m4 20 rfl) rfl
theorem q781 : (Jvm.Cond.code ({ cls := "java/util/ArrayList", name := "grow", desc := "()[Ljava/lang/Object;" } : Jvm.MethodName) prog_39_method_7_code (1 : Nat) (Option.some (Jvm.ClassFile.FieldType.array (Jvm.ClassFile.FieldType.object "java/lang/Object")))) ∈ lw_all := lw_g (lw_at lw_m4 21 rfl) rfl
theorem q782 : (Jvm.Cond.methodLink "java/util/ArrayList" (69 : Nat) ({ cls := "java/util/ArrayList", name := "grow", desc := "(I)[Ljava/lang/Object;" } : Jvm.MethodName)) ∈ lw_all := lw_g (lw_at lw_m4 22 rfl) rfl
theorem q783 : (Jvm.Cond.privateMethod ({ cls := "java/util/ArrayList", name := "grow", desc := "(I)[Ljava/lang/Object;" } : Jvm.MethodName)) ∈ lw_tbl := lw_at lw_m4 23 rfl
theorem q784 : (Jvm.Cond.instanceMethod ({ cls := "java/util/ArrayList", name := "grow", desc := "(I)[Ljava/lang/Object;" } : Jvm.MethodName)) ∈ lw_all := lw_g (lw_at lw_m4 24 rfl) rfl
theorem q785 : (Jvm.Cond.code ({ cls := "java/util/ArrayList", name := "grow", desc := "(I)[Ljava/lang/Object;" } : Jvm.MethodName) prog_39_method_6_code (4 : Nat) (Option.some (Jvm.ClassFile.FieldType.array (Jvm.ClassFile.FieldType.object "java/lang/Object")))) ∈ lw_all := lw_g (lw_at lw_m4 25 rfl) rfl
theorem q786 : (Jvm.Cond.methodLink "java/util/ArrayList" (73 : Nat) ({ cls := "jdk/internal/util/ArraysSupport", name := "newLength", desc := "(III)I" } : Jvm.MethodName)) ∈ lw_all := lw_g (lw_at lw_m4 26 rfl) rfl
theorem q796 : (Jvm.Cond.methodLink "java/util/ArrayList" (66 : Nat) ({ cls := "java/util/Arrays", name := "copyOf", desc := "([Ljava/lang/Object;I)[Ljava/lang/Object;" } : Jvm.MethodName)) ∈ lw_all := lw_g (lw_at lw_m4 36 rfl) rfl
theorem q822 : (Jvm.Cond.selects "java/util/ArrayList" ({ cls := "java/lang/Object", name := "getClass", desc := "()Ljava/lang/Class;" } : Jvm.MethodName) ({ cls := "java/lang/Object", name := "getClass", desc := "()Ljava/lang/Class;" } : Jvm.MethodName)) ∈ lw_all := lw_g (lw_at lw_m4 62 rfl) rfl
theorem q836 : (Jvm.Cond.methodLink "java/util/ArrayList" (79 : Nat) ({ cls := "java/lang/Math", name := "max", desc := "(II)I" } : Jvm.MethodName)) ∈ lw_all := lw_g (lw_at lw_m4 76 rfl) rfl
theorem q837 : (Jvm.Cond.classLink "java/util/ArrayList" (7 : Nat) "java/lang/Object") ∈ lw_all := lw_g (lw_at lw_m4 77 rfl) rfl
theorem q1012 : (Jvm.Cond.selects "java/util/ArrayList" ({ cls := "java/util/List", name := "size", desc := "()I" } : Jvm.MethodName) ({ cls := "java/util/ArrayList", name := "size", desc := "()I" } : Jvm.MethodName)) ∈ lw_all := lw_g (lw_at lw_m5 12 rfl) rfl
theorem q1013 : (Jvm.Cond.unhidden "java/util/ArrayList" "size" "()I") ∈ lw_tbl := lw_at lw_m5 13 rfl
theorem q1014 : (Jvm.Cond.instanceMethod ({ cls := "java/util/ArrayList", name := "size", desc := "()I" } : Jvm.MethodName)) ∈ lw_all := lw_g (lw_at lw_m5 14 rfl) rfl
theorem q1015 : (Jvm.Cond.publicMethod ({ cls := "java/util/ArrayList", name := "size", desc := "()I" } : Jvm.MethodName)) ∈ lw_tbl := lw_at lw_m5 15 rfl
theorem q1016 : (Jvm.Cond.code ({ cls := "java/util/ArrayList", name := "size", desc := "()I" } : Jvm.MethodName) prog_39_method_8_code (1 : Nat) (Option.some Jvm.ClassFile.FieldType.int)) ∈ lw_all := lw_g (lw_at lw_m5 16 rfl) rfl
theorem q1021 : (Jvm.Cond.selects "java/util/ArrayList" ({ cls := "java/util/List", name := "get", desc := "(I)Ljava/lang/Object;" } : Jvm.MethodName) ({ cls := "java/util/ArrayList", name := "get", desc := "(I)Ljava/lang/Object;" } : Jvm.MethodName)) ∈ lw_all := lw_g (lw_at lw_m5 21 rfl) rfl
theorem q1022 : (Jvm.Cond.unhidden "java/util/ArrayList" "get" "(I)Ljava/lang/Object;") ∈ lw_tbl := lw_at lw_m5 22 rfl
theorem q1023 : (Jvm.Cond.instanceMethod ({ cls := "java/util/ArrayList", name := "get", desc := "(I)Ljava/lang/Object;" } : Jvm.MethodName)) ∈ lw_all := lw_g (lw_at lw_m5 23 rfl) rfl
theorem q1024 : (Jvm.Cond.publicMethod ({ cls := "java/util/ArrayList", name := "get", desc := "(I)Ljava/lang/Object;" } : Jvm.MethodName)) ∈ lw_tbl := lw_at lw_m5 24 rfl
theorem q1025 : (Jvm.Cond.code ({ cls := "java/util/ArrayList", name := "get", desc := "(I)Ljava/lang/Object;" } : Jvm.MethodName) prog_39_method_20_code (2 : Nat) (Option.some (Jvm.ClassFile.FieldType.object "java/lang/Object"))) ∈ lw_all := lw_g (lw_at lw_m5 25 rfl) rfl
theorem q1026 : (Jvm.Cond.methodLink "java/util/ArrayList" (118 : Nat) ({ cls := "java/util/Objects", name := "checkIndex", desc := "(II)I" } : Jvm.MethodName)) ∈ lw_all := lw_g (lw_at lw_m5 26 rfl) rfl
theorem q1032 : (Jvm.Cond.methodLink "java/util/ArrayList" (123 : Nat) ({ cls := "java/util/ArrayList", name := "elementData", desc := "(I)Ljava/lang/Object;" } : Jvm.MethodName)) ∈ lw_all := lw_g (lw_at lw_m5 32 rfl) rfl
theorem q1033 : (Jvm.Cond.instanceMethod ({ cls := "java/util/ArrayList", name := "elementData", desc := "(I)Ljava/lang/Object;" } : Jvm.MethodName)) ∈ lw_all := lw_g (lw_at lw_m5 33 rfl) rfl
theorem q1034 : (Jvm.Cond.selects "java/util/ArrayList" ({ cls := "java/util/ArrayList", name := "elementData", desc := "(I)Ljava/lang/Object;" } : Jvm.MethodName) ({ cls := "java/util/ArrayList", name := "elementData", desc := "(I)Ljava/lang/Object;" } : Jvm.MethodName)) ∈ lw_all := lw_g (lw_at lw_m5 34 rfl) rfl
theorem q1035 : (Jvm.Cond.code ({ cls := "java/util/ArrayList", name := "elementData", desc := "(I)Ljava/lang/Object;" } : Jvm.MethodName) prog_39_method_18_code (2 : Nat) (Option.some (Jvm.ClassFile.FieldType.object "java/lang/Object"))) ∈ lw_all := lw_g (lw_at lw_m5 35 rfl) rfl
theorem q1044 : (Jvm.Cond.selects "java/util/ArrayList" ({ cls := "java/util/List", name := "isEmpty", desc := "()Z" } : Jvm.MethodName) ({ cls := "java/util/ArrayList", name := "isEmpty", desc := "()Z" } : Jvm.MethodName)) ∈ lw_all := lw_g (lw_at lw_m5 44 rfl) rfl
theorem q1045 : (Jvm.Cond.unhidden "java/util/ArrayList" "isEmpty" "()Z") ∈ lw_tbl := lw_at lw_m5 45 rfl
theorem q1046 : (Jvm.Cond.instanceMethod ({ cls := "java/util/ArrayList", name := "isEmpty", desc := "()Z" } : Jvm.MethodName)) ∈ lw_all := lw_g (lw_at lw_m5 46 rfl) rfl
theorem q1047 : (Jvm.Cond.publicMethod ({ cls := "java/util/ArrayList", name := "isEmpty", desc := "()Z" } : Jvm.MethodName)) ∈ lw_tbl := lw_at lw_m5 47 rfl
theorem q1048 : (Jvm.Cond.code ({ cls := "java/util/ArrayList", name := "isEmpty", desc := "()Z" } : Jvm.MethodName) prog_39_method_9_code (1 : Nat) (Option.some Jvm.ClassFile.FieldType.boolean)) ∈ lw_all := lw_g (lw_at lw_m5 48 rfl) rfl
theorem q1057 : (Jvm.Cond.selects "java/util/ArrayList" ({ cls := "java/util/List", name := "remove", desc := "(I)Ljava/lang/Object;" } : Jvm.MethodName) ({ cls := "java/util/ArrayList", name := "remove", desc := "(I)Ljava/lang/Object;" } : Jvm.MethodName)) ∈ lw_all := lw_g (lw_at lw_m5 57 rfl) rfl
theorem q1058 : (Jvm.Cond.unhidden "java/util/ArrayList" "remove" "(I)Ljava/lang/Object;") ∈ lw_tbl := lw_at lw_m5 58 rfl
theorem q1059 : (Jvm.Cond.instanceMethod ({ cls := "java/util/ArrayList", name := "remove", desc := "(I)Ljava/lang/Object;" } : Jvm.MethodName)) ∈ lw_all := lw_g (lw_at lw_m5 59 rfl) rfl
theorem q1060 : (Jvm.Cond.publicMethod ({ cls := "java/util/ArrayList", name := "remove", desc := "(I)Ljava/lang/Object;" } : Jvm.MethodName)) ∈ lw_tbl := lw_at lw_m5 60 rfl
theorem q1061 : (Jvm.Cond.code ({ cls := "java/util/ArrayList", name := "remove", desc := "(I)Ljava/lang/Object;" } : Jvm.MethodName) prog_39_method_29_code (4 : Nat) (Option.some (Jvm.ClassFile.FieldType.object "java/lang/Object"))) ∈ lw_all := lw_g (lw_at lw_m5 61 rfl) rfl
theorem q1062 : (Jvm.Cond.methodLink "java/util/ArrayList" (144 : Nat) ({ cls := "java/util/ArrayList", name := "fastRemove", desc := "([Ljava/lang/Object;I)V" } : Jvm.MethodName)) ∈ lw_all := lw_g (lw_at lw_m5 62 rfl) rfl
theorem q1063 : (Jvm.Cond.privateMethod ({ cls := "java/util/ArrayList", name := "fastRemove", desc := "([Ljava/lang/Object;I)V" } : Jvm.MethodName)) ∈ lw_tbl := lw_at lw_m5 63 rfl
theorem q1064 : (Jvm.Cond.instanceMethod ({ cls := "java/util/ArrayList", name := "fastRemove", desc := "([Ljava/lang/Object;I)V" } : Jvm.MethodName)) ∈ lw_all := lw_g (lw_at lw_m5 64 rfl) rfl
theorem q1065 : (Jvm.Cond.code ({ cls := "java/util/ArrayList", name := "fastRemove", desc := "([Ljava/lang/Object;I)V" } : Jvm.MethodName) prog_39_method_39_code (4 : Nat) (Option.none : Option Jvm.ClassFile.FieldType)) ∈ lw_all := lw_g (lw_at lw_m5 65 rfl) rfl
theorem q1066 : (Jvm.Cond.methodLink "java/util/ArrayList" (112 : Nat) ({ cls := "java/lang/System", name := "arraycopy", desc := "(Ljava/lang/Object;ILjava/lang/Object;II)V" } : Jvm.MethodName)) ∈ lw_all := lw_g (lw_at lw_m5 66 rfl) rfl
theorem q1375 : (Jvm.Cond.castable "java/util/ArrayList" "java/lang/Object") ∈ lw_tbl := lw_at lw_m6 135 rfl
theorem in_J4 : ∀ w ∈ wsJ40, w ∈ lw_all := lw_in wsJ40 [268, 264, 266] (by decide +kernel) (by decide +kernel)

/-! java/lang/Throwable -/
set_option maxRecDepth 100000
def RJ5 : String := "java/lang/Throwable"
def TJ5 : u_T := fun k => match k with
  | 0 => ("java/lang/Throwable", "cause", "Ljava/lang/Throwable;", false)
  | 1 => ("java/lang/Throwable", "stackTrace", "[Ljava/lang/StackTraceElement;", false)
  | 2 => ("java/lang/Throwable", "suppressedExceptions", "Ljava/util/List;", false)
  | 3 => ("java/lang/Throwable", "detailMessage", "Ljava/lang/String;", false)
  | _ => ("java/lang/Throwable", "backtrace", "Ljava/lang/Object;", false)
def tyJ5 : Nat → FieldType := fun k => match k with
  | 0 => .object "java/lang/Throwable"
  | 1 => .array (.object "java/lang/StackTraceElement")
  | 2 => .object "java/util/List"
  | 3 => .object "java/lang/String"
  | _ => .object "java/lang/Object"
abbrev wsJ50 : List Cond := u_ws RJ5 TJ5 5
theorem nmJ5 : ∀ a, a < 5 → ∀ b, b < 5 → a ≠ b → (TJ5 a).2.1 ≠ (TJ5 b).2.1 := by decide +kernel
theorem tyJ5_ok : ∀ k, k < 5 → parseFieldDescriptor (TJ5 k).2.2.1 = some (tyJ5 k) := by decide +kernel
abbrev cJ5_init : ByteArray := prog_35_method_1_code
def yJ5_init : MethodName := ⟨RJ5, "<init>", "()V"⟩
def dkwJ5_init_1 : List UInt8 := [182, 0, 27, 87, 177]
abbrev dktJ5_init_1 : List UInt8 := dkwJ5_init_1 ++ []
def dkwJ5_init_0 : List UInt8 := [42, 183, 0, 1, 42, 42, 181, 0, 7, 42, 178, 0, 13, 181, 0, 17, 42, 178, 0, 20, 181, 0, 24, 42]
abbrev dktJ5_init_0 : List UInt8 := dkwJ5_init_0 ++ dktJ5_init_1
theorem dksJ5_init_0 : cJ5_init.data.toList.drop 0 = dktJ5_init_0 := by decide +kernel
theorem dksJ5_init_1 : cJ5_init.data.toList.drop 24 = dktJ5_init_1 := dk_seg dksJ5_init_0 24 rfl rfl
theorem dJ5_init_0 : decode cJ5_init 0 = .ok (.aload_n 0, 1) := dk_42 (dk_at dksJ5_init_0 0 rfl rfl)
theorem dJ5_init_1 : decode cJ5_init 1 = .ok (.invokespecial 1, 3) := dk_183 0 1 (dk_at dksJ5_init_0 1 rfl rfl)
theorem dJ5_init_4 : decode cJ5_init 4 = .ok (.aload_n 0, 1) := dk_42 (dk_at dksJ5_init_0 4 rfl rfl)
theorem dJ5_init_5 : decode cJ5_init 5 = .ok (.aload_n 0, 1) := dk_42 (dk_at dksJ5_init_0 5 rfl rfl)
theorem dJ5_init_6 : decode cJ5_init 6 = .ok (.putfield 7, 3) := dk_181 0 7 (dk_at dksJ5_init_0 6 rfl rfl)
theorem dJ5_init_9 : decode cJ5_init 9 = .ok (.aload_n 0, 1) := dk_42 (dk_at dksJ5_init_0 9 rfl rfl)
theorem dJ5_init_10 : decode cJ5_init 10 = .ok (.getstatic 13, 3) := dk_178 0 13 (dk_at dksJ5_init_0 10 rfl rfl)
theorem dJ5_init_13 : decode cJ5_init 13 = .ok (.putfield 17, 3) := dk_181 0 17 (dk_at dksJ5_init_0 13 rfl rfl)
theorem dJ5_init_16 : decode cJ5_init 16 = .ok (.aload_n 0, 1) := dk_42 (dk_at dksJ5_init_0 16 rfl rfl)
theorem dJ5_init_17 : decode cJ5_init 17 = .ok (.getstatic 20, 3) := dk_178 0 20 (dk_at dksJ5_init_0 17 rfl rfl)
theorem dJ5_init_20 : decode cJ5_init 20 = .ok (.putfield 24, 3) := dk_181 0 24 (dk_at dksJ5_init_0 20 rfl rfl)
theorem dJ5_init_23 : decode cJ5_init 23 = .ok (.aload_n 0, 1) := dk_42 (dk_at dksJ5_init_0 23 rfl rfl)
theorem dJ5_init_24 : decode cJ5_init 24 = .ok (.invokevirtual 27, 3) := dk_182 0 27 (dk_at dksJ5_init_1 0 rfl rfl)
theorem dJ5_init_27 : decode cJ5_init 27 = .ok (.pop, 1) := dk_87 (dk_at dksJ5_init_1 3 rfl rfl)
theorem dJ5_init_28 : decode cJ5_init 28 = .ok (.return_, 1) := dk_177 (dk_at dksJ5_init_1 4 rfl rfl)
abbrev cJ5_init_2 : ByteArray := prog_35_method_2_code
def yJ5_init_2 : MethodName := ⟨RJ5, "<init>", "(Ljava/lang/String;)V"⟩
def dkwJ5_init_2_1 : List UInt8 := [182, 0, 27, 87, 42, 43, 181, 0, 31, 177]
abbrev dktJ5_init_2_1 : List UInt8 := dkwJ5_init_2_1 ++ []
def dkwJ5_init_2_0 : List UInt8 := [42, 183, 0, 1, 42, 42, 181, 0, 7, 42, 178, 0, 13, 181, 0, 17, 42, 178, 0, 20, 181, 0, 24, 42]
abbrev dktJ5_init_2_0 : List UInt8 := dkwJ5_init_2_0 ++ dktJ5_init_2_1
theorem dksJ5_init_2_0 : cJ5_init_2.data.toList.drop 0 = dktJ5_init_2_0 := by decide +kernel
theorem dksJ5_init_2_1 : cJ5_init_2.data.toList.drop 24 = dktJ5_init_2_1 := dk_seg dksJ5_init_2_0 24 rfl rfl
theorem dJ5_init_2_0 : decode cJ5_init_2 0 = .ok (.aload_n 0, 1) := dk_42 (dk_at dksJ5_init_2_0 0 rfl rfl)
theorem dJ5_init_2_1 : decode cJ5_init_2 1 = .ok (.invokespecial 1, 3) := dk_183 0 1 (dk_at dksJ5_init_2_0 1 rfl rfl)
theorem dJ5_init_2_4 : decode cJ5_init_2 4 = .ok (.aload_n 0, 1) := dk_42 (dk_at dksJ5_init_2_0 4 rfl rfl)
theorem dJ5_init_2_5 : decode cJ5_init_2 5 = .ok (.aload_n 0, 1) := dk_42 (dk_at dksJ5_init_2_0 5 rfl rfl)
theorem dJ5_init_2_6 : decode cJ5_init_2 6 = .ok (.putfield 7, 3) := dk_181 0 7 (dk_at dksJ5_init_2_0 6 rfl rfl)
theorem dJ5_init_2_9 : decode cJ5_init_2 9 = .ok (.aload_n 0, 1) := dk_42 (dk_at dksJ5_init_2_0 9 rfl rfl)
theorem dJ5_init_2_10 : decode cJ5_init_2 10 = .ok (.getstatic 13, 3) := dk_178 0 13 (dk_at dksJ5_init_2_0 10 rfl rfl)
theorem dJ5_init_2_13 : decode cJ5_init_2 13 = .ok (.putfield 17, 3) := dk_181 0 17 (dk_at dksJ5_init_2_0 13 rfl rfl)
theorem dJ5_init_2_16 : decode cJ5_init_2 16 = .ok (.aload_n 0, 1) := dk_42 (dk_at dksJ5_init_2_0 16 rfl rfl)
theorem dJ5_init_2_17 : decode cJ5_init_2 17 = .ok (.getstatic 20, 3) := dk_178 0 20 (dk_at dksJ5_init_2_0 17 rfl rfl)
theorem dJ5_init_2_20 : decode cJ5_init_2 20 = .ok (.putfield 24, 3) := dk_181 0 24 (dk_at dksJ5_init_2_0 20 rfl rfl)
theorem dJ5_init_2_23 : decode cJ5_init_2 23 = .ok (.aload_n 0, 1) := dk_42 (dk_at dksJ5_init_2_0 23 rfl rfl)
theorem dJ5_init_2_24 : decode cJ5_init_2 24 = .ok (.invokevirtual 27, 3) := dk_182 0 27 (dk_at dksJ5_init_2_1 0 rfl rfl)
theorem dJ5_init_2_27 : decode cJ5_init_2 27 = .ok (.pop, 1) := dk_87 (dk_at dksJ5_init_2_1 3 rfl rfl)
theorem dJ5_init_2_28 : decode cJ5_init_2 28 = .ok (.aload_n 0, 1) := dk_42 (dk_at dksJ5_init_2_1 4 rfl rfl)
theorem dJ5_init_2_29 : decode cJ5_init_2 29 = .ok (.aload_n 1, 1) := dk_43 (dk_at dksJ5_init_2_1 5 rfl rfl)
theorem dJ5_init_2_30 : decode cJ5_init_2 30 = .ok (.putfield 31, 3) := dk_181 0 31 (dk_at dksJ5_init_2_1 6 rfl rfl)
theorem dJ5_init_2_33 : decode cJ5_init_2 33 = .ok (.return_, 1) := dk_177 (dk_at dksJ5_init_2_1 9 rfl rfl)
theorem q59 : (Jvm.Cond.initialized "java/lang/Throwable") ∈ lw_all := lw_g (lw_at lw_m1 19 rfl) rfl
theorem q439 : (Jvm.Cond.declares ({ cls := "java/lang/Throwable", name := "<init>", desc := "()V" } : Jvm.MethodName)) ∈ lw_tbl := lw_at lw_m2 159 rfl
theorem q440 : (Jvm.Cond.declares ({ cls := "java/lang/Throwable", name := "<init>", desc := "(Ljava/lang/String;)V" } : Jvm.MethodName)) ∈ lw_tbl := lw_at lw_m2 160 rfl
theorem q444 : (Jvm.Cond.lays "java/lang/Throwable" "java/lang/Throwable" "cause" "Ljava/lang/Throwable;") ∈ lw_all := lw_g (lw_at lw_m2 164 rfl) rfl
theorem q446 : (Jvm.Cond.lays "java/lang/Throwable" "java/lang/Throwable" "stackTrace" "[Ljava/lang/StackTraceElement;") ∈ lw_all := lw_g (lw_at lw_m2 166 rfl) rfl
theorem q448 : (Jvm.Cond.lays "java/lang/Throwable" "java/lang/Throwable" "suppressedExceptions" "Ljava/util/List;") ∈ lw_all := lw_g (lw_at lw_m2 168 rfl) rfl
theorem q450 : (Jvm.Cond.lays "java/lang/Throwable" "java/lang/Throwable" "detailMessage" "Ljava/lang/String;") ∈ lw_all := lw_g (lw_at lw_m2 170 rfl) rfl
theorem q452 : (Jvm.Cond.lays "java/lang/Throwable" "java/lang/Throwable" "backtrace" "Ljava/lang/Object;") ∈ lw_all := lw_g (lw_at lw_m2 172 rfl) rfl
theorem q453 : (Jvm.Cond.fieldLink "java/lang/Throwable" (198 : Nat) "java/lang/Throwable" "backtrace" "Ljava/lang/Object;") ∈ lw_all := lw_g (lw_at lw_m2 173 rfl) rfl
theorem q454 : (Jvm.Cond.superclass "java/lang/Throwable" "java/lang/Object") ∈ lw_all := lw_g (lw_at lw_m2 174 rfl) rfl
theorem q455 : (Jvm.Cond.instanceMethod ({ cls := "java/lang/Throwable", name := "<init>", desc := "()V" } : Jvm.MethodName)) ∈ lw_all := lw_g (lw_at lw_m2 175 rfl) rfl
theorem q456 : (Jvm.Cond.code ({ cls := "java/lang/Throwable", name := "<init>", desc := "()V" } : Jvm.MethodName) prog_35_method_1_code (1 : Nat) (Option.none : Option Jvm.ClassFile.FieldType)) ∈ lw_all := lw_g (lw_at lw_m2 176 rfl) rfl
theorem q457 : (Jvm.Cond.methodLink "java/lang/Throwable" (1 : Nat) ({ cls := "java/lang/Object", name := "<init>", desc := "()V" } : Jvm.MethodName)) ∈ lw_all := lw_g (lw_at lw_m2 177 rfl) rfl
theorem q458 : (Jvm.Cond.fieldLink "java/lang/Throwable" (13 : Nat) "java/lang/Throwable" "UNASSIGNED_STACK" "[Ljava/lang/StackTraceElement;") ∈ lw_all := lw_g (lw_at lw_m2 178 rfl) rfl
theorem q459 : (Jvm.Cond.laysStatic "java/lang/Throwable" "UNASSIGNED_STACK" "[Ljava/lang/StackTraceElement;") ∈ lw_tbl := lw_at lw_m2 179 rfl
theorem q460 : (Jvm.Cond.fieldLink "java/lang/Throwable" (20 : Nat) "java/lang/Throwable" "SUPPRESSED_SENTINEL" "Ljava/util/List;") ∈ lw_all := lw_g (lw_at lw_m2 180 rfl) rfl
theorem q461 : (Jvm.Cond.laysStatic "java/lang/Throwable" "SUPPRESSED_SENTINEL" "Ljava/util/List;") ∈ lw_tbl := lw_at lw_m2 181 rfl
theorem q462 : (Jvm.Cond.methodLink "java/lang/Throwable" (27 : Nat) ({ cls := "java/lang/Throwable", name := "fillInStackTrace", desc := "()Ljava/lang/Throwable;" } : Jvm.MethodName)) ∈ lw_all := lw_g (lw_at lw_m2 182 rfl) rfl
theorem q463 : (Jvm.Cond.instanceMethod ({ cls := "java/lang/Throwable", name := "fillInStackTrace", desc := "()Ljava/lang/Throwable;" } : Jvm.MethodName)) ∈ lw_all := lw_g (lw_at lw_m2 183 rfl) rfl
theorem q464 : (Jvm.Cond.sameMethod "java/lang/Throwable" "java/lang/Throwable" "fillInStackTrace" "()Ljava/lang/Throwable;") ∈ lw_all := lw_g (lw_at lw_m2 184 rfl) rfl
theorem q470 : (Jvm.Cond.codeSync ({ cls := "java/lang/Throwable", name := "fillInStackTrace", desc := "()Ljava/lang/Throwable;" } : Jvm.MethodName) prog_35_method_18_code (1 : Nat) (Option.some (Jvm.ClassFile.FieldType.object "java/lang/Throwable"))) ∈ lw_all := lw_g (lw_at lw_m2 190 rfl) rfl
theorem q471 : (Jvm.Cond.methodLink "java/lang/Throwable" (202 : Nat) ({ cls := "java/lang/Throwable", name := "fillInStackTrace", desc := "(I)Ljava/lang/Throwable;" } : Jvm.MethodName)) ∈ lw_all := lw_g (lw_at lw_m2 191 rfl) rfl
theorem q472 : (Jvm.Cond.privateMethod ({ cls := "java/lang/Throwable", name := "fillInStackTrace", desc := "(I)Ljava/lang/Throwable;" } : Jvm.MethodName)) ∈ lw_tbl := lw_at lw_m2 192 rfl
theorem q473 : (Jvm.Cond.instanceMethod ({ cls := "java/lang/Throwable", name := "fillInStackTrace", desc := "(I)Ljava/lang/Throwable;" } : Jvm.MethodName)) ∈ lw_all := lw_g (lw_at lw_m2 193 rfl) rfl
theorem q474 : (Jvm.Cond.instantiable "java/lang/Throwable" (6 : Nat)) ∈ lw_all := lw_g (lw_at lw_m2 194 rfl) rfl
theorem q475 : (Jvm.Cond.native ({ cls := "java/lang/Throwable", name := "fillInStackTrace", desc := "(I)Ljava/lang/Throwable;" } : Jvm.MethodName)) ∈ lw_all := lw_g (lw_at lw_m2 195 rfl) rfl
theorem q486 : (Jvm.Cond.fieldLink "java/lang/Throwable" (198 : Nat) "java/lang/Throwable" "backtrace" "Ljava/lang/Object;") ∈ lw_all := lw_g (lw_at lw_m2 206 rfl) rfl
theorem q487 : (Jvm.Cond.fieldLink "java/lang/Throwable" (31 : Nat) "java/lang/Throwable" "detailMessage" "Ljava/lang/String;") ∈ lw_all := lw_g (lw_at lw_m2 207 rfl) rfl
theorem q488 : (Jvm.Cond.fieldLink "java/lang/Throwable" (7 : Nat) "java/lang/Throwable" "cause" "Ljava/lang/Throwable;") ∈ lw_all := lw_g (lw_at lw_m2 208 rfl) rfl
theorem q489 : (Jvm.Cond.fieldLink "java/lang/Throwable" (17 : Nat) "java/lang/Throwable" "stackTrace" "[Ljava/lang/StackTraceElement;") ∈ lw_all := lw_g (lw_at lw_m2 209 rfl) rfl
theorem q490 : (Jvm.Cond.fieldLink "java/lang/Throwable" (24 : Nat) "java/lang/Throwable" "suppressedExceptions" "Ljava/util/List;") ∈ lw_all := lw_g (lw_at lw_m2 210 rfl) rfl
theorem q491 : (Jvm.Cond.soleField "java/lang/Throwable" "backtrace") ∈ lw_all := lw_g (lw_at lw_m2 211 rfl) rfl
theorem q492 : (Jvm.Cond.soleField "java/lang/Throwable" "detailMessage") ∈ lw_all := lw_g (lw_at lw_m2 212 rfl) rfl
theorem q493 : (Jvm.Cond.soleField "java/lang/Throwable" "cause") ∈ lw_all := lw_g (lw_at lw_m2 213 rfl) rfl
theorem q494 : (Jvm.Cond.soleField "java/lang/Throwable" "stackTrace") ∈ lw_all := lw_g (lw_at lw_m2 214 rfl) rfl
theorem q496 : (Jvm.Cond.soleField "java/lang/Throwable" "depth") ∈ lw_all := lw_g (lw_at lw_m2 216 rfl) rfl
theorem q497 : (Jvm.Cond.soleField "java/lang/Throwable" "suppressedExceptions") ∈ lw_all := lw_g (lw_at lw_m2 217 rfl) rfl
theorem q576 : (Jvm.Cond.instanceMethod ({ cls := "java/lang/Throwable", name := "<init>", desc := "(Ljava/lang/String;)V" } : Jvm.MethodName)) ∈ lw_all := lw_g (lw_at lw_m3 56 rfl) rfl
theorem q577 : (Jvm.Cond.code ({ cls := "java/lang/Throwable", name := "<init>", desc := "(Ljava/lang/String;)V" } : Jvm.MethodName) prog_35_method_2_code (2 : Nat) (Option.none : Option Jvm.ClassFile.FieldType)) ∈ lw_all := lw_g (lw_at lw_m3 57 rfl) rfl
theorem q1361 : (Jvm.Cond.sameMethod "java/lang/Throwable" "java/lang/Throwable" "fillInStackTrace" "(I)Ljava/lang/Throwable;") ∈ lw_all := lw_g (lw_at lw_m6 121 rfl) rfl
theorem q1386 : (Jvm.Cond.castable "java/lang/Throwable" "java/lang/Object") ∈ lw_tbl := lw_at lw_m6 146 rfl
theorem in_J5 : ∀ w ∈ wsJ50, w ∈ lw_all := lw_in wsJ50 [444, 446, 448, 450, 452] (by decide +kernel) (by decide +kernel)

/-! java/lang/Exception -/
set_option maxRecDepth 100000
def RJ6 : String := "java/lang/Exception"
abbrev cJ6_init : ByteArray := prog_23_method_1_code
def yJ6_init : MethodName := ⟨RJ6, "<init>", "()V"⟩
theorem dJ6_init_0 : decode cJ6_init 0 = .ok (.aload_n 0, 1) := by decide +kernel
theorem dJ6_init_1 : decode cJ6_init 1 = .ok (.invokespecial 1, 3) := by decide +kernel
theorem dJ6_init_4 : decode cJ6_init 4 = .ok (.return_, 1) := by decide +kernel
abbrev cJ6_init_2 : ByteArray := prog_23_method_2_code
def yJ6_init_2 : MethodName := ⟨RJ6, "<init>", "(Ljava/lang/String;)V"⟩
def dkwJ6_init_2_0 : List UInt8 := [42, 43, 183, 0, 7, 177]
abbrev dktJ6_init_2_0 : List UInt8 := dkwJ6_init_2_0 ++ []
theorem dksJ6_init_2_0 : cJ6_init_2.data.toList.drop 0 = dktJ6_init_2_0 := by decide +kernel
theorem dJ6_init_2_0 : decode cJ6_init_2 0 = .ok (.aload_n 0, 1) := dk_42 (dk_at dksJ6_init_2_0 0 rfl rfl)
theorem dJ6_init_2_1 : decode cJ6_init_2 1 = .ok (.aload_n 1, 1) := dk_43 (dk_at dksJ6_init_2_0 1 rfl rfl)
theorem dJ6_init_2_2 : decode cJ6_init_2 2 = .ok (.invokespecial 7, 3) := dk_183 0 7 (dk_at dksJ6_init_2_0 2 rfl rfl)
theorem dJ6_init_2_5 : decode cJ6_init_2 5 = .ok (.return_, 1) := dk_177 (dk_at dksJ6_init_2_0 5 rfl rfl)
theorem q60 : (Jvm.Cond.initialized "java/lang/Exception") ∈ lw_all := lw_g (lw_at lw_m1 20 rfl) rfl
theorem q437 : (Jvm.Cond.declares ({ cls := "java/lang/Exception", name := "<init>", desc := "()V" } : Jvm.MethodName)) ∈ lw_tbl := lw_at lw_m2 157 rfl
theorem q438 : (Jvm.Cond.declares ({ cls := "java/lang/Exception", name := "<init>", desc := "(Ljava/lang/String;)V" } : Jvm.MethodName)) ∈ lw_tbl := lw_at lw_m2 158 rfl
theorem q483 : (Jvm.Cond.instanceMethod ({ cls := "java/lang/Exception", name := "<init>", desc := "()V" } : Jvm.MethodName)) ∈ lw_all := lw_g (lw_at lw_m2 203 rfl) rfl
theorem q484 : (Jvm.Cond.code ({ cls := "java/lang/Exception", name := "<init>", desc := "()V" } : Jvm.MethodName) prog_23_method_1_code (1 : Nat) (Option.none : Option Jvm.ClassFile.FieldType)) ∈ lw_all := lw_g (lw_at lw_m2 204 rfl) rfl
theorem q485 : (Jvm.Cond.methodLink "java/lang/Exception" (1 : Nat) ({ cls := "java/lang/Throwable", name := "<init>", desc := "()V" } : Jvm.MethodName)) ∈ lw_all := lw_g (lw_at lw_m2 205 rfl) rfl
theorem q573 : (Jvm.Cond.instanceMethod ({ cls := "java/lang/Exception", name := "<init>", desc := "(Ljava/lang/String;)V" } : Jvm.MethodName)) ∈ lw_all := lw_g (lw_at lw_m3 53 rfl) rfl
theorem q574 : (Jvm.Cond.code ({ cls := "java/lang/Exception", name := "<init>", desc := "(Ljava/lang/String;)V" } : Jvm.MethodName) prog_23_method_2_code (2 : Nat) (Option.none : Option Jvm.ClassFile.FieldType)) ∈ lw_all := lw_g (lw_at lw_m3 54 rfl) rfl
theorem q575 : (Jvm.Cond.methodLink "java/lang/Exception" (7 : Nat) ({ cls := "java/lang/Throwable", name := "<init>", desc := "(Ljava/lang/String;)V" } : Jvm.MethodName)) ∈ lw_all := lw_g (lw_at lw_m3 55 rfl) rfl

/-! java/lang/RuntimeException -/
set_option maxRecDepth 100000
def RJ7 : String := "java/lang/RuntimeException"
abbrev cJ7_init : ByteArray := prog_32_method_1_code
def yJ7_init : MethodName := ⟨RJ7, "<init>", "()V"⟩
theorem dJ7_init_0 : decode cJ7_init 0 = .ok (.aload_n 0, 1) := by decide +kernel
theorem dJ7_init_1 : decode cJ7_init 1 = .ok (.invokespecial 1, 3) := by decide +kernel
theorem dJ7_init_4 : decode cJ7_init 4 = .ok (.return_, 1) := by decide +kernel
abbrev cJ7_init_2 : ByteArray := prog_32_method_2_code
def yJ7_init_2 : MethodName := ⟨RJ7, "<init>", "(Ljava/lang/String;)V"⟩
def dkwJ7_init_2_0 : List UInt8 := [42, 43, 183, 0, 7, 177]
abbrev dktJ7_init_2_0 : List UInt8 := dkwJ7_init_2_0 ++ []
theorem dksJ7_init_2_0 : cJ7_init_2.data.toList.drop 0 = dktJ7_init_2_0 := by decide +kernel
theorem dJ7_init_2_0 : decode cJ7_init_2 0 = .ok (.aload_n 0, 1) := dk_42 (dk_at dksJ7_init_2_0 0 rfl rfl)
theorem dJ7_init_2_1 : decode cJ7_init_2 1 = .ok (.aload_n 1, 1) := dk_43 (dk_at dksJ7_init_2_0 1 rfl rfl)
theorem dJ7_init_2_2 : decode cJ7_init_2 2 = .ok (.invokespecial 7, 3) := dk_183 0 7 (dk_at dksJ7_init_2_0 2 rfl rfl)
theorem dJ7_init_2_5 : decode cJ7_init_2 5 = .ok (.return_, 1) := dk_177 (dk_at dksJ7_init_2_0 5 rfl rfl)
theorem q61 : (Jvm.Cond.initialized "java/lang/RuntimeException") ∈ lw_all := lw_g (lw_at lw_m1 21 rfl) rfl
theorem q435 : (Jvm.Cond.declares ({ cls := "java/lang/RuntimeException", name := "<init>", desc := "()V" } : Jvm.MethodName)) ∈ lw_tbl := lw_at lw_m2 155 rfl
theorem q436 : (Jvm.Cond.declares ({ cls := "java/lang/RuntimeException", name := "<init>", desc := "(Ljava/lang/String;)V" } : Jvm.MethodName)) ∈ lw_tbl := lw_at lw_m2 156 rfl
theorem q480 : (Jvm.Cond.instanceMethod ({ cls := "java/lang/RuntimeException", name := "<init>", desc := "()V" } : Jvm.MethodName)) ∈ lw_all := lw_g (lw_at lw_m2 200 rfl) rfl
theorem q481 : (Jvm.Cond.code ({ cls := "java/lang/RuntimeException", name := "<init>", desc := "()V" } : Jvm.MethodName) prog_32_method_1_code (1 : Nat) (Option.none : Option Jvm.ClassFile.FieldType)) ∈ lw_all := lw_g (lw_at lw_m2 201 rfl) rfl
theorem q482 : (Jvm.Cond.methodLink "java/lang/RuntimeException" (1 : Nat) ({ cls := "java/lang/Exception", name := "<init>", desc := "()V" } : Jvm.MethodName)) ∈ lw_all := lw_g (lw_at lw_m2 202 rfl) rfl
theorem q570 : (Jvm.Cond.instanceMethod ({ cls := "java/lang/RuntimeException", name := "<init>", desc := "(Ljava/lang/String;)V" } : Jvm.MethodName)) ∈ lw_all := lw_g (lw_at lw_m3 50 rfl) rfl
theorem q571 : (Jvm.Cond.code ({ cls := "java/lang/RuntimeException", name := "<init>", desc := "(Ljava/lang/String;)V" } : Jvm.MethodName) prog_32_method_2_code (2 : Nat) (Option.none : Option Jvm.ClassFile.FieldType)) ∈ lw_all := lw_g (lw_at lw_m3 51 rfl) rfl
theorem q572 : (Jvm.Cond.methodLink "java/lang/RuntimeException" (7 : Nat) ({ cls := "java/lang/Exception", name := "<init>", desc := "(Ljava/lang/String;)V" } : Jvm.MethodName)) ∈ lw_all := lw_g (lw_at lw_m3 52 rfl) rfl

/-! java/lang/IndexOutOfBoundsException -/
set_option maxRecDepth 100000
def RJ8 : String := "java/lang/IndexOutOfBoundsException"
def TJ8 : u_T := fun k => match k with
  | 0 => ("java/lang/Throwable", "cause", "Ljava/lang/Throwable;", false)
  | 1 => ("java/lang/Throwable", "stackTrace", "[Ljava/lang/StackTraceElement;", false)
  | 2 => ("java/lang/Throwable", "suppressedExceptions", "Ljava/util/List;", false)
  | 3 => ("java/lang/Throwable", "detailMessage", "Ljava/lang/String;", false)
  | 4 => ("java/lang/Throwable", "backtrace", "Ljava/lang/Object;", false)
  | _ => ("java/lang/Throwable", "depth", "I", false)
def tyJ8 : Nat → FieldType := fun k => match k with
  | 0 => .object "java/lang/Throwable"
  | 1 => .array (.object "java/lang/StackTraceElement")
  | 2 => .object "java/util/List"
  | 3 => .object "java/lang/String"
  | 4 => .object "java/lang/Object"
  | _ => .int
abbrev wsJ80 : List Cond := u_ws RJ8 TJ8 6
theorem nmJ8 : ∀ a, a < 6 → ∀ b, b < 6 → a ≠ b → (TJ8 a).2.1 ≠ (TJ8 b).2.1 := by decide +kernel
theorem tyJ8_ok : ∀ k, k < 6 → parseFieldDescriptor (TJ8 k).2.2.1 = some (tyJ8 k) := by decide +kernel
abbrev cJ8_init : ByteArray := prog_26_method_2_code
def yJ8_init : MethodName := ⟨RJ8, "<init>", "(Ljava/lang/String;)V"⟩
def dkwJ8_init_0 : List UInt8 := [42, 43, 183, 0, 7, 177]
abbrev dktJ8_init_0 : List UInt8 := dkwJ8_init_0 ++ []
theorem dksJ8_init_0 : cJ8_init.data.toList.drop 0 = dktJ8_init_0 := by decide +kernel
theorem dJ8_init_0 : decode cJ8_init 0 = .ok (.aload_n 0, 1) := dk_42 (dk_at dksJ8_init_0 0 rfl rfl)
theorem dJ8_init_1 : decode cJ8_init 1 = .ok (.aload_n 1, 1) := dk_43 (dk_at dksJ8_init_0 1 rfl rfl)
theorem dJ8_init_2 : decode cJ8_init 2 = .ok (.invokespecial 7, 3) := dk_183 0 7 (dk_at dksJ8_init_0 2 rfl rfl)
theorem dJ8_init_5 : decode cJ8_init 5 = .ok (.return_, 1) := dk_177 (dk_at dksJ8_init_0 5 rfl rfl)
abbrev cJ8_init_2 : ByteArray := prog_26_method_1_code
def yJ8_init_2 : MethodName := ⟨RJ8, "<init>", "()V"⟩
theorem dJ8_init_2_0 : decode cJ8_init_2 0 = .ok (.aload_n 0, 1) := by decide +kernel
theorem dJ8_init_2_1 : decode cJ8_init_2 1 = .ok (.invokespecial 1, 3) := by decide +kernel
theorem dJ8_init_2_4 : decode cJ8_init_2 4 = .ok (.return_, 1) := by decide +kernel
theorem q62 : (Jvm.Cond.initialized "java/lang/IndexOutOfBoundsException") ∈ lw_all := lw_g (lw_at lw_m1 22 rfl) rfl
theorem q468 : (Jvm.Cond.selects "java/lang/IndexOutOfBoundsException" ({ cls := "java/lang/Throwable", name := "fillInStackTrace", desc := "()Ljava/lang/Throwable;" } : Jvm.MethodName) ({ cls := "java/lang/Throwable", name := "fillInStackTrace", desc := "()Ljava/lang/Throwable;" } : Jvm.MethodName)) ∈ lw_all := lw_g (lw_at lw_m2 188 rfl) rfl
theorem q567 : (Jvm.Cond.instanceMethod ({ cls := "java/lang/IndexOutOfBoundsException", name := "<init>", desc := "(Ljava/lang/String;)V" } : Jvm.MethodName)) ∈ lw_all := lw_g (lw_at lw_m3 47 rfl) rfl
theorem q568 : (Jvm.Cond.code ({ cls := "java/lang/IndexOutOfBoundsException", name := "<init>", desc := "(Ljava/lang/String;)V" } : Jvm.MethodName) prog_26_method_2_code (2 : Nat) (Option.none : Option Jvm.ClassFile.FieldType)) ∈ lw_all := lw_g (lw_at lw_m3 48 rfl) rfl
theorem q569 : (Jvm.Cond.methodLink "java/lang/IndexOutOfBoundsException" (7 : Nat) ({ cls := "java/lang/RuntimeException", name := "<init>", desc := "(Ljava/lang/String;)V" } : Jvm.MethodName)) ∈ lw_all := lw_g (lw_at lw_m3 49 rfl) rfl
theorem q586 : (Jvm.Cond.declares ({ cls := "java/lang/IndexOutOfBoundsException", name := "<init>", desc := "()V" } : Jvm.MethodName)) ∈ lw_tbl := lw_at lw_m3 66 rfl
theorem q587 : (Jvm.Cond.declares ({ cls := "java/lang/IndexOutOfBoundsException", name := "<init>", desc := "(Ljava/lang/String;)V" } : Jvm.MethodName)) ∈ lw_tbl := lw_at lw_m3 67 rfl
theorem q610 : (Jvm.Cond.instantiable "java/lang/IndexOutOfBoundsException" (6 : Nat)) ∈ lw_all := lw_g (lw_at lw_m3 90 rfl) rfl
theorem q611 : (Jvm.Cond.castable "java/lang/IndexOutOfBoundsException" "java/lang/IndexOutOfBoundsException") ∈ lw_tbl := lw_at lw_m3 91 rfl
theorem q612 : (Jvm.Cond.selects "java/lang/IndexOutOfBoundsException" ({ cls := "java/lang/Throwable", name := "fillInStackTrace", desc := "(I)Ljava/lang/Throwable;" } : Jvm.MethodName) ({ cls := "java/lang/Throwable", name := "fillInStackTrace", desc := "(I)Ljava/lang/Throwable;" } : Jvm.MethodName)) ∈ lw_all := lw_g (lw_at lw_m3 92 rfl) rfl
theorem q613 : (Jvm.Cond.lays "java/lang/IndexOutOfBoundsException" "java/lang/Throwable" "cause" "Ljava/lang/Throwable;") ∈ lw_all := lw_g (lw_at lw_m3 93 rfl) rfl
theorem q614 : (Jvm.Cond.lays "java/lang/IndexOutOfBoundsException" "java/lang/Throwable" "stackTrace" "[Ljava/lang/StackTraceElement;") ∈ lw_all := lw_g (lw_at lw_m3 94 rfl) rfl
theorem q615 : (Jvm.Cond.lays "java/lang/IndexOutOfBoundsException" "java/lang/Throwable" "suppressedExceptions" "Ljava/util/List;") ∈ lw_all := lw_g (lw_at lw_m3 95 rfl) rfl
theorem q616 : (Jvm.Cond.lays "java/lang/IndexOutOfBoundsException" "java/lang/Throwable" "detailMessage" "Ljava/lang/String;") ∈ lw_all := lw_g (lw_at lw_m3 96 rfl) rfl
theorem q617 : (Jvm.Cond.lays "java/lang/IndexOutOfBoundsException" "java/lang/Throwable" "backtrace" "Ljava/lang/Object;") ∈ lw_all := lw_g (lw_at lw_m3 97 rfl) rfl
theorem q619 : (Jvm.Cond.instanceMethod ({ cls := "java/lang/IndexOutOfBoundsException", name := "<init>", desc := "()V" } : Jvm.MethodName)) ∈ lw_all := lw_g (lw_at lw_m3 99 rfl) rfl
theorem q620 : (Jvm.Cond.code ({ cls := "java/lang/IndexOutOfBoundsException", name := "<init>", desc := "()V" } : Jvm.MethodName) prog_26_method_1_code (1 : Nat) (Option.none : Option Jvm.ClassFile.FieldType)) ∈ lw_all := lw_g (lw_at lw_m3 100 rfl) rfl
theorem q621 : (Jvm.Cond.methodLink "java/lang/IndexOutOfBoundsException" (1 : Nat) ({ cls := "java/lang/RuntimeException", name := "<init>", desc := "()V" } : Jvm.MethodName)) ∈ lw_all := lw_g (lw_at lw_m3 101 rfl) rfl
theorem q622 : (Jvm.Cond.lays "java/lang/IndexOutOfBoundsException" "java/lang/Throwable" "depth" "I") ∈ lw_all := lw_g (lw_at lw_m3 102 rfl) rfl
theorem q623 : (Jvm.Cond.superclass "java/lang/IndexOutOfBoundsException" "java/lang/RuntimeException") ∈ lw_all := lw_g (lw_at lw_m3 103 rfl) rfl
theorem q820 : (Jvm.Cond.selects "java/lang/IndexOutOfBoundsException" ({ cls := "java/lang/Object", name := "getClass", desc := "()Ljava/lang/Class;" } : Jvm.MethodName) ({ cls := "java/lang/Object", name := "getClass", desc := "()Ljava/lang/Class;" } : Jvm.MethodName)) ∈ lw_all := lw_g (lw_at lw_m4 60 rfl) rfl
theorem q1378 : (Jvm.Cond.castable "java/lang/IndexOutOfBoundsException" "java/lang/Object") ∈ lw_tbl := lw_at lw_m6 138 rfl
theorem in_J8 : ∀ w ∈ wsJ80, w ∈ lw_all := lw_in wsJ80 [613, 614, 615, 616, 617, 622] (by decide +kernel) (by decide +kernel)

/-! java/lang/ArrayIndexOutOfBoundsException -/
set_option maxRecDepth 100000
def RJ9 : String := "java/lang/ArrayIndexOutOfBoundsException"
def TJ9 : u_T := fun k => match k with
  | 0 => ("java/lang/Throwable", "backtrace", "Ljava/lang/Object;", false)
  | 1 => ("java/lang/Throwable", "detailMessage", "Ljava/lang/String;", false)
  | 2 => ("java/lang/Throwable", "cause", "Ljava/lang/Throwable;", false)
  | 3 => ("java/lang/Throwable", "stackTrace", "[Ljava/lang/StackTraceElement;", false)
  | 4 => ("java/lang/Throwable", "depth", "I", false)
  | _ => ("java/lang/Throwable", "suppressedExceptions", "Ljava/util/List;", false)
def tyJ9 : Nat → FieldType := fun k => match k with
  | 0 => .object "java/lang/Object"
  | 1 => .object "java/lang/String"
  | 2 => .object "java/lang/Throwable"
  | 3 => .array (.object "java/lang/StackTraceElement")
  | 4 => .int
  | _ => .object "java/util/List"
abbrev wsJ90 : List Cond := u_ws RJ9 TJ9 6
theorem nmJ9 : ∀ a, a < 6 → ∀ b, b < 6 → a ≠ b → (TJ9 a).2.1 ≠ (TJ9 b).2.1 := by decide +kernel
theorem tyJ9_ok : ∀ k, k < 6 → parseFieldDescriptor (TJ9 k).2.2.1 = some (tyJ9 k) := by decide +kernel
abbrev cJ9_init : ByteArray := prog_20_method_2_code
def yJ9_init : MethodName := ⟨RJ9, "<init>", "(Ljava/lang/String;)V"⟩
def dkwJ9_init_0 : List UInt8 := [42, 43, 183, 0, 7, 177]
abbrev dktJ9_init_0 : List UInt8 := dkwJ9_init_0 ++ []
theorem dksJ9_init_0 : cJ9_init.data.toList.drop 0 = dktJ9_init_0 := by decide +kernel
theorem dJ9_init_0 : decode cJ9_init 0 = .ok (.aload_n 0, 1) := dk_42 (dk_at dksJ9_init_0 0 rfl rfl)
theorem dJ9_init_1 : decode cJ9_init 1 = .ok (.aload_n 1, 1) := dk_43 (dk_at dksJ9_init_0 1 rfl rfl)
theorem dJ9_init_2 : decode cJ9_init 2 = .ok (.invokespecial 7, 3) := dk_183 0 7 (dk_at dksJ9_init_0 2 rfl rfl)
theorem dJ9_init_5 : decode cJ9_init 5 = .ok (.return_, 1) := dk_177 (dk_at dksJ9_init_0 5 rfl rfl)
theorem q63 : (Jvm.Cond.initialized "java/lang/ArrayIndexOutOfBoundsException") ∈ lw_all := lw_g (lw_at lw_m1 23 rfl) rfl
theorem q465 : (Jvm.Cond.selects "java/lang/ArrayIndexOutOfBoundsException" ({ cls := "java/lang/Throwable", name := "fillInStackTrace", desc := "()Ljava/lang/Throwable;" } : Jvm.MethodName) ({ cls := "java/lang/Throwable", name := "fillInStackTrace", desc := "()Ljava/lang/Throwable;" } : Jvm.MethodName)) ∈ lw_all := lw_g (lw_at lw_m2 185 rfl) rfl
theorem q563 : (Jvm.Cond.instantiable "java/lang/ArrayIndexOutOfBoundsException" (6 : Nat)) ∈ lw_all := lw_g (lw_at lw_m3 43 rfl) rfl
theorem q564 : (Jvm.Cond.instanceMethod ({ cls := "java/lang/ArrayIndexOutOfBoundsException", name := "<init>", desc := "(Ljava/lang/String;)V" } : Jvm.MethodName)) ∈ lw_all := lw_g (lw_at lw_m3 44 rfl) rfl
theorem q565 : (Jvm.Cond.code ({ cls := "java/lang/ArrayIndexOutOfBoundsException", name := "<init>", desc := "(Ljava/lang/String;)V" } : Jvm.MethodName) prog_20_method_2_code (2 : Nat) (Option.none : Option Jvm.ClassFile.FieldType)) ∈ lw_all := lw_g (lw_at lw_m3 45 rfl) rfl
theorem q566 : (Jvm.Cond.methodLink "java/lang/ArrayIndexOutOfBoundsException" (7 : Nat) ({ cls := "java/lang/IndexOutOfBoundsException", name := "<init>", desc := "(Ljava/lang/String;)V" } : Jvm.MethodName)) ∈ lw_all := lw_g (lw_at lw_m3 46 rfl) rfl
theorem q578 : (Jvm.Cond.lays "java/lang/ArrayIndexOutOfBoundsException" "java/lang/Throwable" "backtrace" "Ljava/lang/Object;") ∈ lw_all := lw_g (lw_at lw_m3 58 rfl) rfl
theorem q579 : (Jvm.Cond.lays "java/lang/ArrayIndexOutOfBoundsException" "java/lang/Throwable" "detailMessage" "Ljava/lang/String;") ∈ lw_all := lw_g (lw_at lw_m3 59 rfl) rfl
theorem q580 : (Jvm.Cond.lays "java/lang/ArrayIndexOutOfBoundsException" "java/lang/Throwable" "cause" "Ljava/lang/Throwable;") ∈ lw_all := lw_g (lw_at lw_m3 60 rfl) rfl
theorem q581 : (Jvm.Cond.lays "java/lang/ArrayIndexOutOfBoundsException" "java/lang/Throwable" "stackTrace" "[Ljava/lang/StackTraceElement;") ∈ lw_all := lw_g (lw_at lw_m3 61 rfl) rfl
theorem q582 : (Jvm.Cond.lays "java/lang/ArrayIndexOutOfBoundsException" "java/lang/Throwable" "depth" "I") ∈ lw_all := lw_g (lw_at lw_m3 62 rfl) rfl
theorem q583 : (Jvm.Cond.lays "java/lang/ArrayIndexOutOfBoundsException" "java/lang/Throwable" "suppressedExceptions" "Ljava/util/List;") ∈ lw_all := lw_g (lw_at lw_m3 63 rfl) rfl
theorem q584 : (Jvm.Cond.superclass "java/lang/ArrayIndexOutOfBoundsException" "java/lang/IndexOutOfBoundsException") ∈ lw_all := lw_g (lw_at lw_m3 64 rfl) rfl
theorem q585 : (Jvm.Cond.castable "java/lang/ArrayIndexOutOfBoundsException" "java/lang/ArrayIndexOutOfBoundsException") ∈ lw_tbl := lw_at lw_m3 65 rfl
theorem q588 : (Jvm.Cond.selects "java/lang/ArrayIndexOutOfBoundsException" ({ cls := "java/lang/Throwable", name := "fillInStackTrace", desc := "(I)Ljava/lang/Throwable;" } : Jvm.MethodName) ({ cls := "java/lang/Throwable", name := "fillInStackTrace", desc := "(I)Ljava/lang/Throwable;" } : Jvm.MethodName)) ∈ lw_all := lw_g (lw_at lw_m3 68 rfl) rfl
theorem q817 : (Jvm.Cond.selects "java/lang/ArrayIndexOutOfBoundsException" ({ cls := "java/lang/Object", name := "getClass", desc := "()Ljava/lang/Class;" } : Jvm.MethodName) ({ cls := "java/lang/Object", name := "getClass", desc := "()Ljava/lang/Class;" } : Jvm.MethodName)) ∈ lw_all := lw_g (lw_at lw_m4 57 rfl) rfl
theorem q1362 : (Jvm.Cond.castable "java/lang/ArrayIndexOutOfBoundsException" "java/lang/IndexOutOfBoundsException") ∈ lw_tbl := lw_at lw_m6 122 rfl
theorem q1377 : (Jvm.Cond.castable "java/lang/ArrayIndexOutOfBoundsException" "java/lang/Object") ∈ lw_tbl := lw_at lw_m6 137 rfl
theorem in_J9 : ∀ w ∈ wsJ90, w ∈ lw_all := lw_in wsJ90 [578, 579, 580, 581, 582, 583] (by decide +kernel) (by decide +kernel)

/-! PageBanks$Bank -/
set_option maxRecDepth 100000
def RX10 : String := "PageBanks$Bank"
def TX10 : u_T := fun k => match k with
  | 0 => ("PageBanks$Bank", "number", "I", true)
  | 1 => ("PageBanks$Bank", "parent", "LPageBanks$Bank;", false)
  | 2 => ("PageBanks$Bank", "limit", "I", false)
  | 3 => ("PageBanks$Bank", "state", "LPageBanks$State;", false)
  | 4 => ("PageBanks$Bank", "reserved", "I", false)
  | 5 => ("PageBanks$Bank", "use", "I", false)
  | 6 => ("PageBanks$Bank", "pages", "LPageBanks$Ring;", true)
  | _ => ("PageBanks$Bank", "below", "Ljava/util/List;", true)
def tyX10 : Nat → FieldType := fun k => match k with
  | 0 => .int
  | 1 => .object "PageBanks$Bank"
  | 2 => .int
  | 3 => .object "PageBanks$State"
  | 4 => .int
  | 5 => .int
  | 6 => .object "PageBanks$Ring"
  | _ => .object "java/util/List"
abbrev wsX100 : List Cond := u_ws RX10 TX10 8
theorem nmX10 : ∀ a, a < 8 → ∀ b, b < 8 → a ≠ b → (TX10 a).2.1 ≠ (TX10 b).2.1 := by decide +kernel
theorem tyX10_ok : ∀ k, k < 8 → parseFieldDescriptor (TX10 k).2.2.1 = some (tyX10 k) := by decide +kernel
abbrev cX10_init : ByteArray := prog_2_method_1_code
def yX10_init : MethodName := ⟨RX10, "<init>", "(ILPageBanks$Bank;I)V"⟩
def dkwX10_init_2 : List UInt8 := [181, 0, 42, 177]
abbrev dktX10_init_2 : List UInt8 := dkwX10_init_2 ++ []
def dkwX10_init_1 : List UInt8 := [187, 0, 27, 89, 183, 0, 29, 181, 0, 30, 42, 27, 181, 0, 34, 42, 44, 181, 0, 38, 42, 29]
abbrev dktX10_init_1 : List UInt8 := dkwX10_init_1 ++ dktX10_init_2
def dkwX10_init_0 : List UInt8 := [42, 183, 0, 3, 42, 178, 0, 9, 181, 0, 15, 42, 187, 0, 20, 89, 183, 0, 22, 181, 0, 23, 42]
abbrev dktX10_init_0 : List UInt8 := dkwX10_init_0 ++ dktX10_init_1
theorem dksX10_init_0 : cX10_init.data.toList.drop 0 = dktX10_init_0 := by decide +kernel
theorem dksX10_init_1 : cX10_init.data.toList.drop 23 = dktX10_init_1 := dk_seg dksX10_init_0 23 rfl rfl
theorem dksX10_init_2 : cX10_init.data.toList.drop 45 = dktX10_init_2 := dk_seg dksX10_init_1 22 rfl rfl
theorem dX10_init_0 : decode cX10_init 0 = .ok (.aload_n 0, 1) := dk_42 (dk_at dksX10_init_0 0 rfl rfl)
theorem dX10_init_1 : decode cX10_init 1 = .ok (.invokespecial 3, 3) := dk_183 0 3 (dk_at dksX10_init_0 1 rfl rfl)
theorem dX10_init_4 : decode cX10_init 4 = .ok (.aload_n 0, 1) := dk_42 (dk_at dksX10_init_0 4 rfl rfl)
theorem dX10_init_5 : decode cX10_init 5 = .ok (.getstatic 9, 3) := dk_178 0 9 (dk_at dksX10_init_0 5 rfl rfl)
theorem dX10_init_8 : decode cX10_init 8 = .ok (.putfield 15, 3) := dk_181 0 15 (dk_at dksX10_init_0 8 rfl rfl)
theorem dX10_init_11 : decode cX10_init 11 = .ok (.aload_n 0, 1) := dk_42 (dk_at dksX10_init_0 11 rfl rfl)
theorem dX10_init_12 : decode cX10_init 12 = .ok (.new 20, 3) := dk_187 0 20 (dk_at dksX10_init_0 12 rfl rfl)
theorem dX10_init_15 : decode cX10_init 15 = .ok (.dup, 1) := dk_89 (dk_at dksX10_init_0 15 rfl rfl)
theorem dX10_init_16 : decode cX10_init 16 = .ok (.invokespecial 22, 3) := dk_183 0 22 (dk_at dksX10_init_0 16 rfl rfl)
theorem dX10_init_19 : decode cX10_init 19 = .ok (.putfield 23, 3) := dk_181 0 23 (dk_at dksX10_init_0 19 rfl rfl)
theorem dX10_init_22 : decode cX10_init 22 = .ok (.aload_n 0, 1) := dk_42 (dk_at dksX10_init_0 22 rfl rfl)
theorem dX10_init_23 : decode cX10_init 23 = .ok (.new 27, 3) := dk_187 0 27 (dk_at dksX10_init_1 0 rfl rfl)
theorem dX10_init_26 : decode cX10_init 26 = .ok (.dup, 1) := dk_89 (dk_at dksX10_init_1 3 rfl rfl)
theorem dX10_init_27 : decode cX10_init 27 = .ok (.invokespecial 29, 3) := dk_183 0 29 (dk_at dksX10_init_1 4 rfl rfl)
theorem dX10_init_30 : decode cX10_init 30 = .ok (.putfield 30, 3) := dk_181 0 30 (dk_at dksX10_init_1 7 rfl rfl)
theorem dX10_init_33 : decode cX10_init 33 = .ok (.aload_n 0, 1) := dk_42 (dk_at dksX10_init_1 10 rfl rfl)
theorem dX10_init_34 : decode cX10_init 34 = .ok (.iload_n 1, 1) := dk_27 (dk_at dksX10_init_1 11 rfl rfl)
theorem dX10_init_35 : decode cX10_init 35 = .ok (.putfield 34, 3) := dk_181 0 34 (dk_at dksX10_init_1 12 rfl rfl)
theorem dX10_init_38 : decode cX10_init 38 = .ok (.aload_n 0, 1) := dk_42 (dk_at dksX10_init_1 15 rfl rfl)
theorem dX10_init_39 : decode cX10_init 39 = .ok (.aload_n 2, 1) := dk_44 (dk_at dksX10_init_1 16 rfl rfl)
theorem dX10_init_40 : decode cX10_init 40 = .ok (.putfield 38, 3) := dk_181 0 38 (dk_at dksX10_init_1 17 rfl rfl)
theorem dX10_init_43 : decode cX10_init 43 = .ok (.aload_n 0, 1) := dk_42 (dk_at dksX10_init_1 20 rfl rfl)
theorem dX10_init_44 : decode cX10_init 44 = .ok (.iload_n 3, 1) := dk_29 (dk_at dksX10_init_1 21 rfl rfl)
theorem dX10_init_45 : decode cX10_init 45 = .ok (.putfield 42, 3) := dk_181 0 42 (dk_at dksX10_init_2 0 rfl rfl)
theorem dX10_init_48 : decode cX10_init 48 = .ok (.return_, 1) := dk_177 (dk_at dksX10_init_2 3 rfl rfl)
abbrev cX10_isDying : ByteArray := prog_2_method_3_code
def yX10_isDying : MethodName := ⟨RX10, "isDying", "()Z"⟩
def dkwX10_isDying_0 : List UInt8 := [42, 180, 0, 15, 178, 0, 45, 166, 0, 7, 4, 167, 0, 4, 3, 172]
abbrev dktX10_isDying_0 : List UInt8 := dkwX10_isDying_0 ++ []
theorem dksX10_isDying_0 : cX10_isDying.data.toList.drop 0 = dktX10_isDying_0 := by decide +kernel
theorem dX10_isDying_0 : decode cX10_isDying 0 = .ok (.aload_n 0, 1) := dk_42 (dk_at dksX10_isDying_0 0 rfl rfl)
theorem dX10_isDying_1 : decode cX10_isDying 1 = .ok (.getfield 15, 3) := dk_180 0 15 (dk_at dksX10_isDying_0 1 rfl rfl)
theorem dX10_isDying_4 : decode cX10_isDying 4 = .ok (.getstatic 45, 3) := dk_178 0 45 (dk_at dksX10_isDying_0 4 rfl rfl)
theorem dX10_isDying_7 : decode cX10_isDying 7 = .ok (.if_acmp .ne 7, 3) := dk_166 0 7 (dk_at dksX10_isDying_0 7 rfl rfl)
theorem dX10_isDying_10 : decode cX10_isDying 10 = .ok (.iconst 1, 1) := dk_4 (dk_at dksX10_isDying_0 10 rfl rfl)
theorem dX10_isDying_11 : decode cX10_isDying 11 = .ok (.goto 4, 3) := dk_167 0 4 (dk_at dksX10_isDying_0 11 rfl rfl)
theorem dX10_isDying_14 : decode cX10_isDying 14 = .ok (.iconst 0, 1) := dk_3 (dk_at dksX10_isDying_0 14 rfl rfl)
theorem dX10_isDying_15 : decode cX10_isDying 15 = .ok (.ireturn, 1) := dk_172 (dk_at dksX10_isDying_0 15 rfl rfl)
abbrev cX10_banks : ByteArray := prog_2_method_5_code
def yX10_banks : MethodName := ⟨RX10, "banks", "()I"⟩
def dkwX10_banks_1 : List UInt8 := [185, 0, 67, 1, 0, 192, 0, 16, 78, 27, 45, 182, 0, 71, 96, 60, 167, 255, 230, 27, 172]
abbrev dktX10_banks_1 : List UInt8 := dkwX10_banks_1 ++ []
def dkwX10_banks_0 : List UInt8 := [4, 60, 42, 180, 0, 30, 185, 0, 56, 1, 0, 77, 44, 185, 0, 62, 1, 0, 153, 0, 23, 44]
abbrev dktX10_banks_0 : List UInt8 := dkwX10_banks_0 ++ dktX10_banks_1
theorem dksX10_banks_0 : cX10_banks.data.toList.drop 0 = dktX10_banks_0 := by decide +kernel
theorem dksX10_banks_1 : cX10_banks.data.toList.drop 22 = dktX10_banks_1 := dk_seg dksX10_banks_0 22 rfl rfl
theorem dX10_banks_0 : decode cX10_banks 0 = .ok (.iconst 1, 1) := dk_4 (dk_at dksX10_banks_0 0 rfl rfl)
theorem dX10_banks_1 : decode cX10_banks 1 = .ok (.istore_n 1, 1) := dk_60 (dk_at dksX10_banks_0 1 rfl rfl)
theorem dX10_banks_2 : decode cX10_banks 2 = .ok (.aload_n 0, 1) := dk_42 (dk_at dksX10_banks_0 2 rfl rfl)
theorem dX10_banks_3 : decode cX10_banks 3 = .ok (.getfield 30, 3) := dk_180 0 30 (dk_at dksX10_banks_0 3 rfl rfl)
theorem dX10_banks_6 : decode cX10_banks 6 = .ok (.invokeinterface 56 1, 5) := by decide +kernel
theorem dX10_banks_11 : decode cX10_banks 11 = .ok (.astore_n 2, 1) := dk_77 (dk_at dksX10_banks_0 11 rfl rfl)
theorem dX10_banks_12 : decode cX10_banks 12 = .ok (.aload_n 2, 1) := dk_44 (dk_at dksX10_banks_0 12 rfl rfl)
theorem dX10_banks_13 : decode cX10_banks 13 = .ok (.invokeinterface 62 1, 5) := by decide +kernel
theorem dX10_banks_18 : decode cX10_banks 18 = .ok (.ifCond .eq 23, 3) := dk_153 0 23 (dk_at dksX10_banks_0 18 rfl rfl)
theorem dX10_banks_21 : decode cX10_banks 21 = .ok (.aload_n 2, 1) := dk_44 (dk_at dksX10_banks_0 21 rfl rfl)
theorem dX10_banks_22 : decode cX10_banks 22 = .ok (.invokeinterface 67 1, 5) := by decide +kernel
theorem dX10_banks_27 : decode cX10_banks 27 = .ok (.checkcast 16, 3) := dk_192 0 16 (dk_at dksX10_banks_1 5 rfl rfl)
theorem dX10_banks_30 : decode cX10_banks 30 = .ok (.astore_n 3, 1) := dk_78 (dk_at dksX10_banks_1 8 rfl rfl)
theorem dX10_banks_31 : decode cX10_banks 31 = .ok (.iload_n 1, 1) := dk_27 (dk_at dksX10_banks_1 9 rfl rfl)
theorem dX10_banks_32 : decode cX10_banks 32 = .ok (.aload_n 3, 1) := dk_45 (dk_at dksX10_banks_1 10 rfl rfl)
theorem dX10_banks_33 : decode cX10_banks 33 = .ok (.invokevirtual 71, 3) := dk_182 0 71 (dk_at dksX10_banks_1 11 rfl rfl)
theorem dX10_banks_36 : decode cX10_banks 36 = .ok (.iadd, 1) := dk_96 (dk_at dksX10_banks_1 14 rfl rfl)
theorem dX10_banks_37 : decode cX10_banks 37 = .ok (.istore_n 1, 1) := dk_60 (dk_at dksX10_banks_1 15 rfl rfl)
theorem dX10_banks_38 : decode cX10_banks 38 = .ok (.goto (-26), 3) := dk_167 255 230 (dk_at dksX10_banks_1 16 rfl rfl)
theorem dX10_banks_41 : decode cX10_banks 41 = .ok (.iload_n 1, 1) := dk_27 (dk_at dksX10_banks_1 19 rfl rfl)
theorem dX10_banks_42 : decode cX10_banks 42 = .ok (.ireturn, 1) := dk_172 (dk_at dksX10_banks_1 20 rfl rfl)
abbrev cX10_refuses : ByteArray := prog_2_method_7_code
def yX10_refuses : MethodName := ⟨RX10, "refuses", "(I)LPageBanks$Bank;"⟩
def dkwX10_refuses_1 : List UInt8 := [167, 255, 234, 44, 176]
abbrev dktX10_refuses_1 : List UInt8 := dkwX10_refuses_1 ++ []
def dkwX10_refuses_0 : List UInt8 := [42, 77, 44, 198, 0, 24, 44, 180, 0, 74, 27, 96, 44, 180, 0, 42, 163, 0, 11, 44, 180, 0, 38, 77]
abbrev dktX10_refuses_0 : List UInt8 := dkwX10_refuses_0 ++ dktX10_refuses_1
theorem dksX10_refuses_0 : cX10_refuses.data.toList.drop 0 = dktX10_refuses_0 := by decide +kernel
theorem dksX10_refuses_1 : cX10_refuses.data.toList.drop 24 = dktX10_refuses_1 := dk_seg dksX10_refuses_0 24 rfl rfl
theorem dX10_refuses_0 : decode cX10_refuses 0 = .ok (.aload_n 0, 1) := dk_42 (dk_at dksX10_refuses_0 0 rfl rfl)
theorem dX10_refuses_1 : decode cX10_refuses 1 = .ok (.astore_n 2, 1) := dk_77 (dk_at dksX10_refuses_0 1 rfl rfl)
theorem dX10_refuses_2 : decode cX10_refuses 2 = .ok (.aload_n 2, 1) := dk_44 (dk_at dksX10_refuses_0 2 rfl rfl)
theorem dX10_refuses_3 : decode cX10_refuses 3 = .ok (.ifnull 24, 3) := dk_198 0 24 (dk_at dksX10_refuses_0 3 rfl rfl)
theorem dX10_refuses_6 : decode cX10_refuses 6 = .ok (.aload_n 2, 1) := dk_44 (dk_at dksX10_refuses_0 6 rfl rfl)
theorem dX10_refuses_7 : decode cX10_refuses 7 = .ok (.getfield 74, 3) := dk_180 0 74 (dk_at dksX10_refuses_0 7 rfl rfl)
theorem dX10_refuses_10 : decode cX10_refuses 10 = .ok (.iload_n 1, 1) := dk_27 (dk_at dksX10_refuses_0 10 rfl rfl)
theorem dX10_refuses_11 : decode cX10_refuses 11 = .ok (.iadd, 1) := dk_96 (dk_at dksX10_refuses_0 11 rfl rfl)
theorem dX10_refuses_12 : decode cX10_refuses 12 = .ok (.aload_n 2, 1) := dk_44 (dk_at dksX10_refuses_0 12 rfl rfl)
theorem dX10_refuses_13 : decode cX10_refuses 13 = .ok (.getfield 42, 3) := dk_180 0 42 (dk_at dksX10_refuses_0 13 rfl rfl)
theorem dX10_refuses_16 : decode cX10_refuses 16 = .ok (.if_icmp .gt 11, 3) := dk_163 0 11 (dk_at dksX10_refuses_0 16 rfl rfl)
theorem dX10_refuses_19 : decode cX10_refuses 19 = .ok (.aload_n 2, 1) := dk_44 (dk_at dksX10_refuses_0 19 rfl rfl)
theorem dX10_refuses_20 : decode cX10_refuses 20 = .ok (.getfield 38, 3) := dk_180 0 38 (dk_at dksX10_refuses_0 20 rfl rfl)
theorem dX10_refuses_23 : decode cX10_refuses 23 = .ok (.astore_n 2, 1) := dk_77 (dk_at dksX10_refuses_0 23 rfl rfl)
theorem dX10_refuses_24 : decode cX10_refuses 24 = .ok (.goto (-22), 3) := dk_167 255 234 (dk_at dksX10_refuses_1 0 rfl rfl)
theorem dX10_refuses_27 : decode cX10_refuses 27 = .ok (.aload_n 2, 1) := dk_44 (dk_at dksX10_refuses_1 3 rfl rfl)
theorem dX10_refuses_28 : decode cX10_refuses 28 = .ok (.areturn, 1) := dk_176 (dk_at dksX10_refuses_1 4 rfl rfl)
abbrev cX10_isRoot : ByteArray := prog_2_method_2_code
def yX10_isRoot : MethodName := ⟨RX10, "isRoot", "()Z"⟩
def dkwX10_isRoot_0 : List UInt8 := [42, 180, 0, 38, 199, 0, 7, 4, 167, 0, 4, 3, 172]
abbrev dktX10_isRoot_0 : List UInt8 := dkwX10_isRoot_0 ++ []
theorem dksX10_isRoot_0 : cX10_isRoot.data.toList.drop 0 = dktX10_isRoot_0 := by decide +kernel
theorem dX10_isRoot_0 : decode cX10_isRoot 0 = .ok (.aload_n 0, 1) := dk_42 (dk_at dksX10_isRoot_0 0 rfl rfl)
theorem dX10_isRoot_1 : decode cX10_isRoot 1 = .ok (.getfield 38, 3) := dk_180 0 38 (dk_at dksX10_isRoot_0 1 rfl rfl)
theorem dX10_isRoot_4 : decode cX10_isRoot 4 = .ok (.ifnonnull 7, 3) := dk_199 0 7 (dk_at dksX10_isRoot_0 4 rfl rfl)
theorem dX10_isRoot_7 : decode cX10_isRoot 7 = .ok (.iconst 1, 1) := dk_4 (dk_at dksX10_isRoot_0 7 rfl rfl)
theorem dX10_isRoot_8 : decode cX10_isRoot 8 = .ok (.goto 4, 3) := dk_167 0 4 (dk_at dksX10_isRoot_0 8 rfl rfl)
theorem dX10_isRoot_11 : decode cX10_isRoot 11 = .ok (.iconst 0, 1) := dk_3 (dk_at dksX10_isRoot_0 11 rfl rfl)
theorem dX10_isRoot_12 : decode cX10_isRoot 12 = .ok (.ireturn, 1) := dk_172 (dk_at dksX10_isRoot_0 12 rfl rfl)
abbrev cX10_depth : ByteArray := prog_2_method_4_code
def yX10_depth : MethodName := ⟨RX10, "depth", "()I"⟩
def dkwX10_depth_0 : List UInt8 := [42, 182, 0, 48, 153, 0, 7, 3, 167, 0, 12, 42, 180, 0, 38, 182, 0, 52, 4, 96, 172]
abbrev dktX10_depth_0 : List UInt8 := dkwX10_depth_0 ++ []
theorem dksX10_depth_0 : cX10_depth.data.toList.drop 0 = dktX10_depth_0 := by decide +kernel
theorem dX10_depth_0 : decode cX10_depth 0 = .ok (.aload_n 0, 1) := dk_42 (dk_at dksX10_depth_0 0 rfl rfl)
theorem dX10_depth_1 : decode cX10_depth 1 = .ok (.invokevirtual 48, 3) := dk_182 0 48 (dk_at dksX10_depth_0 1 rfl rfl)
theorem dX10_depth_4 : decode cX10_depth 4 = .ok (.ifCond .eq 7, 3) := dk_153 0 7 (dk_at dksX10_depth_0 4 rfl rfl)
theorem dX10_depth_7 : decode cX10_depth 7 = .ok (.iconst 0, 1) := dk_3 (dk_at dksX10_depth_0 7 rfl rfl)
theorem dX10_depth_8 : decode cX10_depth 8 = .ok (.goto 12, 3) := dk_167 0 12 (dk_at dksX10_depth_0 8 rfl rfl)
theorem dX10_depth_11 : decode cX10_depth 11 = .ok (.aload_n 0, 1) := dk_42 (dk_at dksX10_depth_0 11 rfl rfl)
theorem dX10_depth_12 : decode cX10_depth 12 = .ok (.getfield 38, 3) := dk_180 0 38 (dk_at dksX10_depth_0 12 rfl rfl)
theorem dX10_depth_15 : decode cX10_depth 15 = .ok (.invokevirtual 52, 3) := dk_182 0 52 (dk_at dksX10_depth_0 15 rfl rfl)
theorem dX10_depth_18 : decode cX10_depth 18 = .ok (.iconst 1, 1) := dk_4 (dk_at dksX10_depth_0 18 rfl rfl)
theorem dX10_depth_19 : decode cX10_depth 19 = .ok (.iadd, 1) := dk_96 (dk_at dksX10_depth_0 19 rfl rfl)
theorem dX10_depth_20 : decode cX10_depth 20 = .ok (.ireturn, 1) := dk_172 (dk_at dksX10_depth_0 20 rfl rfl)
abbrev cX10_use : ByteArray := prog_2_method_6_code
def yX10_use : MethodName := ⟨RX10, "use", "(I)V"⟩
def dkwX10_use_1 : List UInt8 := [177]
abbrev dktX10_use_1 : List UInt8 := dkwX10_use_1 ++ []
def dkwX10_use_0 : List UInt8 := [42, 77, 44, 198, 0, 21, 44, 89, 180, 0, 74, 27, 96, 181, 0, 74, 44, 180, 0, 38, 77, 167, 255, 237]
abbrev dktX10_use_0 : List UInt8 := dkwX10_use_0 ++ dktX10_use_1
theorem dksX10_use_0 : cX10_use.data.toList.drop 0 = dktX10_use_0 := by decide +kernel
theorem dksX10_use_1 : cX10_use.data.toList.drop 24 = dktX10_use_1 := dk_seg dksX10_use_0 24 rfl rfl
theorem dX10_use_0 : decode cX10_use 0 = .ok (.aload_n 0, 1) := dk_42 (dk_at dksX10_use_0 0 rfl rfl)
theorem dX10_use_1 : decode cX10_use 1 = .ok (.astore_n 2, 1) := dk_77 (dk_at dksX10_use_0 1 rfl rfl)
theorem dX10_use_2 : decode cX10_use 2 = .ok (.aload_n 2, 1) := dk_44 (dk_at dksX10_use_0 2 rfl rfl)
theorem dX10_use_3 : decode cX10_use 3 = .ok (.ifnull 21, 3) := dk_198 0 21 (dk_at dksX10_use_0 3 rfl rfl)
theorem dX10_use_6 : decode cX10_use 6 = .ok (.aload_n 2, 1) := dk_44 (dk_at dksX10_use_0 6 rfl rfl)
theorem dX10_use_7 : decode cX10_use 7 = .ok (.dup, 1) := dk_89 (dk_at dksX10_use_0 7 rfl rfl)
theorem dX10_use_8 : decode cX10_use 8 = .ok (.getfield 74, 3) := dk_180 0 74 (dk_at dksX10_use_0 8 rfl rfl)
theorem dX10_use_11 : decode cX10_use 11 = .ok (.iload_n 1, 1) := dk_27 (dk_at dksX10_use_0 11 rfl rfl)
theorem dX10_use_12 : decode cX10_use 12 = .ok (.iadd, 1) := dk_96 (dk_at dksX10_use_0 12 rfl rfl)
theorem dX10_use_13 : decode cX10_use 13 = .ok (.putfield 74, 3) := dk_181 0 74 (dk_at dksX10_use_0 13 rfl rfl)
theorem dX10_use_16 : decode cX10_use 16 = .ok (.aload_n 2, 1) := dk_44 (dk_at dksX10_use_0 16 rfl rfl)
theorem dX10_use_17 : decode cX10_use 17 = .ok (.getfield 38, 3) := dk_180 0 38 (dk_at dksX10_use_0 17 rfl rfl)
theorem dX10_use_20 : decode cX10_use 20 = .ok (.astore_n 2, 1) := dk_77 (dk_at dksX10_use_0 20 rfl rfl)
theorem dX10_use_21 : decode cX10_use 21 = .ok (.goto (-19), 3) := dk_167 255 237 (dk_at dksX10_use_0 21 rfl rfl)
theorem dX10_use_24 : decode cX10_use 24 = .ok (.return_, 1) := dk_177 (dk_at dksX10_use_1 0 rfl rfl)
abbrev cX10_isEmpty : ByteArray := prog_2_method_8_code
def yX10_isEmpty : MethodName := ⟨RX10, "isEmpty", "()Z"⟩
def dkwX10_isEmpty_1 : List UInt8 := [167, 0, 4, 3, 172]
abbrev dktX10_isEmpty_1 : List UInt8 := dkwX10_isEmpty_1 ++ []
def dkwX10_isEmpty_0 : List UInt8 := [42, 180, 0, 23, 180, 0, 77, 154, 0, 19, 42, 180, 0, 30, 185, 0, 80, 1, 0, 153, 0, 7, 4]
abbrev dktX10_isEmpty_0 : List UInt8 := dkwX10_isEmpty_0 ++ dktX10_isEmpty_1
theorem dksX10_isEmpty_0 : cX10_isEmpty.data.toList.drop 0 = dktX10_isEmpty_0 := by decide +kernel
theorem dksX10_isEmpty_1 : cX10_isEmpty.data.toList.drop 23 = dktX10_isEmpty_1 := dk_seg dksX10_isEmpty_0 23 rfl rfl
theorem dX10_isEmpty_0 : decode cX10_isEmpty 0 = .ok (.aload_n 0, 1) := dk_42 (dk_at dksX10_isEmpty_0 0 rfl rfl)
theorem dX10_isEmpty_1 : decode cX10_isEmpty 1 = .ok (.getfield 23, 3) := dk_180 0 23 (dk_at dksX10_isEmpty_0 1 rfl rfl)
theorem dX10_isEmpty_4 : decode cX10_isEmpty 4 = .ok (.getfield 77, 3) := dk_180 0 77 (dk_at dksX10_isEmpty_0 4 rfl rfl)
theorem dX10_isEmpty_7 : decode cX10_isEmpty 7 = .ok (.ifCond .ne 19, 3) := dk_154 0 19 (dk_at dksX10_isEmpty_0 7 rfl rfl)
theorem dX10_isEmpty_10 : decode cX10_isEmpty 10 = .ok (.aload_n 0, 1) := dk_42 (dk_at dksX10_isEmpty_0 10 rfl rfl)
theorem dX10_isEmpty_11 : decode cX10_isEmpty 11 = .ok (.getfield 30, 3) := dk_180 0 30 (dk_at dksX10_isEmpty_0 11 rfl rfl)
theorem dX10_isEmpty_14 : decode cX10_isEmpty 14 = .ok (.invokeinterface 80 1, 5) := by decide +kernel
theorem dX10_isEmpty_19 : decode cX10_isEmpty 19 = .ok (.ifCond .eq 7, 3) := dk_153 0 7 (dk_at dksX10_isEmpty_0 19 rfl rfl)
theorem dX10_isEmpty_22 : decode cX10_isEmpty 22 = .ok (.iconst 1, 1) := dk_4 (dk_at dksX10_isEmpty_0 22 rfl rfl)
theorem dX10_isEmpty_23 : decode cX10_isEmpty 23 = .ok (.goto 4, 3) := dk_167 0 4 (dk_at dksX10_isEmpty_1 0 rfl rfl)
theorem dX10_isEmpty_26 : decode cX10_isEmpty 26 = .ok (.iconst 0, 1) := dk_3 (dk_at dksX10_isEmpty_1 3 rfl rfl)
theorem dX10_isEmpty_27 : decode cX10_isEmpty 27 = .ok (.ireturn, 1) := dk_172 (dk_at dksX10_isEmpty_1 4 rfl rfl)
abbrev cX10_told : ByteArray := prog_2_method_9_code
def yX10_told : MethodName := ⟨RX10, "told", "(I)I"⟩
def dkwX10_told_5 : List UInt8 := [182, 0, 71, 172]
abbrev dktX10_told_5 : List UInt8 := dkwX10_told_5 ++ []
def dkwX10_told_4 : List UInt8 := [180, 0, 34, 167, 0, 24, 42, 182, 0, 52, 167, 0, 17, 42, 180, 0, 15, 182, 0, 86, 167, 0, 7, 42]
abbrev dktX10_told_4 : List UInt8 := dkwX10_told_4 ++ dktX10_told_5
def dkwX10_told_3 : List UInt8 := [42, 180, 0, 42, 167, 0, 45, 42, 182, 0, 48, 153, 0, 7, 2, 167, 0, 34, 42, 180, 0, 38]
abbrev dktX10_told_3 : List UInt8 := dkwX10_told_3 ++ dktX10_told_4
def dkwX10_told_2 : List UInt8 := [42, 180, 0, 74, 167, 0, 69, 42, 180, 0, 23, 180, 0, 77, 167, 0, 59, 42, 180, 0, 83, 167, 0, 52]
abbrev dktX10_told_2 : List UInt8 := dkwX10_told_2 ++ dktX10_told_3
def dkwX10_told_1 : List UInt8 := [170, 0, 0, 0, 0, 0, 112, 0, 0, 0, 0, 0, 0, 0, 6, 0, 0, 0, 43, 0, 0, 0, 50, 0, 0, 0, 60, 0, 0, 0, 67, 0, 0, 0, 74, 0, 0, 0, 95, 0, 0, 0, 102]
abbrev dktX10_told_1 : List UInt8 := dkwX10_told_1 ++ dktX10_told_2
def dkwX10_told_0 : List UInt8 := [27]
abbrev dktX10_told_0 : List UInt8 := dkwX10_told_0 ++ dktX10_told_1
theorem dksX10_told_0 : cX10_told.data.toList.drop 0 = dktX10_told_0 := by decide +kernel
theorem dksX10_told_1 : cX10_told.data.toList.drop 1 = dktX10_told_1 := dk_seg dksX10_told_0 1 rfl rfl
theorem dksX10_told_2 : cX10_told.data.toList.drop 44 = dktX10_told_2 := dk_seg dksX10_told_1 43 rfl rfl
theorem dksX10_told_3 : cX10_told.data.toList.drop 68 = dktX10_told_3 := dk_seg dksX10_told_2 24 rfl rfl
theorem dksX10_told_4 : cX10_told.data.toList.drop 90 = dktX10_told_4 := dk_seg dksX10_told_3 22 rfl rfl
theorem dksX10_told_5 : cX10_told.data.toList.drop 114 = dktX10_told_5 := dk_seg dksX10_told_4 24 rfl rfl
theorem dX10_told_0 : decode cX10_told 0 = .ok (.iload_n 1, 1) := dk_27 (dk_at dksX10_told_0 0 rfl rfl)
theorem dX10_told_1 : decode cX10_told 1 = .ok (.tableswitch 112 0 6 #[43, 50, 60, 67, 74, 95, 102], 43) := by decide +kernel
theorem dX10_told_44 : decode cX10_told 44 = .ok (.aload_n 0, 1) := dk_42 (dk_at dksX10_told_2 0 rfl rfl)
theorem dX10_told_45 : decode cX10_told 45 = .ok (.getfield 74, 3) := dk_180 0 74 (dk_at dksX10_told_2 1 rfl rfl)
theorem dX10_told_48 : decode cX10_told 48 = .ok (.goto 69, 3) := dk_167 0 69 (dk_at dksX10_told_2 4 rfl rfl)
theorem dX10_told_51 : decode cX10_told 51 = .ok (.aload_n 0, 1) := dk_42 (dk_at dksX10_told_2 7 rfl rfl)
theorem dX10_told_52 : decode cX10_told 52 = .ok (.getfield 23, 3) := dk_180 0 23 (dk_at dksX10_told_2 8 rfl rfl)
theorem dX10_told_55 : decode cX10_told 55 = .ok (.getfield 77, 3) := dk_180 0 77 (dk_at dksX10_told_2 11 rfl rfl)
theorem dX10_told_58 : decode cX10_told 58 = .ok (.goto 59, 3) := dk_167 0 59 (dk_at dksX10_told_2 14 rfl rfl)
theorem dX10_told_61 : decode cX10_told 61 = .ok (.aload_n 0, 1) := dk_42 (dk_at dksX10_told_2 17 rfl rfl)
theorem dX10_told_62 : decode cX10_told 62 = .ok (.getfield 83, 3) := dk_180 0 83 (dk_at dksX10_told_2 18 rfl rfl)
theorem dX10_told_65 : decode cX10_told 65 = .ok (.goto 52, 3) := dk_167 0 52 (dk_at dksX10_told_2 21 rfl rfl)
theorem dX10_told_68 : decode cX10_told 68 = .ok (.aload_n 0, 1) := dk_42 (dk_at dksX10_told_3 0 rfl rfl)
theorem dX10_told_69 : decode cX10_told 69 = .ok (.getfield 42, 3) := dk_180 0 42 (dk_at dksX10_told_3 1 rfl rfl)
theorem dX10_told_72 : decode cX10_told 72 = .ok (.goto 45, 3) := dk_167 0 45 (dk_at dksX10_told_3 4 rfl rfl)
theorem dX10_told_75 : decode cX10_told 75 = .ok (.aload_n 0, 1) := dk_42 (dk_at dksX10_told_3 7 rfl rfl)
theorem dX10_told_76 : decode cX10_told 76 = .ok (.invokevirtual 48, 3) := dk_182 0 48 (dk_at dksX10_told_3 8 rfl rfl)
theorem dX10_told_79 : decode cX10_told 79 = .ok (.ifCond .eq 7, 3) := dk_153 0 7 (dk_at dksX10_told_3 11 rfl rfl)
theorem dX10_told_82 : decode cX10_told 82 = .ok (.iconst (-1), 1) := dk_2 (dk_at dksX10_told_3 14 rfl rfl)
theorem dX10_told_83 : decode cX10_told 83 = .ok (.goto 34, 3) := dk_167 0 34 (dk_at dksX10_told_3 15 rfl rfl)
theorem dX10_told_86 : decode cX10_told 86 = .ok (.aload_n 0, 1) := dk_42 (dk_at dksX10_told_3 18 rfl rfl)
theorem dX10_told_87 : decode cX10_told 87 = .ok (.getfield 38, 3) := dk_180 0 38 (dk_at dksX10_told_3 19 rfl rfl)
theorem dX10_told_90 : decode cX10_told 90 = .ok (.getfield 34, 3) := dk_180 0 34 (dk_at dksX10_told_4 0 rfl rfl)
theorem dX10_told_93 : decode cX10_told 93 = .ok (.goto 24, 3) := dk_167 0 24 (dk_at dksX10_told_4 3 rfl rfl)
theorem dX10_told_96 : decode cX10_told 96 = .ok (.aload_n 0, 1) := dk_42 (dk_at dksX10_told_4 6 rfl rfl)
theorem dX10_told_97 : decode cX10_told 97 = .ok (.invokevirtual 52, 3) := dk_182 0 52 (dk_at dksX10_told_4 7 rfl rfl)
theorem dX10_told_100 : decode cX10_told 100 = .ok (.goto 17, 3) := dk_167 0 17 (dk_at dksX10_told_4 10 rfl rfl)
theorem dX10_told_103 : decode cX10_told 103 = .ok (.aload_n 0, 1) := dk_42 (dk_at dksX10_told_4 13 rfl rfl)
theorem dX10_told_104 : decode cX10_told 104 = .ok (.getfield 15, 3) := dk_180 0 15 (dk_at dksX10_told_4 14 rfl rfl)
theorem dX10_told_107 : decode cX10_told 107 = .ok (.invokevirtual 86, 3) := dk_182 0 86 (dk_at dksX10_told_4 17 rfl rfl)
theorem dX10_told_110 : decode cX10_told 110 = .ok (.goto 7, 3) := dk_167 0 7 (dk_at dksX10_told_4 20 rfl rfl)
theorem dX10_told_113 : decode cX10_told 113 = .ok (.aload_n 0, 1) := dk_42 (dk_at dksX10_told_4 23 rfl rfl)
theorem dX10_told_114 : decode cX10_told 114 = .ok (.invokevirtual 71, 3) := dk_182 0 71 (dk_at dksX10_told_5 0 rfl rfl)
theorem dX10_told_117 : decode cX10_told 117 = .ok (.ireturn, 1) := dk_172 (dk_at dksX10_told_5 3 rfl rfl)
theorem q51 : (Jvm.Cond.initialized "PageBanks$Bank") ∈ lw_all := lw_g (lw_at lw_m1 11 rfl) rfl
theorem q218 : (Jvm.Cond.instantiable "PageBanks$Bank" (8 : Nat)) ∈ lw_all := lw_g (lw_at lw_m1 178 rfl) rfl
theorem q220 : (Jvm.Cond.instanceMethod ({ cls := "PageBanks$Bank", name := "<init>", desc := "(ILPageBanks$Bank;I)V" } : Jvm.MethodName)) ∈ lw_all := lw_g (lw_at lw_m1 180 rfl) rfl
theorem q221 : (Jvm.Cond.code ({ cls := "PageBanks$Bank", name := "<init>", desc := "(ILPageBanks$Bank;I)V" } : Jvm.MethodName) prog_2_method_1_code (4 : Nat) (Option.none : Option Jvm.ClassFile.FieldType)) ∈ lw_all := lw_g (lw_at lw_m1 181 rfl) rfl
theorem q222 : (Jvm.Cond.methodLink "PageBanks$Bank" (3 : Nat) ({ cls := "java/lang/Object", name := "<init>", desc := "()V" } : Jvm.MethodName)) ∈ lw_all := lw_g (lw_at lw_m1 182 rfl) rfl
theorem q223 : (Jvm.Cond.fieldLink "PageBanks$Bank" (9 : Nat) "PageBanks$State" "LIVE" "LPageBanks$State;") ∈ lw_all := lw_g (lw_at lw_m1 183 rfl) rfl
theorem q225 : (Jvm.Cond.classLink "PageBanks$Bank" (20 : Nat) "PageBanks$Ring") ∈ lw_all := lw_g (lw_at lw_m1 185 rfl) rfl
theorem q227 : (Jvm.Cond.methodLinkNest "PageBanks$Bank" (22 : Nat) ({ cls := "PageBanks$Ring", name := "<init>", desc := "()V" } : Jvm.MethodName) "PageBanks") ∈ lw_tbl := lw_at lw_m1 187 rfl
theorem q235 : (Jvm.Cond.fieldLinkNest "PageBanks$Bank" (77 : Nat) "PageBanks$Ring" "size" "I" "PageBanks") ∈ lw_tbl := lw_at lw_m1 195 rfl
theorem q242 : (Jvm.Cond.classLink "PageBanks$Bank" (27 : Nat) "java/util/ArrayList") ∈ lw_all := lw_g (lw_at lw_m1 202 rfl) rfl
theorem q244 : (Jvm.Cond.methodLink "PageBanks$Bank" (29 : Nat) ({ cls := "java/util/ArrayList", name := "<init>", desc := "()V" } : Jvm.MethodName)) ∈ lw_all := lw_g (lw_at lw_m1 204 rfl) rfl
theorem q271 : (Jvm.Cond.fieldLink "PageBanks$Bank" (34 : Nat) "PageBanks$Bank" "number" "I") ∈ lw_all := lw_g (lw_at lw_m1 231 rfl) rfl
theorem q273 : (Jvm.Cond.fieldLink "PageBanks$Bank" (38 : Nat) "PageBanks$Bank" "parent" "LPageBanks$Bank;") ∈ lw_all := lw_g (lw_at lw_m1 233 rfl) rfl
theorem q275 : (Jvm.Cond.fieldLink "PageBanks$Bank" (42 : Nat) "PageBanks$Bank" "limit" "I") ∈ lw_all := lw_g (lw_at lw_m1 235 rfl) rfl
theorem q277 : (Jvm.Cond.fieldLink "PageBanks$Bank" (15 : Nat) "PageBanks$Bank" "state" "LPageBanks$State;") ∈ lw_all := lw_g (lw_at lw_m1 237 rfl) rfl
theorem q282 : (Jvm.Cond.fieldLink "PageBanks$Bank" (83 : Nat) "PageBanks$Bank" "reserved" "I") ∈ lw_all := lw_g (lw_at lw_m2 2 rfl) rfl
theorem q284 : (Jvm.Cond.fieldLink "PageBanks$Bank" (74 : Nat) "PageBanks$Bank" "use" "I") ∈ lw_all := lw_g (lw_at lw_m2 4 rfl) rfl
theorem q286 : (Jvm.Cond.fieldLink "PageBanks$Bank" (23 : Nat) "PageBanks$Bank" "pages" "LPageBanks$Ring;") ∈ lw_all := lw_g (lw_at lw_m2 6 rfl) rfl
theorem q288 : (Jvm.Cond.fieldLink "PageBanks$Bank" (30 : Nat) "PageBanks$Bank" "below" "Ljava/util/List;") ∈ lw_all := lw_g (lw_at lw_m2 8 rfl) rfl
theorem q290 : (Jvm.Cond.laysFinal "PageBanks$Bank" "PageBanks$Bank" "number" "I") ∈ lw_all := lw_g (lw_at lw_m2 10 rfl) rfl
theorem q291 : (Jvm.Cond.soleField "PageBanks$Bank" "number") ∈ lw_all := lw_g (lw_at lw_m2 11 rfl) rfl
theorem q292 : (Jvm.Cond.lays "PageBanks$Bank" "PageBanks$Bank" "parent" "LPageBanks$Bank;") ∈ lw_all := lw_g (lw_at lw_m2 12 rfl) rfl
theorem q293 : (Jvm.Cond.soleField "PageBanks$Bank" "parent") ∈ lw_all := lw_g (lw_at lw_m2 13 rfl) rfl
theorem q294 : (Jvm.Cond.lays "PageBanks$Bank" "PageBanks$Bank" "limit" "I") ∈ lw_all := lw_g (lw_at lw_m2 14 rfl) rfl
theorem q295 : (Jvm.Cond.soleField "PageBanks$Bank" "limit") ∈ lw_all := lw_g (lw_at lw_m2 15 rfl) rfl
theorem q296 : (Jvm.Cond.lays "PageBanks$Bank" "PageBanks$Bank" "state" "LPageBanks$State;") ∈ lw_all := lw_g (lw_at lw_m2 16 rfl) rfl
theorem q297 : (Jvm.Cond.soleField "PageBanks$Bank" "state") ∈ lw_all := lw_g (lw_at lw_m2 17 rfl) rfl
theorem q298 : (Jvm.Cond.lays "PageBanks$Bank" "PageBanks$Bank" "reserved" "I") ∈ lw_all := lw_g (lw_at lw_m2 18 rfl) rfl
theorem q299 : (Jvm.Cond.soleField "PageBanks$Bank" "reserved") ∈ lw_all := lw_g (lw_at lw_m2 19 rfl) rfl
theorem q300 : (Jvm.Cond.lays "PageBanks$Bank" "PageBanks$Bank" "use" "I") ∈ lw_all := lw_g (lw_at lw_m2 20 rfl) rfl
theorem q301 : (Jvm.Cond.soleField "PageBanks$Bank" "use") ∈ lw_all := lw_g (lw_at lw_m2 21 rfl) rfl
theorem q302 : (Jvm.Cond.laysFinal "PageBanks$Bank" "PageBanks$Bank" "pages" "LPageBanks$Ring;") ∈ lw_all := lw_g (lw_at lw_m2 22 rfl) rfl
theorem q303 : (Jvm.Cond.soleField "PageBanks$Bank" "pages") ∈ lw_all := lw_g (lw_at lw_m2 23 rfl) rfl
theorem q304 : (Jvm.Cond.laysFinal "PageBanks$Bank" "PageBanks$Bank" "below" "Ljava/util/List;") ∈ lw_all := lw_g (lw_at lw_m2 24 rfl) rfl
theorem q305 : (Jvm.Cond.soleField "PageBanks$Bank" "below") ∈ lw_all := lw_g (lw_at lw_m2 25 rfl) rfl
theorem q306 : (Jvm.Cond.superclass "PageBanks$Bank" "java/lang/Object") ∈ lw_all := lw_g (lw_at lw_m2 26 rfl) rfl
theorem q543 : (Jvm.Cond.instanceMethod ({ cls := "PageBanks$Bank", name := "isDying", desc := "()Z" } : Jvm.MethodName)) ∈ lw_all := lw_g (lw_at lw_m3 23 rfl) rfl
theorem q544 : (Jvm.Cond.selects "PageBanks$Bank" ({ cls := "PageBanks$Bank", name := "isDying", desc := "()Z" } : Jvm.MethodName) ({ cls := "PageBanks$Bank", name := "isDying", desc := "()Z" } : Jvm.MethodName)) ∈ lw_all := lw_g (lw_at lw_m3 24 rfl) rfl
theorem q545 : (Jvm.Cond.code ({ cls := "PageBanks$Bank", name := "isDying", desc := "()Z" } : Jvm.MethodName) prog_2_method_3_code (1 : Nat) (Option.some Jvm.ClassFile.FieldType.boolean)) ∈ lw_all := lw_g (lw_at lw_m3 25 rfl) rfl
theorem q546 : (Jvm.Cond.fieldLink "PageBanks$Bank" (45 : Nat) "PageBanks$State" "DYING" "LPageBanks$State;") ∈ lw_all := lw_g (lw_at lw_m3 26 rfl) rfl
theorem q548 : (Jvm.Cond.instanceMethod ({ cls := "PageBanks$Bank", name := "banks", desc := "()I" } : Jvm.MethodName)) ∈ lw_all := lw_g (lw_at lw_m3 28 rfl) rfl
theorem q549 : (Jvm.Cond.selects "PageBanks$Bank" ({ cls := "PageBanks$Bank", name := "banks", desc := "()I" } : Jvm.MethodName) ({ cls := "PageBanks$Bank", name := "banks", desc := "()I" } : Jvm.MethodName)) ∈ lw_all := lw_g (lw_at lw_m3 29 rfl) rfl
theorem q550 : (Jvm.Cond.code ({ cls := "PageBanks$Bank", name := "banks", desc := "()I" } : Jvm.MethodName) prog_2_method_5_code (4 : Nat) (Option.some Jvm.ClassFile.FieldType.int)) ∈ lw_all := lw_g (lw_at lw_m3 30 rfl) rfl
theorem q551 : (Jvm.Cond.interfaceEntry "PageBanks$Bank" (56 : Nat)) ∈ lw_tbl := lw_at lw_m3 31 rfl
theorem q552 : (Jvm.Cond.methodLink "PageBanks$Bank" (56 : Nat) ({ cls := "java/util/List", name := "iterator", desc := "()Ljava/util/Iterator;" } : Jvm.MethodName)) ∈ lw_all := lw_g (lw_at lw_m3 32 rfl) rfl
theorem q553 : (Jvm.Cond.interfaceEntry "PageBanks$Bank" (62 : Nat)) ∈ lw_tbl := lw_at lw_m3 33 rfl
theorem q554 : (Jvm.Cond.methodLink "PageBanks$Bank" (62 : Nat) ({ cls := "java/util/Iterator", name := "hasNext", desc := "()Z" } : Jvm.MethodName)) ∈ lw_all := lw_g (lw_at lw_m3 34 rfl) rfl
theorem q555 : (Jvm.Cond.interfaceEntry "PageBanks$Bank" (67 : Nat)) ∈ lw_tbl := lw_at lw_m3 35 rfl
theorem q556 : (Jvm.Cond.methodLink "PageBanks$Bank" (67 : Nat) ({ cls := "java/util/Iterator", name := "next", desc := "()Ljava/lang/Object;" } : Jvm.MethodName)) ∈ lw_all := lw_g (lw_at lw_m3 36 rfl) rfl
theorem q557 : (Jvm.Cond.classLink "PageBanks$Bank" (16 : Nat) "PageBanks$Bank") ∈ lw_all := lw_g (lw_at lw_m3 37 rfl) rfl
theorem q558 : (Jvm.Cond.methodLink "PageBanks$Bank" (71 : Nat) ({ cls := "PageBanks$Bank", name := "banks", desc := "()I" } : Jvm.MethodName)) ∈ lw_all := lw_g (lw_at lw_m3 38 rfl) rfl
theorem q665 : (Jvm.Cond.instanceMethod ({ cls := "PageBanks$Bank", name := "refuses", desc := "(I)LPageBanks$Bank;" } : Jvm.MethodName)) ∈ lw_all := lw_g (lw_at lw_m3 145 rfl) rfl
theorem q666 : (Jvm.Cond.selects "PageBanks$Bank" ({ cls := "PageBanks$Bank", name := "refuses", desc := "(I)LPageBanks$Bank;" } : Jvm.MethodName) ({ cls := "PageBanks$Bank", name := "refuses", desc := "(I)LPageBanks$Bank;" } : Jvm.MethodName)) ∈ lw_all := lw_g (lw_at lw_m3 146 rfl) rfl
theorem q667 : (Jvm.Cond.code ({ cls := "PageBanks$Bank", name := "refuses", desc := "(I)LPageBanks$Bank;" } : Jvm.MethodName) prog_2_method_7_code (3 : Nat) (Option.some (Jvm.ClassFile.FieldType.object "PageBanks$Bank"))) ∈ lw_all := lw_g (lw_at lw_m3 147 rfl) rfl
theorem q697 : (Jvm.Cond.instanceMethod ({ cls := "PageBanks$Bank", name := "isRoot", desc := "()Z" } : Jvm.MethodName)) ∈ lw_all := lw_g (lw_at lw_m3 177 rfl) rfl
theorem q698 : (Jvm.Cond.selects "PageBanks$Bank" ({ cls := "PageBanks$Bank", name := "isRoot", desc := "()Z" } : Jvm.MethodName) ({ cls := "PageBanks$Bank", name := "isRoot", desc := "()Z" } : Jvm.MethodName)) ∈ lw_all := lw_g (lw_at lw_m3 178 rfl) rfl
theorem q699 : (Jvm.Cond.code ({ cls := "PageBanks$Bank", name := "isRoot", desc := "()Z" } : Jvm.MethodName) prog_2_method_2_code (1 : Nat) (Option.some Jvm.ClassFile.FieldType.boolean)) ∈ lw_all := lw_g (lw_at lw_m3 179 rfl) rfl
theorem q760 : (Jvm.Cond.instanceMethod ({ cls := "PageBanks$Bank", name := "depth", desc := "()I" } : Jvm.MethodName)) ∈ lw_all := lw_g (lw_at lw_m4 0 rfl) rfl
theorem q761 : (Jvm.Cond.selects "PageBanks$Bank" ({ cls := "PageBanks$Bank", name := "depth", desc := "()I" } : Jvm.MethodName) ({ cls := "PageBanks$Bank", name := "depth", desc := "()I" } : Jvm.MethodName)) ∈ lw_all := lw_g (lw_at lw_m4 1 rfl) rfl
theorem q762 : (Jvm.Cond.code ({ cls := "PageBanks$Bank", name := "depth", desc := "()I" } : Jvm.MethodName) prog_2_method_4_code (1 : Nat) (Option.some Jvm.ClassFile.FieldType.int)) ∈ lw_all := lw_g (lw_at lw_m4 2 rfl) rfl
theorem q763 : (Jvm.Cond.methodLink "PageBanks$Bank" (48 : Nat) ({ cls := "PageBanks$Bank", name := "isRoot", desc := "()Z" } : Jvm.MethodName)) ∈ lw_all := lw_g (lw_at lw_m4 3 rfl) rfl
theorem q764 : (Jvm.Cond.methodLink "PageBanks$Bank" (52 : Nat) ({ cls := "PageBanks$Bank", name := "depth", desc := "()I" } : Jvm.MethodName)) ∈ lw_all := lw_g (lw_at lw_m4 4 rfl) rfl
theorem q803 : (Jvm.Cond.selects "PageBanks$Bank" ({ cls := "java/lang/Object", name := "getClass", desc := "()Ljava/lang/Class;" } : Jvm.MethodName) ({ cls := "java/lang/Object", name := "getClass", desc := "()Ljava/lang/Class;" } : Jvm.MethodName)) ∈ lw_all := lw_g (lw_at lw_m4 43 rfl) rfl
theorem q866 : (Jvm.Cond.instanceMethod ({ cls := "PageBanks$Bank", name := "use", desc := "(I)V" } : Jvm.MethodName)) ∈ lw_all := lw_g (lw_at lw_m4 106 rfl) rfl
theorem q867 : (Jvm.Cond.selects "PageBanks$Bank" ({ cls := "PageBanks$Bank", name := "use", desc := "(I)V" } : Jvm.MethodName) ({ cls := "PageBanks$Bank", name := "use", desc := "(I)V" } : Jvm.MethodName)) ∈ lw_all := lw_g (lw_at lw_m4 107 rfl) rfl
theorem q868 : (Jvm.Cond.code ({ cls := "PageBanks$Bank", name := "use", desc := "(I)V" } : Jvm.MethodName) prog_2_method_6_code (3 : Nat) (Option.none : Option Jvm.ClassFile.FieldType)) ∈ lw_all := lw_g (lw_at lw_m4 108 rfl) rfl
theorem q1037 : (Jvm.Cond.instanceMethod ({ cls := "PageBanks$Bank", name := "isEmpty", desc := "()Z" } : Jvm.MethodName)) ∈ lw_all := lw_g (lw_at lw_m5 37 rfl) rfl
theorem q1038 : (Jvm.Cond.selects "PageBanks$Bank" ({ cls := "PageBanks$Bank", name := "isEmpty", desc := "()Z" } : Jvm.MethodName) ({ cls := "PageBanks$Bank", name := "isEmpty", desc := "()Z" } : Jvm.MethodName)) ∈ lw_all := lw_g (lw_at lw_m5 38 rfl) rfl
theorem q1039 : (Jvm.Cond.code ({ cls := "PageBanks$Bank", name := "isEmpty", desc := "()Z" } : Jvm.MethodName) prog_2_method_8_code (1 : Nat) (Option.some Jvm.ClassFile.FieldType.boolean)) ∈ lw_all := lw_g (lw_at lw_m5 39 rfl) rfl
theorem q1040 : (Jvm.Cond.interfaceEntry "PageBanks$Bank" (80 : Nat)) ∈ lw_tbl := lw_at lw_m5 40 rfl
theorem q1041 : (Jvm.Cond.methodLink "PageBanks$Bank" (80 : Nat) ({ cls := "java/util/List", name := "isEmpty", desc := "()Z" } : Jvm.MethodName)) ∈ lw_all := lw_g (lw_at lw_m5 41 rfl) rfl
theorem q1103 : (Jvm.Cond.instanceMethod ({ cls := "PageBanks$Bank", name := "told", desc := "(I)I" } : Jvm.MethodName)) ∈ lw_all := lw_g (lw_at lw_m5 103 rfl) rfl
theorem q1104 : (Jvm.Cond.selects "PageBanks$Bank" ({ cls := "PageBanks$Bank", name := "told", desc := "(I)I" } : Jvm.MethodName) ({ cls := "PageBanks$Bank", name := "told", desc := "(I)I" } : Jvm.MethodName)) ∈ lw_all := lw_g (lw_at lw_m5 104 rfl) rfl
theorem q1105 : (Jvm.Cond.code ({ cls := "PageBanks$Bank", name := "told", desc := "(I)I" } : Jvm.MethodName) prog_2_method_9_code (2 : Nat) (Option.some Jvm.ClassFile.FieldType.int)) ∈ lw_all := lw_g (lw_at lw_m5 105 rfl) rfl
theorem q1106 : (Jvm.Cond.methodLink "PageBanks$Bank" (86 : Nat) ({ cls := "PageBanks$State", name := "ordinal", desc := "()I" } : Jvm.MethodName)) ∈ lw_all := lw_g (lw_at lw_m5 106 rfl) rfl
theorem q1364 : (Jvm.Cond.castable "PageBanks$Bank" "java/lang/Object") ∈ lw_tbl := lw_at lw_m6 124 rfl
theorem in_X10 : ∀ w ∈ wsX100, w ∈ lw_all := lw_in wsX100 [290, 292, 294, 296, 298, 300, 302, 304] (by decide +kernel) (by decide +kernel)

/-! PageBanks$State -/
set_option maxRecDepth 100000
def RX11 : String := "PageBanks$State"
abbrev cX11_buys : ByteArray := prog_14_method_4_code
def yX11_buys : MethodName := ⟨RX11, "buys", "()Z"⟩
def dkwX11_buys_0 : List UInt8 := [42, 178, 0, 3, 166, 0, 7, 4, 167, 0, 4, 3, 172]
abbrev dktX11_buys_0 : List UInt8 := dkwX11_buys_0 ++ []
theorem dksX11_buys_0 : cX11_buys.data.toList.drop 0 = dktX11_buys_0 := by decide +kernel
theorem dX11_buys_0 : decode cX11_buys 0 = .ok (.aload_n 0, 1) := dk_42 (dk_at dksX11_buys_0 0 rfl rfl)
theorem dX11_buys_1 : decode cX11_buys 1 = .ok (.getstatic 3, 3) := dk_178 0 3 (dk_at dksX11_buys_0 1 rfl rfl)
theorem dX11_buys_4 : decode cX11_buys 4 = .ok (.if_acmp .ne 7, 3) := dk_166 0 7 (dk_at dksX11_buys_0 4 rfl rfl)
theorem dX11_buys_7 : decode cX11_buys 7 = .ok (.iconst 1, 1) := dk_4 (dk_at dksX11_buys_0 7 rfl rfl)
theorem dX11_buys_8 : decode cX11_buys 8 = .ok (.goto 4, 3) := dk_167 0 4 (dk_at dksX11_buys_0 8 rfl rfl)
theorem dX11_buys_11 : decode cX11_buys 11 = .ok (.iconst 0, 1) := dk_3 (dk_at dksX11_buys_0 11 rfl rfl)
theorem dX11_buys_12 : decode cX11_buys 12 = .ok (.ireturn, 1) := dk_172 (dk_at dksX11_buys_0 12 rfl rfl)
theorem q53 : (Jvm.Cond.initialized "PageBanks$State") ∈ lw_all := lw_g (lw_at lw_m1 13 rfl) rfl
theorem q224 : (Jvm.Cond.laysStatic "PageBanks$State" "LIVE" "LPageBanks$State;") ∈ lw_tbl := lw_at lw_m1 184 rfl
theorem q363 : (Jvm.Cond.laysStatic "PageBanks$State" "DYING" "LPageBanks$State;") ∈ lw_tbl := lw_at lw_m2 83 rfl
theorem q647 : (Jvm.Cond.instanceMethod ({ cls := "PageBanks$State", name := "buys", desc := "()Z" } : Jvm.MethodName)) ∈ lw_all := lw_g (lw_at lw_m3 127 rfl) rfl
theorem q648 : (Jvm.Cond.selects "PageBanks$State" ({ cls := "PageBanks$State", name := "buys", desc := "()Z" } : Jvm.MethodName) ({ cls := "PageBanks$State", name := "buys", desc := "()Z" } : Jvm.MethodName)) ∈ lw_all := lw_g (lw_at lw_m3 128 rfl) rfl
theorem q649 : (Jvm.Cond.code ({ cls := "PageBanks$State", name := "buys", desc := "()Z" } : Jvm.MethodName) prog_14_method_4_code (1 : Nat) (Option.some Jvm.ClassFile.FieldType.boolean)) ∈ lw_all := lw_g (lw_at lw_m3 129 rfl) rfl
theorem q650 : (Jvm.Cond.fieldLink "PageBanks$State" (3 : Nat) "PageBanks$State" "LIVE" "LPageBanks$State;") ∈ lw_all := lw_g (lw_at lw_m3 130 rfl) rfl
theorem q814 : (Jvm.Cond.selects "PageBanks$State" ({ cls := "java/lang/Object", name := "getClass", desc := "()Ljava/lang/Class;" } : Jvm.MethodName) ({ cls := "java/lang/Object", name := "getClass", desc := "()Ljava/lang/Class;" } : Jvm.MethodName)) ∈ lw_all := lw_g (lw_at lw_m4 54 rfl) rfl
theorem q994 : (Jvm.Cond.laysStatic "PageBanks$State" "FROZEN" "LPageBanks$State;") ∈ lw_tbl := lw_at lw_m4 234 rfl
theorem q1107 : (Jvm.Cond.sameMethod "PageBanks$State" "java/lang/Enum" "ordinal" "()I") ∈ lw_all := lw_g (lw_at lw_m5 107 rfl) rfl
theorem q1108 : (Jvm.Cond.selects "PageBanks$State" ({ cls := "PageBanks$State", name := "ordinal", desc := "()I" } : Jvm.MethodName) ({ cls := "java/lang/Enum", name := "ordinal", desc := "()I" } : Jvm.MethodName)) ∈ lw_all := lw_g (lw_at lw_m5 108 rfl) rfl
theorem q1373 : (Jvm.Cond.castable "PageBanks$State" "java/lang/Object") ∈ lw_tbl := lw_at lw_m6 133 rfl

/-! PageBanks$Ring -/
set_option maxRecDepth 100000
def RX12 : String := "PageBanks$Ring"
def TX12 : u_T := fun k => match k with
  | 0 => ("PageBanks$Ring", "first", "LPageBanks$Page;", false)
  | _ => ("PageBanks$Ring", "size", "I", false)
def tyX12 : Nat → FieldType := fun k => match k with
  | 0 => .object "PageBanks$Page"
  | _ => .int
abbrev wsX120 : List Cond := u_ws RX12 TX12 2
theorem nmX12 : ∀ a, a < 2 → ∀ b, b < 2 → a ≠ b → (TX12 a).2.1 ≠ (TX12 b).2.1 := by decide +kernel
theorem tyX12_ok : ∀ k, k < 2 → parseFieldDescriptor (TX12 k).2.2.1 = some (tyX12 k) := by decide +kernel
abbrev cX12_init : ByteArray := prog_11_method_1_code
def yX12_init : MethodName := ⟨RX12, "<init>", "()V"⟩
theorem dX12_init_0 : decode cX12_init 0 = .ok (.aload_n 0, 1) := by decide +kernel
theorem dX12_init_1 : decode cX12_init 1 = .ok (.invokespecial 1, 3) := by decide +kernel
theorem dX12_init_4 : decode cX12_init 4 = .ok (.return_, 1) := by decide +kernel
abbrev cX12_walk : ByteArray := prog_11_method_4_code
def yX12_walk : MethodName := ⟨RX12, "walk", "()LPageBanks$Walk;"⟩
def dkwX12_walk_0 : List UInt8 := [187, 0, 25, 89, 42, 183, 0, 27, 176]
abbrev dktX12_walk_0 : List UInt8 := dkwX12_walk_0 ++ []
theorem dksX12_walk_0 : cX12_walk.data.toList.drop 0 = dktX12_walk_0 := by decide +kernel
theorem dX12_walk_0 : decode cX12_walk 0 = .ok (.new 25, 3) := dk_187 0 25 (dk_at dksX12_walk_0 0 rfl rfl)
theorem dX12_walk_3 : decode cX12_walk 3 = .ok (.dup, 1) := dk_89 (dk_at dksX12_walk_0 3 rfl rfl)
theorem dX12_walk_4 : decode cX12_walk 4 = .ok (.aload_n 0, 1) := dk_42 (dk_at dksX12_walk_0 4 rfl rfl)
theorem dX12_walk_5 : decode cX12_walk 5 = .ok (.invokespecial 27, 3) := dk_183 0 27 (dk_at dksX12_walk_0 5 rfl rfl)
theorem dX12_walk_8 : decode cX12_walk 8 = .ok (.areturn, 1) := dk_176 (dk_at dksX12_walk_0 8 rfl rfl)
abbrev cX12_add : ByteArray := prog_11_method_2_code
def yX12_add : MethodName := ⟨RX12, "add", "(LPageBanks$Page;)V"⟩
def dkwX12_add_3 : List UInt8 := [180, 0, 7, 181, 0, 7, 42, 89, 180, 0, 21, 4, 96, 181, 0, 21, 177]
abbrev dktX12_add_3 : List UInt8 := dkwX12_add_3 ++ []
def dkwX12_add_2 : List UInt8 := [181, 0, 18, 43, 180, 0, 18, 43, 181, 0, 13, 42, 42, 180, 0, 7, 199, 0, 7, 43, 167, 0, 7, 42]
abbrev dktX12_add_2 : List UInt8 := dkwX12_add_2 ++ dktX12_add_3
def dkwX12_add_1 : List UInt8 := [180, 0, 7, 199, 0, 7, 43, 167, 0, 7, 42, 180, 0, 7, 181, 0, 18, 43, 180, 0, 13, 43]
abbrev dktX12_add_1 : List UInt8 := dkwX12_add_1 ++ dktX12_add_2
def dkwX12_add_0 : List UInt8 := [43, 42, 180, 0, 7, 199, 0, 7, 43, 167, 0, 10, 42, 180, 0, 7, 180, 0, 13, 181, 0, 13, 43, 42]
abbrev dktX12_add_0 : List UInt8 := dkwX12_add_0 ++ dktX12_add_1
theorem dksX12_add_0 : cX12_add.data.toList.drop 0 = dktX12_add_0 := by decide +kernel
theorem dksX12_add_1 : cX12_add.data.toList.drop 24 = dktX12_add_1 := dk_seg dksX12_add_0 24 rfl rfl
theorem dksX12_add_2 : cX12_add.data.toList.drop 46 = dktX12_add_2 := dk_seg dksX12_add_1 22 rfl rfl
theorem dksX12_add_3 : cX12_add.data.toList.drop 70 = dktX12_add_3 := dk_seg dksX12_add_2 24 rfl rfl
theorem dX12_add_0 : decode cX12_add 0 = .ok (.aload_n 1, 1) := dk_43 (dk_at dksX12_add_0 0 rfl rfl)
theorem dX12_add_1 : decode cX12_add 1 = .ok (.aload_n 0, 1) := dk_42 (dk_at dksX12_add_0 1 rfl rfl)
theorem dX12_add_2 : decode cX12_add 2 = .ok (.getfield 7, 3) := dk_180 0 7 (dk_at dksX12_add_0 2 rfl rfl)
theorem dX12_add_5 : decode cX12_add 5 = .ok (.ifnonnull 7, 3) := dk_199 0 7 (dk_at dksX12_add_0 5 rfl rfl)
theorem dX12_add_8 : decode cX12_add 8 = .ok (.aload_n 1, 1) := dk_43 (dk_at dksX12_add_0 8 rfl rfl)
theorem dX12_add_9 : decode cX12_add 9 = .ok (.goto 10, 3) := dk_167 0 10 (dk_at dksX12_add_0 9 rfl rfl)
theorem dX12_add_12 : decode cX12_add 12 = .ok (.aload_n 0, 1) := dk_42 (dk_at dksX12_add_0 12 rfl rfl)
theorem dX12_add_13 : decode cX12_add 13 = .ok (.getfield 7, 3) := dk_180 0 7 (dk_at dksX12_add_0 13 rfl rfl)
theorem dX12_add_16 : decode cX12_add 16 = .ok (.getfield 13, 3) := dk_180 0 13 (dk_at dksX12_add_0 16 rfl rfl)
theorem dX12_add_19 : decode cX12_add 19 = .ok (.putfield 13, 3) := dk_181 0 13 (dk_at dksX12_add_0 19 rfl rfl)
theorem dX12_add_22 : decode cX12_add 22 = .ok (.aload_n 1, 1) := dk_43 (dk_at dksX12_add_0 22 rfl rfl)
theorem dX12_add_23 : decode cX12_add 23 = .ok (.aload_n 0, 1) := dk_42 (dk_at dksX12_add_0 23 rfl rfl)
theorem dX12_add_24 : decode cX12_add 24 = .ok (.getfield 7, 3) := dk_180 0 7 (dk_at dksX12_add_1 0 rfl rfl)
theorem dX12_add_27 : decode cX12_add 27 = .ok (.ifnonnull 7, 3) := dk_199 0 7 (dk_at dksX12_add_1 3 rfl rfl)
theorem dX12_add_30 : decode cX12_add 30 = .ok (.aload_n 1, 1) := dk_43 (dk_at dksX12_add_1 6 rfl rfl)
theorem dX12_add_31 : decode cX12_add 31 = .ok (.goto 7, 3) := dk_167 0 7 (dk_at dksX12_add_1 7 rfl rfl)
theorem dX12_add_34 : decode cX12_add 34 = .ok (.aload_n 0, 1) := dk_42 (dk_at dksX12_add_1 10 rfl rfl)
theorem dX12_add_35 : decode cX12_add 35 = .ok (.getfield 7, 3) := dk_180 0 7 (dk_at dksX12_add_1 11 rfl rfl)
theorem dX12_add_38 : decode cX12_add 38 = .ok (.putfield 18, 3) := dk_181 0 18 (dk_at dksX12_add_1 14 rfl rfl)
theorem dX12_add_41 : decode cX12_add 41 = .ok (.aload_n 1, 1) := dk_43 (dk_at dksX12_add_1 17 rfl rfl)
theorem dX12_add_42 : decode cX12_add 42 = .ok (.getfield 13, 3) := dk_180 0 13 (dk_at dksX12_add_1 18 rfl rfl)
theorem dX12_add_45 : decode cX12_add 45 = .ok (.aload_n 1, 1) := dk_43 (dk_at dksX12_add_1 21 rfl rfl)
theorem dX12_add_46 : decode cX12_add 46 = .ok (.putfield 18, 3) := dk_181 0 18 (dk_at dksX12_add_2 0 rfl rfl)
theorem dX12_add_49 : decode cX12_add 49 = .ok (.aload_n 1, 1) := dk_43 (dk_at dksX12_add_2 3 rfl rfl)
theorem dX12_add_50 : decode cX12_add 50 = .ok (.getfield 18, 3) := dk_180 0 18 (dk_at dksX12_add_2 4 rfl rfl)
theorem dX12_add_53 : decode cX12_add 53 = .ok (.aload_n 1, 1) := dk_43 (dk_at dksX12_add_2 7 rfl rfl)
theorem dX12_add_54 : decode cX12_add 54 = .ok (.putfield 13, 3) := dk_181 0 13 (dk_at dksX12_add_2 8 rfl rfl)
theorem dX12_add_57 : decode cX12_add 57 = .ok (.aload_n 0, 1) := dk_42 (dk_at dksX12_add_2 11 rfl rfl)
theorem dX12_add_58 : decode cX12_add 58 = .ok (.aload_n 0, 1) := dk_42 (dk_at dksX12_add_2 12 rfl rfl)
theorem dX12_add_59 : decode cX12_add 59 = .ok (.getfield 7, 3) := dk_180 0 7 (dk_at dksX12_add_2 13 rfl rfl)
theorem dX12_add_62 : decode cX12_add 62 = .ok (.ifnonnull 7, 3) := dk_199 0 7 (dk_at dksX12_add_2 16 rfl rfl)
theorem dX12_add_65 : decode cX12_add 65 = .ok (.aload_n 1, 1) := dk_43 (dk_at dksX12_add_2 19 rfl rfl)
theorem dX12_add_66 : decode cX12_add 66 = .ok (.goto 7, 3) := dk_167 0 7 (dk_at dksX12_add_2 20 rfl rfl)
theorem dX12_add_69 : decode cX12_add 69 = .ok (.aload_n 0, 1) := dk_42 (dk_at dksX12_add_2 23 rfl rfl)
theorem dX12_add_70 : decode cX12_add 70 = .ok (.getfield 7, 3) := dk_180 0 7 (dk_at dksX12_add_3 0 rfl rfl)
theorem dX12_add_73 : decode cX12_add 73 = .ok (.putfield 7, 3) := dk_181 0 7 (dk_at dksX12_add_3 3 rfl rfl)
theorem dX12_add_76 : decode cX12_add 76 = .ok (.aload_n 0, 1) := dk_42 (dk_at dksX12_add_3 6 rfl rfl)
theorem dX12_add_77 : decode cX12_add 77 = .ok (.dup, 1) := dk_89 (dk_at dksX12_add_3 7 rfl rfl)
theorem dX12_add_78 : decode cX12_add 78 = .ok (.getfield 21, 3) := dk_180 0 21 (dk_at dksX12_add_3 8 rfl rfl)
theorem dX12_add_81 : decode cX12_add 81 = .ok (.iconst 1, 1) := dk_4 (dk_at dksX12_add_3 11 rfl rfl)
theorem dX12_add_82 : decode cX12_add 82 = .ok (.iadd, 1) := dk_96 (dk_at dksX12_add_3 12 rfl rfl)
theorem dX12_add_83 : decode cX12_add 83 = .ok (.putfield 21, 3) := dk_181 0 21 (dk_at dksX12_add_3 13 rfl rfl)
theorem dX12_add_86 : decode cX12_add 86 = .ok (.return_, 1) := dk_177 (dk_at dksX12_add_3 16 rfl rfl)
abbrev cX12_remove : ByteArray := prog_11_method_3_code
def yX12_remove : MethodName := ⟨RX12, "remove", "(LPageBanks$Page;)V"⟩
def dkwX12_remove_2 : List UInt8 := [180, 0, 13, 43, 180, 0, 18, 181, 0, 18, 43, 180, 0, 18, 43, 180, 0, 13, 181, 0, 13, 177]
abbrev dktX12_remove_2 : List UInt8 := dkwX12_remove_2 ++ []
def dkwX12_remove_1 : List UInt8 := [180, 0, 7, 43, 166, 0, 10, 43, 180, 0, 18, 167, 0, 7, 42, 180, 0, 7, 181, 0, 7, 43]
abbrev dktX12_remove_1 : List UInt8 := dkwX12_remove_1 ++ dktX12_remove_2
def dkwX12_remove_0 : List UInt8 := [42, 89, 180, 0, 21, 4, 100, 181, 0, 21, 42, 42, 180, 0, 21, 154, 0, 7, 1, 167, 0, 22, 42]
abbrev dktX12_remove_0 : List UInt8 := dkwX12_remove_0 ++ dktX12_remove_1
theorem dksX12_remove_0 : cX12_remove.data.toList.drop 0 = dktX12_remove_0 := by decide +kernel
theorem dksX12_remove_1 : cX12_remove.data.toList.drop 23 = dktX12_remove_1 := dk_seg dksX12_remove_0 23 rfl rfl
theorem dksX12_remove_2 : cX12_remove.data.toList.drop 45 = dktX12_remove_2 := dk_seg dksX12_remove_1 22 rfl rfl
theorem dX12_remove_0 : decode cX12_remove 0 = .ok (.aload_n 0, 1) := dk_42 (dk_at dksX12_remove_0 0 rfl rfl)
theorem dX12_remove_1 : decode cX12_remove 1 = .ok (.dup, 1) := dk_89 (dk_at dksX12_remove_0 1 rfl rfl)
theorem dX12_remove_2 : decode cX12_remove 2 = .ok (.getfield 21, 3) := dk_180 0 21 (dk_at dksX12_remove_0 2 rfl rfl)
theorem dX12_remove_5 : decode cX12_remove 5 = .ok (.iconst 1, 1) := dk_4 (dk_at dksX12_remove_0 5 rfl rfl)
theorem dX12_remove_6 : decode cX12_remove 6 = .ok (.isub, 1) := dk_100 (dk_at dksX12_remove_0 6 rfl rfl)
theorem dX12_remove_7 : decode cX12_remove 7 = .ok (.putfield 21, 3) := dk_181 0 21 (dk_at dksX12_remove_0 7 rfl rfl)
theorem dX12_remove_10 : decode cX12_remove 10 = .ok (.aload_n 0, 1) := dk_42 (dk_at dksX12_remove_0 10 rfl rfl)
theorem dX12_remove_11 : decode cX12_remove 11 = .ok (.aload_n 0, 1) := dk_42 (dk_at dksX12_remove_0 11 rfl rfl)
theorem dX12_remove_12 : decode cX12_remove 12 = .ok (.getfield 21, 3) := dk_180 0 21 (dk_at dksX12_remove_0 12 rfl rfl)
theorem dX12_remove_15 : decode cX12_remove 15 = .ok (.ifCond .ne 7, 3) := dk_154 0 7 (dk_at dksX12_remove_0 15 rfl rfl)
theorem dX12_remove_18 : decode cX12_remove 18 = .ok (.aconst_null, 1) := dk_1 (dk_at dksX12_remove_0 18 rfl rfl)
theorem dX12_remove_19 : decode cX12_remove 19 = .ok (.goto 22, 3) := dk_167 0 22 (dk_at dksX12_remove_0 19 rfl rfl)
theorem dX12_remove_22 : decode cX12_remove 22 = .ok (.aload_n 0, 1) := dk_42 (dk_at dksX12_remove_0 22 rfl rfl)
theorem dX12_remove_23 : decode cX12_remove 23 = .ok (.getfield 7, 3) := dk_180 0 7 (dk_at dksX12_remove_1 0 rfl rfl)
theorem dX12_remove_26 : decode cX12_remove 26 = .ok (.aload_n 1, 1) := dk_43 (dk_at dksX12_remove_1 3 rfl rfl)
theorem dX12_remove_27 : decode cX12_remove 27 = .ok (.if_acmp .ne 10, 3) := dk_166 0 10 (dk_at dksX12_remove_1 4 rfl rfl)
theorem dX12_remove_30 : decode cX12_remove 30 = .ok (.aload_n 1, 1) := dk_43 (dk_at dksX12_remove_1 7 rfl rfl)
theorem dX12_remove_31 : decode cX12_remove 31 = .ok (.getfield 18, 3) := dk_180 0 18 (dk_at dksX12_remove_1 8 rfl rfl)
theorem dX12_remove_34 : decode cX12_remove 34 = .ok (.goto 7, 3) := dk_167 0 7 (dk_at dksX12_remove_1 11 rfl rfl)
theorem dX12_remove_37 : decode cX12_remove 37 = .ok (.aload_n 0, 1) := dk_42 (dk_at dksX12_remove_1 14 rfl rfl)
theorem dX12_remove_38 : decode cX12_remove 38 = .ok (.getfield 7, 3) := dk_180 0 7 (dk_at dksX12_remove_1 15 rfl rfl)
theorem dX12_remove_41 : decode cX12_remove 41 = .ok (.putfield 7, 3) := dk_181 0 7 (dk_at dksX12_remove_1 18 rfl rfl)
theorem dX12_remove_44 : decode cX12_remove 44 = .ok (.aload_n 1, 1) := dk_43 (dk_at dksX12_remove_1 21 rfl rfl)
theorem dX12_remove_45 : decode cX12_remove 45 = .ok (.getfield 13, 3) := dk_180 0 13 (dk_at dksX12_remove_2 0 rfl rfl)
theorem dX12_remove_48 : decode cX12_remove 48 = .ok (.aload_n 1, 1) := dk_43 (dk_at dksX12_remove_2 3 rfl rfl)
theorem dX12_remove_49 : decode cX12_remove 49 = .ok (.getfield 18, 3) := dk_180 0 18 (dk_at dksX12_remove_2 4 rfl rfl)
theorem dX12_remove_52 : decode cX12_remove 52 = .ok (.putfield 18, 3) := dk_181 0 18 (dk_at dksX12_remove_2 7 rfl rfl)
theorem dX12_remove_55 : decode cX12_remove 55 = .ok (.aload_n 1, 1) := dk_43 (dk_at dksX12_remove_2 10 rfl rfl)
theorem dX12_remove_56 : decode cX12_remove 56 = .ok (.getfield 18, 3) := dk_180 0 18 (dk_at dksX12_remove_2 11 rfl rfl)
theorem dX12_remove_59 : decode cX12_remove 59 = .ok (.aload_n 1, 1) := dk_43 (dk_at dksX12_remove_2 14 rfl rfl)
theorem dX12_remove_60 : decode cX12_remove 60 = .ok (.getfield 13, 3) := dk_180 0 13 (dk_at dksX12_remove_2 15 rfl rfl)
theorem dX12_remove_63 : decode cX12_remove 63 = .ok (.putfield 13, 3) := dk_181 0 13 (dk_at dksX12_remove_2 18 rfl rfl)
theorem dX12_remove_66 : decode cX12_remove 66 = .ok (.return_, 1) := dk_177 (dk_at dksX12_remove_2 21 rfl rfl)
theorem q54 : (Jvm.Cond.initialized "PageBanks$Ring") ∈ lw_all := lw_g (lw_at lw_m1 14 rfl) rfl
theorem q185 : (Jvm.Cond.fieldLinkNest "PageBanks$Ring" (13 : Nat) "PageBanks$Page" "before" "LPageBanks$Page;" "PageBanks") ∈ lw_tbl := lw_at lw_m1 145 rfl
theorem q187 : (Jvm.Cond.fieldLinkNest "PageBanks$Ring" (18 : Nat) "PageBanks$Page" "behind" "LPageBanks$Page;" "PageBanks") ∈ lw_tbl := lw_at lw_m1 147 rfl
theorem q226 : (Jvm.Cond.instantiable "PageBanks$Ring" (2 : Nat)) ∈ lw_all := lw_g (lw_at lw_m1 186 rfl) rfl
theorem q228 : (Jvm.Cond.instanceMethod ({ cls := "PageBanks$Ring", name := "<init>", desc := "()V" } : Jvm.MethodName)) ∈ lw_all := lw_g (lw_at lw_m1 188 rfl) rfl
theorem q229 : (Jvm.Cond.code ({ cls := "PageBanks$Ring", name := "<init>", desc := "()V" } : Jvm.MethodName) prog_11_method_1_code (1 : Nat) (Option.none : Option Jvm.ClassFile.FieldType)) ∈ lw_all := lw_g (lw_at lw_m1 189 rfl) rfl
theorem q230 : (Jvm.Cond.methodLink "PageBanks$Ring" (1 : Nat) ({ cls := "java/lang/Object", name := "<init>", desc := "()V" } : Jvm.MethodName)) ∈ lw_all := lw_g (lw_at lw_m1 190 rfl) rfl
theorem q232 : (Jvm.Cond.fieldLink "PageBanks$Ring" (7 : Nat) "PageBanks$Ring" "first" "LPageBanks$Page;") ∈ lw_all := lw_g (lw_at lw_m1 192 rfl) rfl
theorem q234 : (Jvm.Cond.fieldLink "PageBanks$Ring" (21 : Nat) "PageBanks$Ring" "size" "I") ∈ lw_all := lw_g (lw_at lw_m1 194 rfl) rfl
theorem q237 : (Jvm.Cond.lays "PageBanks$Ring" "PageBanks$Ring" "first" "LPageBanks$Page;") ∈ lw_all := lw_g (lw_at lw_m1 197 rfl) rfl
theorem q238 : (Jvm.Cond.soleField "PageBanks$Ring" "first") ∈ lw_all := lw_g (lw_at lw_m1 198 rfl) rfl
theorem q239 : (Jvm.Cond.lays "PageBanks$Ring" "PageBanks$Ring" "size" "I") ∈ lw_all := lw_g (lw_at lw_m1 199 rfl) rfl
theorem q240 : (Jvm.Cond.soleField "PageBanks$Ring" "size") ∈ lw_all := lw_g (lw_at lw_m1 200 rfl) rfl
theorem q241 : (Jvm.Cond.superclass "PageBanks$Ring" "java/lang/Object") ∈ lw_all := lw_g (lw_at lw_m1 201 rfl) rfl
theorem q500 : (Jvm.Cond.instanceMethod ({ cls := "PageBanks$Ring", name := "walk", desc := "()LPageBanks$Walk;" } : Jvm.MethodName)) ∈ lw_all := lw_g (lw_at lw_m2 220 rfl) rfl
theorem q501 : (Jvm.Cond.selects "PageBanks$Ring" ({ cls := "PageBanks$Ring", name := "walk", desc := "()LPageBanks$Walk;" } : Jvm.MethodName) ({ cls := "PageBanks$Ring", name := "walk", desc := "()LPageBanks$Walk;" } : Jvm.MethodName)) ∈ lw_all := lw_g (lw_at lw_m2 221 rfl) rfl
theorem q502 : (Jvm.Cond.code ({ cls := "PageBanks$Ring", name := "walk", desc := "()LPageBanks$Walk;" } : Jvm.MethodName) prog_11_method_4_code (1 : Nat) (Option.some (Jvm.ClassFile.FieldType.object "PageBanks$Walk"))) ∈ lw_all := lw_g (lw_at lw_m2 222 rfl) rfl
theorem q503 : (Jvm.Cond.classLink "PageBanks$Ring" (25 : Nat) "PageBanks$RingWalk") ∈ lw_all := lw_g (lw_at lw_m2 223 rfl) rfl
theorem q505 : (Jvm.Cond.methodLink "PageBanks$Ring" (27 : Nat) ({ cls := "PageBanks$RingWalk", name := "<init>", desc := "(LPageBanks$Ring;)V" } : Jvm.MethodName)) ∈ lw_all := lw_g (lw_at lw_m2 225 rfl) rfl
theorem q812 : (Jvm.Cond.selects "PageBanks$Ring" ({ cls := "java/lang/Object", name := "getClass", desc := "()Ljava/lang/Class;" } : Jvm.MethodName) ({ cls := "java/lang/Object", name := "getClass", desc := "()Ljava/lang/Class;" } : Jvm.MethodName)) ∈ lw_all := lw_g (lw_at lw_m4 52 rfl) rfl
theorem q878 : (Jvm.Cond.instanceMethod ({ cls := "PageBanks$Ring", name := "add", desc := "(LPageBanks$Page;)V" } : Jvm.MethodName)) ∈ lw_all := lw_g (lw_at lw_m4 118 rfl) rfl
theorem q879 : (Jvm.Cond.selects "PageBanks$Ring" ({ cls := "PageBanks$Ring", name := "add", desc := "(LPageBanks$Page;)V" } : Jvm.MethodName) ({ cls := "PageBanks$Ring", name := "add", desc := "(LPageBanks$Page;)V" } : Jvm.MethodName)) ∈ lw_all := lw_g (lw_at lw_m4 119 rfl) rfl
theorem q880 : (Jvm.Cond.code ({ cls := "PageBanks$Ring", name := "add", desc := "(LPageBanks$Page;)V" } : Jvm.MethodName) prog_11_method_2_code (2 : Nat) (Option.none : Option Jvm.ClassFile.FieldType)) ∈ lw_all := lw_g (lw_at lw_m4 120 rfl) rfl
theorem q926 : (Jvm.Cond.instanceMethod ({ cls := "PageBanks$Ring", name := "remove", desc := "(LPageBanks$Page;)V" } : Jvm.MethodName)) ∈ lw_all := lw_g (lw_at lw_m4 166 rfl) rfl
theorem q927 : (Jvm.Cond.selects "PageBanks$Ring" ({ cls := "PageBanks$Ring", name := "remove", desc := "(LPageBanks$Page;)V" } : Jvm.MethodName) ({ cls := "PageBanks$Ring", name := "remove", desc := "(LPageBanks$Page;)V" } : Jvm.MethodName)) ∈ lw_all := lw_g (lw_at lw_m4 167 rfl) rfl
theorem q928 : (Jvm.Cond.code ({ cls := "PageBanks$Ring", name := "remove", desc := "(LPageBanks$Page;)V" } : Jvm.MethodName) prog_11_method_3_code (2 : Nat) (Option.none : Option Jvm.ClassFile.FieldType)) ∈ lw_all := lw_g (lw_at lw_m4 168 rfl) rfl
theorem q1374 : (Jvm.Cond.castable "PageBanks$Ring" "java/lang/Object") ∈ lw_tbl := lw_at lw_m6 134 rfl
theorem in_X12 : ∀ w ∈ wsX120, w ∈ lw_all := lw_in wsX120 [237, 239] (by decide +kernel) (by decide +kernel)

/-! PageBanks$RingWalk -/
set_option maxRecDepth 100000
def RX14 : String := "PageBanks$RingWalk"
def TX14 : u_T := fun k => match k with
  | 0 => ("PageBanks$RingWalk", "ring", "LPageBanks$Ring;", true)
  | 1 => ("PageBanks$RingWalk", "at", "LPageBanks$Page;", false)
  | 2 => ("PageBanks$RingWalk", "given", "LPageBanks$Page;", false)
  | _ => ("PageBanks$RingWalk", "left", "I", false)
def tyX14 : Nat → FieldType := fun k => match k with
  | 0 => .object "PageBanks$Ring"
  | 1 => .object "PageBanks$Page"
  | 2 => .object "PageBanks$Page"
  | _ => .int
abbrev wsX140 : List Cond := u_ws RX14 TX14 4
theorem nmX14 : ∀ a, a < 4 → ∀ b, b < 4 → a ≠ b → (TX14 a).2.1 ≠ (TX14 b).2.1 := by decide +kernel
theorem tyX14_ok : ∀ k, k < 4 → parseFieldDescriptor (TX14 k).2.2.1 = some (tyX14 k) := by decide +kernel
abbrev cX14_init : ByteArray := prog_12_method_1_code
def yX14_init : MethodName := ⟨RX14, "<init>", "(LPageBanks$Ring;)V"⟩
def dkwX14_init_1 : List UInt8 := [181, 0, 26, 177]
abbrev dktX14_init_1 : List UInt8 := dkwX14_init_1 ++ []
def dkwX14_init_0 : List UInt8 := [42, 183, 0, 1, 42, 43, 181, 0, 7, 42, 43, 180, 0, 13, 181, 0, 19, 42, 43, 180, 0, 22]
abbrev dktX14_init_0 : List UInt8 := dkwX14_init_0 ++ dktX14_init_1
theorem dksX14_init_0 : cX14_init.data.toList.drop 0 = dktX14_init_0 := by decide +kernel
theorem dksX14_init_1 : cX14_init.data.toList.drop 22 = dktX14_init_1 := dk_seg dksX14_init_0 22 rfl rfl
theorem dX14_init_0 : decode cX14_init 0 = .ok (.aload_n 0, 1) := dk_42 (dk_at dksX14_init_0 0 rfl rfl)
theorem dX14_init_1 : decode cX14_init 1 = .ok (.invokespecial 1, 3) := dk_183 0 1 (dk_at dksX14_init_0 1 rfl rfl)
theorem dX14_init_4 : decode cX14_init 4 = .ok (.aload_n 0, 1) := dk_42 (dk_at dksX14_init_0 4 rfl rfl)
theorem dX14_init_5 : decode cX14_init 5 = .ok (.aload_n 1, 1) := dk_43 (dk_at dksX14_init_0 5 rfl rfl)
theorem dX14_init_6 : decode cX14_init 6 = .ok (.putfield 7, 3) := dk_181 0 7 (dk_at dksX14_init_0 6 rfl rfl)
theorem dX14_init_9 : decode cX14_init 9 = .ok (.aload_n 0, 1) := dk_42 (dk_at dksX14_init_0 9 rfl rfl)
theorem dX14_init_10 : decode cX14_init 10 = .ok (.aload_n 1, 1) := dk_43 (dk_at dksX14_init_0 10 rfl rfl)
theorem dX14_init_11 : decode cX14_init 11 = .ok (.getfield 13, 3) := dk_180 0 13 (dk_at dksX14_init_0 11 rfl rfl)
theorem dX14_init_14 : decode cX14_init 14 = .ok (.putfield 19, 3) := dk_181 0 19 (dk_at dksX14_init_0 14 rfl rfl)
theorem dX14_init_17 : decode cX14_init 17 = .ok (.aload_n 0, 1) := dk_42 (dk_at dksX14_init_0 17 rfl rfl)
theorem dX14_init_18 : decode cX14_init 18 = .ok (.aload_n 1, 1) := dk_43 (dk_at dksX14_init_0 18 rfl rfl)
theorem dX14_init_19 : decode cX14_init 19 = .ok (.getfield 22, 3) := dk_180 0 22 (dk_at dksX14_init_0 19 rfl rfl)
theorem dX14_init_22 : decode cX14_init 22 = .ok (.putfield 26, 3) := dk_181 0 26 (dk_at dksX14_init_1 0 rfl rfl)
theorem dX14_init_25 : decode cX14_init 25 = .ok (.return_, 1) := dk_177 (dk_at dksX14_init_1 3 rfl rfl)
abbrev cX14_hasNext : ByteArray := prog_12_method_2_code
def yX14_hasNext : MethodName := ⟨RX14, "hasNext", "()Z"⟩
def dkwX14_hasNext_0 : List UInt8 := [42, 180, 0, 26, 158, 0, 7, 4, 167, 0, 4, 3, 172]
abbrev dktX14_hasNext_0 : List UInt8 := dkwX14_hasNext_0 ++ []
theorem dksX14_hasNext_0 : cX14_hasNext.data.toList.drop 0 = dktX14_hasNext_0 := by decide +kernel
theorem dX14_hasNext_0 : decode cX14_hasNext 0 = .ok (.aload_n 0, 1) := dk_42 (dk_at dksX14_hasNext_0 0 rfl rfl)
theorem dX14_hasNext_1 : decode cX14_hasNext 1 = .ok (.getfield 26, 3) := dk_180 0 26 (dk_at dksX14_hasNext_0 1 rfl rfl)
theorem dX14_hasNext_4 : decode cX14_hasNext 4 = .ok (.ifCond .le 7, 3) := dk_158 0 7 (dk_at dksX14_hasNext_0 4 rfl rfl)
theorem dX14_hasNext_7 : decode cX14_hasNext 7 = .ok (.iconst 1, 1) := dk_4 (dk_at dksX14_hasNext_0 7 rfl rfl)
theorem dX14_hasNext_8 : decode cX14_hasNext 8 = .ok (.goto 4, 3) := dk_167 0 4 (dk_at dksX14_hasNext_0 8 rfl rfl)
theorem dX14_hasNext_11 : decode cX14_hasNext 11 = .ok (.iconst 0, 1) := dk_3 (dk_at dksX14_hasNext_0 11 rfl rfl)
theorem dX14_hasNext_12 : decode cX14_hasNext 12 = .ok (.ireturn, 1) := dk_172 (dk_at dksX14_hasNext_0 12 rfl rfl)
abbrev cX14_next : ByteArray := prog_12_method_3_code
def yX14_next : MethodName := ⟨RX14, "next", "()LPageBanks$Page;"⟩
def dkwX14_next_1 : List UInt8 := [4, 100, 181, 0, 26, 42, 180, 0, 29, 176]
abbrev dktX14_next_1 : List UInt8 := dkwX14_next_1 ++ []
def dkwX14_next_0 : List UInt8 := [42, 42, 180, 0, 19, 181, 0, 29, 42, 42, 180, 0, 19, 180, 0, 32, 181, 0, 19, 42, 89, 180, 0, 26]
abbrev dktX14_next_0 : List UInt8 := dkwX14_next_0 ++ dktX14_next_1
theorem dksX14_next_0 : cX14_next.data.toList.drop 0 = dktX14_next_0 := by decide +kernel
theorem dksX14_next_1 : cX14_next.data.toList.drop 24 = dktX14_next_1 := dk_seg dksX14_next_0 24 rfl rfl
theorem dX14_next_0 : decode cX14_next 0 = .ok (.aload_n 0, 1) := dk_42 (dk_at dksX14_next_0 0 rfl rfl)
theorem dX14_next_1 : decode cX14_next 1 = .ok (.aload_n 0, 1) := dk_42 (dk_at dksX14_next_0 1 rfl rfl)
theorem dX14_next_2 : decode cX14_next 2 = .ok (.getfield 19, 3) := dk_180 0 19 (dk_at dksX14_next_0 2 rfl rfl)
theorem dX14_next_5 : decode cX14_next 5 = .ok (.putfield 29, 3) := dk_181 0 29 (dk_at dksX14_next_0 5 rfl rfl)
theorem dX14_next_8 : decode cX14_next 8 = .ok (.aload_n 0, 1) := dk_42 (dk_at dksX14_next_0 8 rfl rfl)
theorem dX14_next_9 : decode cX14_next 9 = .ok (.aload_n 0, 1) := dk_42 (dk_at dksX14_next_0 9 rfl rfl)
theorem dX14_next_10 : decode cX14_next 10 = .ok (.getfield 19, 3) := dk_180 0 19 (dk_at dksX14_next_0 10 rfl rfl)
theorem dX14_next_13 : decode cX14_next 13 = .ok (.getfield 32, 3) := dk_180 0 32 (dk_at dksX14_next_0 13 rfl rfl)
theorem dX14_next_16 : decode cX14_next 16 = .ok (.putfield 19, 3) := dk_181 0 19 (dk_at dksX14_next_0 16 rfl rfl)
theorem dX14_next_19 : decode cX14_next 19 = .ok (.aload_n 0, 1) := dk_42 (dk_at dksX14_next_0 19 rfl rfl)
theorem dX14_next_20 : decode cX14_next 20 = .ok (.dup, 1) := dk_89 (dk_at dksX14_next_0 20 rfl rfl)
theorem dX14_next_21 : decode cX14_next 21 = .ok (.getfield 26, 3) := dk_180 0 26 (dk_at dksX14_next_0 21 rfl rfl)
theorem dX14_next_24 : decode cX14_next 24 = .ok (.iconst 1, 1) := dk_4 (dk_at dksX14_next_1 0 rfl rfl)
theorem dX14_next_25 : decode cX14_next 25 = .ok (.isub, 1) := dk_100 (dk_at dksX14_next_1 1 rfl rfl)
theorem dX14_next_26 : decode cX14_next 26 = .ok (.putfield 26, 3) := dk_181 0 26 (dk_at dksX14_next_1 2 rfl rfl)
theorem dX14_next_29 : decode cX14_next 29 = .ok (.aload_n 0, 1) := dk_42 (dk_at dksX14_next_1 5 rfl rfl)
theorem dX14_next_30 : decode cX14_next 30 = .ok (.getfield 29, 3) := dk_180 0 29 (dk_at dksX14_next_1 6 rfl rfl)
theorem dX14_next_33 : decode cX14_next 33 = .ok (.areturn, 1) := dk_176 (dk_at dksX14_next_1 9 rfl rfl)
abbrev cX14_remove : ByteArray := prog_12_method_4_code
def yX14_remove : MethodName := ⟨RX14, "remove", "()V"⟩
def dkwX14_remove_0 : List UInt8 := [42, 180, 0, 7, 42, 180, 0, 29, 182, 0, 37, 177]
abbrev dktX14_remove_0 : List UInt8 := dkwX14_remove_0 ++ []
theorem dksX14_remove_0 : cX14_remove.data.toList.drop 0 = dktX14_remove_0 := by decide +kernel
theorem dX14_remove_0 : decode cX14_remove 0 = .ok (.aload_n 0, 1) := dk_42 (dk_at dksX14_remove_0 0 rfl rfl)
theorem dX14_remove_1 : decode cX14_remove 1 = .ok (.getfield 7, 3) := dk_180 0 7 (dk_at dksX14_remove_0 1 rfl rfl)
theorem dX14_remove_4 : decode cX14_remove 4 = .ok (.aload_n 0, 1) := dk_42 (dk_at dksX14_remove_0 4 rfl rfl)
theorem dX14_remove_5 : decode cX14_remove 5 = .ok (.getfield 29, 3) := dk_180 0 29 (dk_at dksX14_remove_0 5 rfl rfl)
theorem dX14_remove_8 : decode cX14_remove 8 = .ok (.invokevirtual 37, 3) := dk_182 0 37 (dk_at dksX14_remove_0 8 rfl rfl)
theorem dX14_remove_11 : decode cX14_remove 11 = .ok (.return_, 1) := dk_177 (dk_at dksX14_remove_0 11 rfl rfl)
theorem q76 : (Jvm.Cond.initialized "PageBanks$RingWalk") ∈ lw_all := lw_g (lw_at lw_m1 36 rfl) rfl
theorem q188 : (Jvm.Cond.fieldLinkNest "PageBanks$RingWalk" (32 : Nat) "PageBanks$Page" "behind" "LPageBanks$Page;" "PageBanks") ∈ lw_tbl := lw_at lw_m1 148 rfl
theorem q231 : (Jvm.Cond.fieldLinkNest "PageBanks$RingWalk" (13 : Nat) "PageBanks$Ring" "first" "LPageBanks$Page;" "PageBanks") ∈ lw_tbl := lw_at lw_m1 191 rfl
theorem q233 : (Jvm.Cond.fieldLinkNest "PageBanks$RingWalk" (22 : Nat) "PageBanks$Ring" "size" "I" "PageBanks") ∈ lw_tbl := lw_at lw_m1 193 rfl
theorem q504 : (Jvm.Cond.instantiable "PageBanks$RingWalk" (4 : Nat)) ∈ lw_all := lw_g (lw_at lw_m2 224 rfl) rfl
theorem q506 : (Jvm.Cond.instanceMethod ({ cls := "PageBanks$RingWalk", name := "<init>", desc := "(LPageBanks$Ring;)V" } : Jvm.MethodName)) ∈ lw_all := lw_g (lw_at lw_m2 226 rfl) rfl
theorem q507 : (Jvm.Cond.code ({ cls := "PageBanks$RingWalk", name := "<init>", desc := "(LPageBanks$Ring;)V" } : Jvm.MethodName) prog_12_method_1_code (2 : Nat) (Option.none : Option Jvm.ClassFile.FieldType)) ∈ lw_all := lw_g (lw_at lw_m2 227 rfl) rfl
theorem q508 : (Jvm.Cond.methodLink "PageBanks$RingWalk" (1 : Nat) ({ cls := "java/lang/Object", name := "<init>", desc := "()V" } : Jvm.MethodName)) ∈ lw_all := lw_g (lw_at lw_m2 228 rfl) rfl
theorem q509 : (Jvm.Cond.fieldLink "PageBanks$RingWalk" (7 : Nat) "PageBanks$RingWalk" "ring" "LPageBanks$Ring;") ∈ lw_all := lw_g (lw_at lw_m2 229 rfl) rfl
theorem q510 : (Jvm.Cond.fieldLink "PageBanks$RingWalk" (19 : Nat) "PageBanks$RingWalk" "at" "LPageBanks$Page;") ∈ lw_all := lw_g (lw_at lw_m2 230 rfl) rfl
theorem q511 : (Jvm.Cond.fieldLink "PageBanks$RingWalk" (29 : Nat) "PageBanks$RingWalk" "given" "LPageBanks$Page;") ∈ lw_all := lw_g (lw_at lw_m2 231 rfl) rfl
theorem q512 : (Jvm.Cond.fieldLink "PageBanks$RingWalk" (26 : Nat) "PageBanks$RingWalk" "left" "I") ∈ lw_all := lw_g (lw_at lw_m2 232 rfl) rfl
theorem q513 : (Jvm.Cond.laysFinal "PageBanks$RingWalk" "PageBanks$RingWalk" "ring" "LPageBanks$Ring;") ∈ lw_all := lw_g (lw_at lw_m2 233 rfl) rfl
theorem q514 : (Jvm.Cond.soleField "PageBanks$RingWalk" "ring") ∈ lw_all := lw_g (lw_at lw_m2 234 rfl) rfl
theorem q515 : (Jvm.Cond.lays "PageBanks$RingWalk" "PageBanks$RingWalk" "at" "LPageBanks$Page;") ∈ lw_all := lw_g (lw_at lw_m2 235 rfl) rfl
theorem q516 : (Jvm.Cond.soleField "PageBanks$RingWalk" "at") ∈ lw_all := lw_g (lw_at lw_m2 236 rfl) rfl
theorem q517 : (Jvm.Cond.lays "PageBanks$RingWalk" "PageBanks$RingWalk" "given" "LPageBanks$Page;") ∈ lw_all := lw_g (lw_at lw_m2 237 rfl) rfl
theorem q518 : (Jvm.Cond.soleField "PageBanks$RingWalk" "given") ∈ lw_all := lw_g (lw_at lw_m2 238 rfl) rfl
theorem q519 : (Jvm.Cond.lays "PageBanks$RingWalk" "PageBanks$RingWalk" "left" "I") ∈ lw_all := lw_g (lw_at lw_m2 239 rfl) rfl
theorem q520 : (Jvm.Cond.soleField "PageBanks$RingWalk" "left") ∈ lw_all := lw_g (lw_at lw_m3 0 rfl) rfl
theorem q521 : (Jvm.Cond.superclass "PageBanks$RingWalk" "java/lang/Object") ∈ lw_all := lw_g (lw_at lw_m3 1 rfl) rfl
theorem q526 : (Jvm.Cond.castable "PageBanks$RingWalk" "PageBanks$Walk") ∈ lw_tbl := lw_at lw_m3 6 rfl
theorem q527 : (Jvm.Cond.selects "PageBanks$RingWalk" ({ cls := "PageBanks$Walk", name := "hasNext", desc := "()Z" } : Jvm.MethodName) ({ cls := "PageBanks$RingWalk", name := "hasNext", desc := "()Z" } : Jvm.MethodName)) ∈ lw_all := lw_g (lw_at lw_m3 7 rfl) rfl
theorem q528 : (Jvm.Cond.unhidden "PageBanks$RingWalk" "hasNext" "()Z") ∈ lw_tbl := lw_at lw_m3 8 rfl
theorem q529 : (Jvm.Cond.instanceMethod ({ cls := "PageBanks$RingWalk", name := "hasNext", desc := "()Z" } : Jvm.MethodName)) ∈ lw_all := lw_g (lw_at lw_m3 9 rfl) rfl
theorem q530 : (Jvm.Cond.publicMethod ({ cls := "PageBanks$RingWalk", name := "hasNext", desc := "()Z" } : Jvm.MethodName)) ∈ lw_tbl := lw_at lw_m3 10 rfl
theorem q531 : (Jvm.Cond.code ({ cls := "PageBanks$RingWalk", name := "hasNext", desc := "()Z" } : Jvm.MethodName) prog_12_method_2_code (1 : Nat) (Option.some Jvm.ClassFile.FieldType.boolean)) ∈ lw_all := lw_g (lw_at lw_m3 11 rfl) rfl
theorem q536 : (Jvm.Cond.selects "PageBanks$RingWalk" ({ cls := "PageBanks$Walk", name := "next", desc := "()LPageBanks$Page;" } : Jvm.MethodName) ({ cls := "PageBanks$RingWalk", name := "next", desc := "()LPageBanks$Page;" } : Jvm.MethodName)) ∈ lw_all := lw_g (lw_at lw_m3 16 rfl) rfl
theorem q537 : (Jvm.Cond.unhidden "PageBanks$RingWalk" "next" "()LPageBanks$Page;") ∈ lw_tbl := lw_at lw_m3 17 rfl
theorem q538 : (Jvm.Cond.instanceMethod ({ cls := "PageBanks$RingWalk", name := "next", desc := "()LPageBanks$Page;" } : Jvm.MethodName)) ∈ lw_all := lw_g (lw_at lw_m3 18 rfl) rfl
theorem q539 : (Jvm.Cond.publicMethod ({ cls := "PageBanks$RingWalk", name := "next", desc := "()LPageBanks$Page;" } : Jvm.MethodName)) ∈ lw_tbl := lw_at lw_m3 19 rfl
theorem q540 : (Jvm.Cond.code ({ cls := "PageBanks$RingWalk", name := "next", desc := "()LPageBanks$Page;" } : Jvm.MethodName) prog_12_method_3_code (1 : Nat) (Option.some (Jvm.ClassFile.FieldType.object "PageBanks$Page"))) ∈ lw_all := lw_g (lw_at lw_m3 20 rfl) rfl
theorem q813 : (Jvm.Cond.selects "PageBanks$RingWalk" ({ cls := "java/lang/Object", name := "getClass", desc := "()Ljava/lang/Class;" } : Jvm.MethodName) ({ cls := "java/lang/Object", name := "getClass", desc := "()Ljava/lang/Class;" } : Jvm.MethodName)) ∈ lw_all := lw_g (lw_at lw_m4 53 rfl) rfl
theorem q1089 : (Jvm.Cond.selects "PageBanks$RingWalk" ({ cls := "PageBanks$Walk", name := "remove", desc := "()V" } : Jvm.MethodName) ({ cls := "PageBanks$RingWalk", name := "remove", desc := "()V" } : Jvm.MethodName)) ∈ lw_all := lw_g (lw_at lw_m5 89 rfl) rfl
theorem q1090 : (Jvm.Cond.unhidden "PageBanks$RingWalk" "remove" "()V") ∈ lw_tbl := lw_at lw_m5 90 rfl
theorem q1091 : (Jvm.Cond.instanceMethod ({ cls := "PageBanks$RingWalk", name := "remove", desc := "()V" } : Jvm.MethodName)) ∈ lw_all := lw_g (lw_at lw_m5 91 rfl) rfl
theorem q1092 : (Jvm.Cond.publicMethod ({ cls := "PageBanks$RingWalk", name := "remove", desc := "()V" } : Jvm.MethodName)) ∈ lw_tbl := lw_at lw_m5 92 rfl
theorem q1093 : (Jvm.Cond.code ({ cls := "PageBanks$RingWalk", name := "remove", desc := "()V" } : Jvm.MethodName) prog_12_method_4_code (1 : Nat) (Option.none : Option Jvm.ClassFile.FieldType)) ∈ lw_all := lw_g (lw_at lw_m5 93 rfl) rfl
theorem q1094 : (Jvm.Cond.methodLink "PageBanks$RingWalk" (37 : Nat) ({ cls := "PageBanks$Ring", name := "remove", desc := "(LPageBanks$Page;)V" } : Jvm.MethodName)) ∈ lw_all := lw_g (lw_at lw_m5 94 rfl) rfl
theorem q1384 : (Jvm.Cond.castable "PageBanks$RingWalk" "java/lang/Object") ∈ lw_tbl := lw_at lw_m6 144 rfl
theorem in_X14 : ∀ w ∈ wsX140, w ∈ lw_all := lw_in wsX140 [513, 515, 517, 519] (by decide +kernel) (by decide +kernel)

/-! PageBanks$Rule -/
set_option maxRecDepth 100000
def RX15 : String := "PageBanks$Rule"
abbrev cX15_then : ByteArray := prog_13_method_2_code
def yX15_then : MethodName := ⟨RX15, "then", "(LPageBanks$Rule;)LPageBanks$Rule;"⟩
def dkwX15_then_0 : List UInt8 := [187, 0, 1, 89, 42, 43, 183, 0, 3, 176]
abbrev dktX15_then_0 : List UInt8 := dkwX15_then_0 ++ []
theorem dksX15_then_0 : cX15_then.data.toList.drop 0 = dktX15_then_0 := by decide +kernel
theorem dX15_then_0 : decode cX15_then 0 = .ok (.new 1, 3) := dk_187 0 1 (dk_at dksX15_then_0 0 rfl rfl)
theorem dX15_then_3 : decode cX15_then 3 = .ok (.dup, 1) := dk_89 (dk_at dksX15_then_0 3 rfl rfl)
theorem dX15_then_4 : decode cX15_then 4 = .ok (.aload_n 0, 1) := dk_42 (dk_at dksX15_then_0 4 rfl rfl)
theorem dX15_then_5 : decode cX15_then 5 = .ok (.aload_n 1, 1) := dk_43 (dk_at dksX15_then_0 5 rfl rfl)
theorem dX15_then_6 : decode cX15_then 6 = .ok (.invokespecial 3, 3) := dk_183 0 3 (dk_at dksX15_then_0 6 rfl rfl)
theorem dX15_then_9 : decode cX15_then 9 = .ok (.areturn, 1) := dk_176 (dk_at dksX15_then_0 9 rfl rfl)
theorem q127 : (Jvm.Cond.declares ({ cls := "PageBanks$Rule", name := "then", desc := "(LPageBanks$Rule;)LPageBanks$Rule;" } : Jvm.MethodName)) ∈ lw_tbl := lw_at lw_m1 87 rfl
theorem q129 : (Jvm.Cond.instanceMethod ({ cls := "PageBanks$Rule", name := "then", desc := "(LPageBanks$Rule;)LPageBanks$Rule;" } : Jvm.MethodName)) ∈ lw_all := lw_g (lw_at lw_m1 89 rfl) rfl
theorem q130 : (Jvm.Cond.publicMethod ({ cls := "PageBanks$Rule", name := "then", desc := "(LPageBanks$Rule;)LPageBanks$Rule;" } : Jvm.MethodName)) ∈ lw_tbl := lw_at lw_m1 90 rfl
theorem q131 : (Jvm.Cond.code ({ cls := "PageBanks$Rule", name := "then", desc := "(LPageBanks$Rule;)LPageBanks$Rule;" } : Jvm.MethodName) prog_13_method_2_code (2 : Nat) (Option.some (Jvm.ClassFile.FieldType.object "PageBanks$Rule"))) ∈ lw_all := lw_g (lw_at lw_m1 91 rfl) rfl
theorem q132 : (Jvm.Cond.classLink "PageBanks$Rule" (1 : Nat) "PageBanks$Both") ∈ lw_all := lw_g (lw_at lw_m1 92 rfl) rfl
theorem q134 : (Jvm.Cond.methodLinkNest "PageBanks$Rule" (3 : Nat) ({ cls := "PageBanks$Both", name := "<init>", desc := "(LPageBanks$Rule;LPageBanks$Rule;)V" } : Jvm.MethodName) "PageBanks") ∈ lw_tbl := lw_at lw_m1 94 rfl
theorem q630 : (Jvm.Cond.interfaceMethod "PageBanks$Rule" "PageBanks$Rule" "judge" "(LPageBanks$Bank;I)LPageBanks$Verdict;") ∈ lw_tbl := lw_at lw_m3 110 rfl
theorem q631 : (Jvm.Cond.declares ({ cls := "PageBanks$Rule", name := "judge", desc := "(LPageBanks$Bank;I)LPageBanks$Verdict;" } : Jvm.MethodName)) ∈ lw_tbl := lw_at lw_m3 111 rfl

/-! PageBanks$Bits -/
set_option maxRecDepth 100000
def RX2 : String := "PageBanks$Bits"
def TX2 : u_T := fun k => match k with
  | 0 => ("PageBanks$Bits", "words", "[J", true)
  | _ => ("PageBanks$Bits", "many", "I", false)
def tyX2 : Nat → FieldType := fun k => match k with
  | 0 => .array .long
  | _ => .int
abbrev wsX20 : List Cond := u_ws RX2 TX2 2
theorem nmX2 : ∀ a, a < 2 → ∀ b, b < 2 → a ≠ b → (TX2 a).2.1 ≠ (TX2 b).2.1 := by decide +kernel
theorem tyX2_ok : ∀ k, k < 2 → parseFieldDescriptor (TX2 k).2.2.1 = some (tyX2 k) := by decide +kernel
abbrev cX2_init : ByteArray := prog_3_method_1_code
def yX2_init : MethodName := ⟨RX2, "<init>", "()V"⟩
def dkwX2_init_0 : List UInt8 := [42, 183, 0, 3, 42, 6, 188, 11, 181, 0, 9, 177]
abbrev dktX2_init_0 : List UInt8 := dkwX2_init_0 ++ []
theorem dksX2_init_0 : cX2_init.data.toList.drop 0 = dktX2_init_0 := by decide +kernel
theorem dX2_init_0 : decode cX2_init 0 = .ok (.aload_n 0, 1) := dk_42 (dk_at dksX2_init_0 0 rfl rfl)
theorem dX2_init_1 : decode cX2_init 1 = .ok (.invokespecial 3, 3) := dk_183 0 3 (dk_at dksX2_init_0 1 rfl rfl)
theorem dX2_init_4 : decode cX2_init 4 = .ok (.aload_n 0, 1) := dk_42 (dk_at dksX2_init_0 4 rfl rfl)
theorem dX2_init_5 : decode cX2_init 5 = .ok (.iconst 3, 1) := dk_6 (dk_at dksX2_init_0 5 rfl rfl)
theorem dX2_init_6 : decode cX2_init 6 = .ok (.newarray .long, 2) := dk_188_11 (dk_at dksX2_init_0 6 rfl rfl)
theorem dX2_init_8 : decode cX2_init 8 = .ok (.putfield 9, 3) := dk_181 0 9 (dk_at dksX2_init_0 8 rfl rfl)
theorem dX2_init_11 : decode cX2_init 11 = .ok (.return_, 1) := dk_177 (dk_at dksX2_init_0 11 rfl rfl)
abbrev cX2_set : ByteArray := prog_3_method_3_code
def yX2_set : MethodName := ⟨RX2, "set", "(IZ)V"⟩
def dkwX2_set_3 : List UInt8 := [20, 0, 23, 131, 127, 80, 177]
abbrev dktX2_set_3 : List UInt8 := dkwX2_set_3 ++ []
def dkwX2_set_2 : List UInt8 := [27, 16, 6, 122, 47, 10, 27, 121, 129, 167, 0, 20, 42, 180, 0, 9, 27, 16, 6, 122, 47, 10, 27, 121]
abbrev dktX2_set_2 : List UInt8 := dkwX2_set_2 ++ dktX2_set_3
def dkwX2_set_1 : List UInt8 := [167, 0, 4, 2, 96, 181, 0, 15, 42, 180, 0, 9, 27, 16, 6, 122, 28, 153, 0, 19, 42, 180, 0, 9]
abbrev dktX2_set_1 : List UInt8 := dkwX2_set_1 ++ dktX2_set_2
def dkwX2_set_0 : List UInt8 := [42, 89, 180, 0, 15, 42, 27, 182, 0, 19, 28, 160, 0, 7, 3, 167, 0, 12, 28, 153, 0, 7, 4]
abbrev dktX2_set_0 : List UInt8 := dkwX2_set_0 ++ dktX2_set_1
theorem dksX2_set_0 : cX2_set.data.toList.drop 0 = dktX2_set_0 := by decide +kernel
theorem dksX2_set_1 : cX2_set.data.toList.drop 23 = dktX2_set_1 := dk_seg dksX2_set_0 23 rfl rfl
theorem dksX2_set_2 : cX2_set.data.toList.drop 47 = dktX2_set_2 := dk_seg dksX2_set_1 24 rfl rfl
theorem dksX2_set_3 : cX2_set.data.toList.drop 71 = dktX2_set_3 := dk_seg dksX2_set_2 24 rfl rfl
theorem dX2_set_0 : decode cX2_set 0 = .ok (.aload_n 0, 1) := dk_42 (dk_at dksX2_set_0 0 rfl rfl)
theorem dX2_set_1 : decode cX2_set 1 = .ok (.dup, 1) := dk_89 (dk_at dksX2_set_0 1 rfl rfl)
theorem dX2_set_2 : decode cX2_set 2 = .ok (.getfield 15, 3) := dk_180 0 15 (dk_at dksX2_set_0 2 rfl rfl)
theorem dX2_set_5 : decode cX2_set 5 = .ok (.aload_n 0, 1) := dk_42 (dk_at dksX2_set_0 5 rfl rfl)
theorem dX2_set_6 : decode cX2_set 6 = .ok (.iload_n 1, 1) := dk_27 (dk_at dksX2_set_0 6 rfl rfl)
theorem dX2_set_7 : decode cX2_set 7 = .ok (.invokevirtual 19, 3) := dk_182 0 19 (dk_at dksX2_set_0 7 rfl rfl)
theorem dX2_set_10 : decode cX2_set 10 = .ok (.iload_n 2, 1) := dk_28 (dk_at dksX2_set_0 10 rfl rfl)
theorem dX2_set_11 : decode cX2_set 11 = .ok (.if_icmp .ne 7, 3) := dk_160 0 7 (dk_at dksX2_set_0 11 rfl rfl)
theorem dX2_set_14 : decode cX2_set 14 = .ok (.iconst 0, 1) := dk_3 (dk_at dksX2_set_0 14 rfl rfl)
theorem dX2_set_15 : decode cX2_set 15 = .ok (.goto 12, 3) := dk_167 0 12 (dk_at dksX2_set_0 15 rfl rfl)
theorem dX2_set_18 : decode cX2_set 18 = .ok (.iload_n 2, 1) := dk_28 (dk_at dksX2_set_0 18 rfl rfl)
theorem dX2_set_19 : decode cX2_set 19 = .ok (.ifCond .eq 7, 3) := dk_153 0 7 (dk_at dksX2_set_0 19 rfl rfl)
theorem dX2_set_22 : decode cX2_set 22 = .ok (.iconst 1, 1) := dk_4 (dk_at dksX2_set_0 22 rfl rfl)
theorem dX2_set_23 : decode cX2_set 23 = .ok (.goto 4, 3) := dk_167 0 4 (dk_at dksX2_set_1 0 rfl rfl)
theorem dX2_set_26 : decode cX2_set 26 = .ok (.iconst (-1), 1) := dk_2 (dk_at dksX2_set_1 3 rfl rfl)
theorem dX2_set_27 : decode cX2_set 27 = .ok (.iadd, 1) := dk_96 (dk_at dksX2_set_1 4 rfl rfl)
theorem dX2_set_28 : decode cX2_set 28 = .ok (.putfield 15, 3) := dk_181 0 15 (dk_at dksX2_set_1 5 rfl rfl)
theorem dX2_set_31 : decode cX2_set 31 = .ok (.aload_n 0, 1) := dk_42 (dk_at dksX2_set_1 8 rfl rfl)
theorem dX2_set_32 : decode cX2_set 32 = .ok (.getfield 9, 3) := dk_180 0 9 (dk_at dksX2_set_1 9 rfl rfl)
theorem dX2_set_35 : decode cX2_set 35 = .ok (.iload_n 1, 1) := dk_27 (dk_at dksX2_set_1 12 rfl rfl)
theorem dX2_set_36 : decode cX2_set 36 = .ok (.bipush 6, 2) := dk_16 6 (dk_at dksX2_set_1 13 rfl rfl)
theorem dX2_set_38 : decode cX2_set 38 = .ok (.ishr, 1) := dk_122 (dk_at dksX2_set_1 15 rfl rfl)
theorem dX2_set_39 : decode cX2_set 39 = .ok (.iload_n 2, 1) := dk_28 (dk_at dksX2_set_1 16 rfl rfl)
theorem dX2_set_40 : decode cX2_set 40 = .ok (.ifCond .eq 19, 3) := dk_153 0 19 (dk_at dksX2_set_1 17 rfl rfl)
theorem dX2_set_43 : decode cX2_set 43 = .ok (.aload_n 0, 1) := dk_42 (dk_at dksX2_set_1 20 rfl rfl)
theorem dX2_set_44 : decode cX2_set 44 = .ok (.getfield 9, 3) := dk_180 0 9 (dk_at dksX2_set_1 21 rfl rfl)
theorem dX2_set_47 : decode cX2_set 47 = .ok (.iload_n 1, 1) := dk_27 (dk_at dksX2_set_2 0 rfl rfl)
theorem dX2_set_48 : decode cX2_set 48 = .ok (.bipush 6, 2) := dk_16 6 (dk_at dksX2_set_2 1 rfl rfl)
theorem dX2_set_50 : decode cX2_set 50 = .ok (.ishr, 1) := dk_122 (dk_at dksX2_set_2 3 rfl rfl)
theorem dX2_set_51 : decode cX2_set 51 = .ok (.laload, 1) := dk_47 (dk_at dksX2_set_2 4 rfl rfl)
theorem dX2_set_52 : decode cX2_set 52 = .ok (.lconst 1, 1) := dk_10 (dk_at dksX2_set_2 5 rfl rfl)
theorem dX2_set_53 : decode cX2_set 53 = .ok (.iload_n 1, 1) := dk_27 (dk_at dksX2_set_2 6 rfl rfl)
theorem dX2_set_54 : decode cX2_set 54 = .ok (.lshl, 1) := dk_121 (dk_at dksX2_set_2 7 rfl rfl)
theorem dX2_set_55 : decode cX2_set 55 = .ok (.lor, 1) := dk_129 (dk_at dksX2_set_2 8 rfl rfl)
theorem dX2_set_56 : decode cX2_set 56 = .ok (.goto 20, 3) := dk_167 0 20 (dk_at dksX2_set_2 9 rfl rfl)
theorem dX2_set_59 : decode cX2_set 59 = .ok (.aload_n 0, 1) := dk_42 (dk_at dksX2_set_2 12 rfl rfl)
theorem dX2_set_60 : decode cX2_set 60 = .ok (.getfield 9, 3) := dk_180 0 9 (dk_at dksX2_set_2 13 rfl rfl)
theorem dX2_set_63 : decode cX2_set 63 = .ok (.iload_n 1, 1) := dk_27 (dk_at dksX2_set_2 16 rfl rfl)
theorem dX2_set_64 : decode cX2_set 64 = .ok (.bipush 6, 2) := dk_16 6 (dk_at dksX2_set_2 17 rfl rfl)
theorem dX2_set_66 : decode cX2_set 66 = .ok (.ishr, 1) := dk_122 (dk_at dksX2_set_2 19 rfl rfl)
theorem dX2_set_67 : decode cX2_set 67 = .ok (.laload, 1) := dk_47 (dk_at dksX2_set_2 20 rfl rfl)
theorem dX2_set_68 : decode cX2_set 68 = .ok (.lconst 1, 1) := dk_10 (dk_at dksX2_set_2 21 rfl rfl)
theorem dX2_set_69 : decode cX2_set 69 = .ok (.iload_n 1, 1) := dk_27 (dk_at dksX2_set_2 22 rfl rfl)
theorem dX2_set_70 : decode cX2_set 70 = .ok (.lshl, 1) := dk_121 (dk_at dksX2_set_2 23 rfl rfl)
theorem dX2_set_71 : decode cX2_set 71 = .ok (.ldc2_w 23, 3) := dk_20 0 23 (dk_at dksX2_set_3 0 rfl rfl)
theorem dX2_set_74 : decode cX2_set 74 = .ok (.lxor, 1) := dk_131 (dk_at dksX2_set_3 3 rfl rfl)
theorem dX2_set_75 : decode cX2_set 75 = .ok (.land, 1) := dk_127 (dk_at dksX2_set_3 4 rfl rfl)
theorem dX2_set_76 : decode cX2_set 76 = .ok (.lastore, 1) := dk_80 (dk_at dksX2_set_3 5 rfl rfl)
theorem dX2_set_77 : decode cX2_set 77 = .ok (.return_, 1) := dk_177 (dk_at dksX2_set_3 6 rfl rfl)
abbrev cX2_has : ByteArray := prog_3_method_2_code
def yX2_has : MethodName := ⟨RX2, "has", "(I)Z"⟩
def dkwX2_has_0 : List UInt8 := [42, 180, 0, 9, 27, 16, 6, 122, 47, 27, 125, 10, 127, 10, 148, 154, 0, 7, 4, 167, 0, 4, 3, 172]
abbrev dktX2_has_0 : List UInt8 := dkwX2_has_0 ++ []
theorem dksX2_has_0 : cX2_has.data.toList.drop 0 = dktX2_has_0 := by decide +kernel
theorem dX2_has_0 : decode cX2_has 0 = .ok (.aload_n 0, 1) := dk_42 (dk_at dksX2_has_0 0 rfl rfl)
theorem dX2_has_1 : decode cX2_has 1 = .ok (.getfield 9, 3) := dk_180 0 9 (dk_at dksX2_has_0 1 rfl rfl)
theorem dX2_has_4 : decode cX2_has 4 = .ok (.iload_n 1, 1) := dk_27 (dk_at dksX2_has_0 4 rfl rfl)
theorem dX2_has_5 : decode cX2_has 5 = .ok (.bipush 6, 2) := dk_16 6 (dk_at dksX2_has_0 5 rfl rfl)
theorem dX2_has_7 : decode cX2_has 7 = .ok (.ishr, 1) := dk_122 (dk_at dksX2_has_0 7 rfl rfl)
theorem dX2_has_8 : decode cX2_has 8 = .ok (.laload, 1) := dk_47 (dk_at dksX2_has_0 8 rfl rfl)
theorem dX2_has_9 : decode cX2_has 9 = .ok (.iload_n 1, 1) := dk_27 (dk_at dksX2_has_0 9 rfl rfl)
theorem dX2_has_10 : decode cX2_has 10 = .ok (.lushr, 1) := dk_125 (dk_at dksX2_has_0 10 rfl rfl)
theorem dX2_has_11 : decode cX2_has 11 = .ok (.lconst 1, 1) := dk_10 (dk_at dksX2_has_0 11 rfl rfl)
theorem dX2_has_12 : decode cX2_has 12 = .ok (.land, 1) := dk_127 (dk_at dksX2_has_0 12 rfl rfl)
theorem dX2_has_13 : decode cX2_has 13 = .ok (.lconst 1, 1) := dk_10 (dk_at dksX2_has_0 13 rfl rfl)
theorem dX2_has_14 : decode cX2_has 14 = .ok (.lcmp, 1) := dk_148 (dk_at dksX2_has_0 14 rfl rfl)
theorem dX2_has_15 : decode cX2_has 15 = .ok (.ifCond .ne 7, 3) := dk_154 0 7 (dk_at dksX2_has_0 15 rfl rfl)
theorem dX2_has_18 : decode cX2_has 18 = .ok (.iconst 1, 1) := dk_4 (dk_at dksX2_has_0 18 rfl rfl)
theorem dX2_has_19 : decode cX2_has 19 = .ok (.goto 4, 3) := dk_167 0 4 (dk_at dksX2_has_0 19 rfl rfl)
theorem dX2_has_22 : decode cX2_has 22 = .ok (.iconst 0, 1) := dk_3 (dk_at dksX2_has_0 22 rfl rfl)
theorem dX2_has_23 : decode cX2_has 23 = .ok (.ireturn, 1) := dk_172 (dk_at dksX2_has_0 23 rfl rfl)
abbrev cX2_next : ByteArray := prog_3_method_4_code
def yX2_next : MethodName := ⟨RX2, "next", "(IZ)I"⟩
def dkwX2_next_4 : List UInt8 := [17, 0, 192, 172]
abbrev dktX2_next_4 : List UInt8 := dkwX2_next_4 ++ []
def dkwX2_next_3 : List UInt8 := [22, 4, 9, 148, 153, 0, 14, 16, 64, 29, 104, 22, 4, 184, 0, 25, 96, 172, 132, 3, 1, 167, 255, 171]
abbrev dktX2_next_3 : List UInt8 := dkwX2_next_3 ++ dktX2_next_4
def dkwX2_next_2 : List UInt8 := [29, 27, 16, 6, 122, 160, 0, 14, 22, 4, 20, 0, 23, 27, 121, 127, 167, 0, 5, 22, 4, 55, 4]
abbrev dktX2_next_2 : List UInt8 := dkwX2_next_2 ++ dktX2_next_3
def dkwX2_next_1 : List UInt8 := [153, 0, 12, 42, 180, 0, 9, 29, 47, 167, 0, 13, 42, 180, 0, 9, 29, 47, 20, 0, 23, 131, 55, 4]
abbrev dktX2_next_1 : List UInt8 := dkwX2_next_1 ++ dktX2_next_2
def dkwX2_next_0 : List UInt8 := [27, 16, 6, 122, 62, 29, 42, 180, 0, 9, 190, 162, 0, 82, 27, 17, 0, 192, 162, 0, 75, 28]
abbrev dktX2_next_0 : List UInt8 := dkwX2_next_0 ++ dktX2_next_1
theorem dksX2_next_0 : cX2_next.data.toList.drop 0 = dktX2_next_0 := by decide +kernel
theorem dksX2_next_1 : cX2_next.data.toList.drop 22 = dktX2_next_1 := dk_seg dksX2_next_0 22 rfl rfl
theorem dksX2_next_2 : cX2_next.data.toList.drop 46 = dktX2_next_2 := dk_seg dksX2_next_1 24 rfl rfl
theorem dksX2_next_3 : cX2_next.data.toList.drop 69 = dktX2_next_3 := dk_seg dksX2_next_2 23 rfl rfl
theorem dksX2_next_4 : cX2_next.data.toList.drop 93 = dktX2_next_4 := dk_seg dksX2_next_3 24 rfl rfl
theorem dX2_next_0 : decode cX2_next 0 = .ok (.iload_n 1, 1) := dk_27 (dk_at dksX2_next_0 0 rfl rfl)
theorem dX2_next_1 : decode cX2_next 1 = .ok (.bipush 6, 2) := dk_16 6 (dk_at dksX2_next_0 1 rfl rfl)
theorem dX2_next_3 : decode cX2_next 3 = .ok (.ishr, 1) := dk_122 (dk_at dksX2_next_0 3 rfl rfl)
theorem dX2_next_4 : decode cX2_next 4 = .ok (.istore_n 3, 1) := dk_62 (dk_at dksX2_next_0 4 rfl rfl)
theorem dX2_next_5 : decode cX2_next 5 = .ok (.iload_n 3, 1) := dk_29 (dk_at dksX2_next_0 5 rfl rfl)
theorem dX2_next_6 : decode cX2_next 6 = .ok (.aload_n 0, 1) := dk_42 (dk_at dksX2_next_0 6 rfl rfl)
theorem dX2_next_7 : decode cX2_next 7 = .ok (.getfield 9, 3) := dk_180 0 9 (dk_at dksX2_next_0 7 rfl rfl)
theorem dX2_next_10 : decode cX2_next 10 = .ok (.arraylength, 1) := dk_190 (dk_at dksX2_next_0 10 rfl rfl)
theorem dX2_next_11 : decode cX2_next 11 = .ok (.if_icmp .ge 82, 3) := dk_162 0 82 (dk_at dksX2_next_0 11 rfl rfl)
theorem dX2_next_14 : decode cX2_next 14 = .ok (.iload_n 1, 1) := dk_27 (dk_at dksX2_next_0 14 rfl rfl)
theorem dX2_next_15 : decode cX2_next 15 = .ok (.sipush 192, 3) := dk_17 0 192 (dk_at dksX2_next_0 15 rfl rfl)
theorem dX2_next_18 : decode cX2_next 18 = .ok (.if_icmp .ge 75, 3) := dk_162 0 75 (dk_at dksX2_next_0 18 rfl rfl)
theorem dX2_next_21 : decode cX2_next 21 = .ok (.iload_n 2, 1) := dk_28 (dk_at dksX2_next_0 21 rfl rfl)
theorem dX2_next_22 : decode cX2_next 22 = .ok (.ifCond .eq 12, 3) := dk_153 0 12 (dk_at dksX2_next_1 0 rfl rfl)
theorem dX2_next_25 : decode cX2_next 25 = .ok (.aload_n 0, 1) := dk_42 (dk_at dksX2_next_1 3 rfl rfl)
theorem dX2_next_26 : decode cX2_next 26 = .ok (.getfield 9, 3) := dk_180 0 9 (dk_at dksX2_next_1 4 rfl rfl)
theorem dX2_next_29 : decode cX2_next 29 = .ok (.iload_n 3, 1) := dk_29 (dk_at dksX2_next_1 7 rfl rfl)
theorem dX2_next_30 : decode cX2_next 30 = .ok (.laload, 1) := dk_47 (dk_at dksX2_next_1 8 rfl rfl)
theorem dX2_next_31 : decode cX2_next 31 = .ok (.goto 13, 3) := dk_167 0 13 (dk_at dksX2_next_1 9 rfl rfl)
theorem dX2_next_34 : decode cX2_next 34 = .ok (.aload_n 0, 1) := dk_42 (dk_at dksX2_next_1 12 rfl rfl)
theorem dX2_next_35 : decode cX2_next 35 = .ok (.getfield 9, 3) := dk_180 0 9 (dk_at dksX2_next_1 13 rfl rfl)
theorem dX2_next_38 : decode cX2_next 38 = .ok (.iload_n 3, 1) := dk_29 (dk_at dksX2_next_1 16 rfl rfl)
theorem dX2_next_39 : decode cX2_next 39 = .ok (.laload, 1) := dk_47 (dk_at dksX2_next_1 17 rfl rfl)
theorem dX2_next_40 : decode cX2_next 40 = .ok (.ldc2_w 23, 3) := dk_20 0 23 (dk_at dksX2_next_1 18 rfl rfl)
theorem dX2_next_43 : decode cX2_next 43 = .ok (.lxor, 1) := dk_131 (dk_at dksX2_next_1 21 rfl rfl)
theorem dX2_next_44 : decode cX2_next 44 = .ok (.lstore 4, 2) := dk_55 4 (dk_at dksX2_next_1 22 rfl rfl)
theorem dX2_next_46 : decode cX2_next 46 = .ok (.iload_n 3, 1) := dk_29 (dk_at dksX2_next_2 0 rfl rfl)
theorem dX2_next_47 : decode cX2_next 47 = .ok (.iload_n 1, 1) := dk_27 (dk_at dksX2_next_2 1 rfl rfl)
theorem dX2_next_48 : decode cX2_next 48 = .ok (.bipush 6, 2) := dk_16 6 (dk_at dksX2_next_2 2 rfl rfl)
theorem dX2_next_50 : decode cX2_next 50 = .ok (.ishr, 1) := dk_122 (dk_at dksX2_next_2 4 rfl rfl)
theorem dX2_next_51 : decode cX2_next 51 = .ok (.if_icmp .ne 14, 3) := dk_160 0 14 (dk_at dksX2_next_2 5 rfl rfl)
theorem dX2_next_54 : decode cX2_next 54 = .ok (.lload 4, 2) := dk_22 4 (dk_at dksX2_next_2 8 rfl rfl)
theorem dX2_next_56 : decode cX2_next 56 = .ok (.ldc2_w 23, 3) := dk_20 0 23 (dk_at dksX2_next_2 10 rfl rfl)
theorem dX2_next_59 : decode cX2_next 59 = .ok (.iload_n 1, 1) := dk_27 (dk_at dksX2_next_2 13 rfl rfl)
theorem dX2_next_60 : decode cX2_next 60 = .ok (.lshl, 1) := dk_121 (dk_at dksX2_next_2 14 rfl rfl)
theorem dX2_next_61 : decode cX2_next 61 = .ok (.land, 1) := dk_127 (dk_at dksX2_next_2 15 rfl rfl)
theorem dX2_next_62 : decode cX2_next 62 = .ok (.goto 5, 3) := dk_167 0 5 (dk_at dksX2_next_2 16 rfl rfl)
theorem dX2_next_65 : decode cX2_next 65 = .ok (.lload 4, 2) := dk_22 4 (dk_at dksX2_next_2 19 rfl rfl)
theorem dX2_next_67 : decode cX2_next 67 = .ok (.lstore 4, 2) := dk_55 4 (dk_at dksX2_next_2 21 rfl rfl)
theorem dX2_next_69 : decode cX2_next 69 = .ok (.lload 4, 2) := dk_22 4 (dk_at dksX2_next_3 0 rfl rfl)
theorem dX2_next_71 : decode cX2_next 71 = .ok (.lconst 0, 1) := dk_9 (dk_at dksX2_next_3 2 rfl rfl)
theorem dX2_next_72 : decode cX2_next 72 = .ok (.lcmp, 1) := dk_148 (dk_at dksX2_next_3 3 rfl rfl)
theorem dX2_next_73 : decode cX2_next 73 = .ok (.ifCond .eq 14, 3) := dk_153 0 14 (dk_at dksX2_next_3 4 rfl rfl)
theorem dX2_next_76 : decode cX2_next 76 = .ok (.bipush 64, 2) := dk_16 64 (dk_at dksX2_next_3 7 rfl rfl)
theorem dX2_next_78 : decode cX2_next 78 = .ok (.iload_n 3, 1) := dk_29 (dk_at dksX2_next_3 9 rfl rfl)
theorem dX2_next_79 : decode cX2_next 79 = .ok (.imul, 1) := dk_104 (dk_at dksX2_next_3 10 rfl rfl)
theorem dX2_next_80 : decode cX2_next 80 = .ok (.lload 4, 2) := dk_22 4 (dk_at dksX2_next_3 11 rfl rfl)
theorem dX2_next_82 : decode cX2_next 82 = .ok (.invokestatic 25, 3) := dk_184 0 25 (dk_at dksX2_next_3 13 rfl rfl)
theorem dX2_next_85 : decode cX2_next 85 = .ok (.iadd, 1) := dk_96 (dk_at dksX2_next_3 16 rfl rfl)
theorem dX2_next_86 : decode cX2_next 86 = .ok (.ireturn, 1) := dk_172 (dk_at dksX2_next_3 17 rfl rfl)
theorem dX2_next_87 : decode cX2_next 87 = .ok (.iinc 3 1, 3) := dk_132 3 1 (dk_at dksX2_next_3 18 rfl rfl)
theorem dX2_next_90 : decode cX2_next 90 = .ok (.goto (-85), 3) := dk_167 255 171 (dk_at dksX2_next_3 21 rfl rfl)
theorem dX2_next_93 : decode cX2_next 93 = .ok (.sipush 192, 3) := dk_17 0 192 (dk_at dksX2_next_4 0 rfl rfl)
theorem dX2_next_96 : decode cX2_next 96 = .ok (.ireturn, 1) := dk_172 (dk_at dksX2_next_4 3 rfl rfl)
abbrev cX2_run : ByteArray := prog_3_method_5_code
def yX2_run : MethodName := ⟨RX2, "run", "(I)I"⟩
def dkwX2_run_1 : List UInt8 := [162, 0, 18, 42, 42, 28, 3, 182, 0, 31, 4, 182, 0, 31, 61, 167, 255, 225, 28, 172]
abbrev dktX2_run_1 : List UInt8 := dkwX2_run_1 ++ []
def dkwX2_run_0 : List UInt8 := [42, 3, 4, 182, 0, 31, 61, 28, 17, 0, 192, 162, 0, 30, 42, 28, 3, 182, 0, 31, 28, 100, 27]
abbrev dktX2_run_0 : List UInt8 := dkwX2_run_0 ++ dktX2_run_1
theorem dksX2_run_0 : cX2_run.data.toList.drop 0 = dktX2_run_0 := by decide +kernel
theorem dksX2_run_1 : cX2_run.data.toList.drop 23 = dktX2_run_1 := dk_seg dksX2_run_0 23 rfl rfl
theorem dX2_run_0 : decode cX2_run 0 = .ok (.aload_n 0, 1) := dk_42 (dk_at dksX2_run_0 0 rfl rfl)
theorem dX2_run_1 : decode cX2_run 1 = .ok (.iconst 0, 1) := dk_3 (dk_at dksX2_run_0 1 rfl rfl)
theorem dX2_run_2 : decode cX2_run 2 = .ok (.iconst 1, 1) := dk_4 (dk_at dksX2_run_0 2 rfl rfl)
theorem dX2_run_3 : decode cX2_run 3 = .ok (.invokevirtual 31, 3) := dk_182 0 31 (dk_at dksX2_run_0 3 rfl rfl)
theorem dX2_run_6 : decode cX2_run 6 = .ok (.istore_n 2, 1) := dk_61 (dk_at dksX2_run_0 6 rfl rfl)
theorem dX2_run_7 : decode cX2_run 7 = .ok (.iload_n 2, 1) := dk_28 (dk_at dksX2_run_0 7 rfl rfl)
theorem dX2_run_8 : decode cX2_run 8 = .ok (.sipush 192, 3) := dk_17 0 192 (dk_at dksX2_run_0 8 rfl rfl)
theorem dX2_run_11 : decode cX2_run 11 = .ok (.if_icmp .ge 30, 3) := dk_162 0 30 (dk_at dksX2_run_0 11 rfl rfl)
theorem dX2_run_14 : decode cX2_run 14 = .ok (.aload_n 0, 1) := dk_42 (dk_at dksX2_run_0 14 rfl rfl)
theorem dX2_run_15 : decode cX2_run 15 = .ok (.iload_n 2, 1) := dk_28 (dk_at dksX2_run_0 15 rfl rfl)
theorem dX2_run_16 : decode cX2_run 16 = .ok (.iconst 0, 1) := dk_3 (dk_at dksX2_run_0 16 rfl rfl)
theorem dX2_run_17 : decode cX2_run 17 = .ok (.invokevirtual 31, 3) := dk_182 0 31 (dk_at dksX2_run_0 17 rfl rfl)
theorem dX2_run_20 : decode cX2_run 20 = .ok (.iload_n 2, 1) := dk_28 (dk_at dksX2_run_0 20 rfl rfl)
theorem dX2_run_21 : decode cX2_run 21 = .ok (.isub, 1) := dk_100 (dk_at dksX2_run_0 21 rfl rfl)
theorem dX2_run_22 : decode cX2_run 22 = .ok (.iload_n 1, 1) := dk_27 (dk_at dksX2_run_0 22 rfl rfl)
theorem dX2_run_23 : decode cX2_run 23 = .ok (.if_icmp .ge 18, 3) := dk_162 0 18 (dk_at dksX2_run_1 0 rfl rfl)
theorem dX2_run_26 : decode cX2_run 26 = .ok (.aload_n 0, 1) := dk_42 (dk_at dksX2_run_1 3 rfl rfl)
theorem dX2_run_27 : decode cX2_run 27 = .ok (.aload_n 0, 1) := dk_42 (dk_at dksX2_run_1 4 rfl rfl)
theorem dX2_run_28 : decode cX2_run 28 = .ok (.iload_n 2, 1) := dk_28 (dk_at dksX2_run_1 5 rfl rfl)
theorem dX2_run_29 : decode cX2_run 29 = .ok (.iconst 0, 1) := dk_3 (dk_at dksX2_run_1 6 rfl rfl)
theorem dX2_run_30 : decode cX2_run 30 = .ok (.invokevirtual 31, 3) := dk_182 0 31 (dk_at dksX2_run_1 7 rfl rfl)
theorem dX2_run_33 : decode cX2_run 33 = .ok (.iconst 1, 1) := dk_4 (dk_at dksX2_run_1 10 rfl rfl)
theorem dX2_run_34 : decode cX2_run 34 = .ok (.invokevirtual 31, 3) := dk_182 0 31 (dk_at dksX2_run_1 11 rfl rfl)
theorem dX2_run_37 : decode cX2_run 37 = .ok (.istore_n 2, 1) := dk_61 (dk_at dksX2_run_1 14 rfl rfl)
theorem dX2_run_38 : decode cX2_run 38 = .ok (.goto (-31), 3) := dk_167 255 225 (dk_at dksX2_run_1 15 rfl rfl)
theorem dX2_run_41 : decode cX2_run 41 = .ok (.iload_n 2, 1) := dk_28 (dk_at dksX2_run_1 18 rfl rfl)
theorem dX2_run_42 : decode cX2_run 42 = .ok (.ireturn, 1) := dk_172 (dk_at dksX2_run_1 19 rfl rfl)
theorem q42 : (Jvm.Cond.initialized "PageBanks$Bits") ∈ lw_all := lw_g (lw_at lw_m1 2 rfl) rfl
theorem q91 : (Jvm.Cond.instantiable "PageBanks$Bits" (2 : Nat)) ∈ lw_all := lw_g (lw_at lw_m1 51 rfl) rfl
theorem q93 : (Jvm.Cond.instanceMethod ({ cls := "PageBanks$Bits", name := "<init>", desc := "()V" } : Jvm.MethodName)) ∈ lw_all := lw_g (lw_at lw_m1 53 rfl) rfl
theorem q94 : (Jvm.Cond.code ({ cls := "PageBanks$Bits", name := "<init>", desc := "()V" } : Jvm.MethodName) prog_3_method_1_code (1 : Nat) (Option.none : Option Jvm.ClassFile.FieldType)) ∈ lw_all := lw_g (lw_at lw_m1 54 rfl) rfl
theorem q95 : (Jvm.Cond.methodLink "PageBanks$Bits" (3 : Nat) ({ cls := "java/lang/Object", name := "<init>", desc := "()V" } : Jvm.MethodName)) ∈ lw_all := lw_g (lw_at lw_m1 55 rfl) rfl
theorem q96 : (Jvm.Cond.fieldLink "PageBanks$Bits" (9 : Nat) "PageBanks$Bits" "words" "[J") ∈ lw_all := lw_g (lw_at lw_m1 56 rfl) rfl
theorem q97 : (Jvm.Cond.fieldLink "PageBanks$Bits" (15 : Nat) "PageBanks$Bits" "many" "I") ∈ lw_all := lw_g (lw_at lw_m1 57 rfl) rfl
theorem q99 : (Jvm.Cond.laysFinal "PageBanks$Bits" "PageBanks$Bits" "words" "[J") ∈ lw_all := lw_g (lw_at lw_m1 59 rfl) rfl
theorem q100 : (Jvm.Cond.soleField "PageBanks$Bits" "words") ∈ lw_all := lw_g (lw_at lw_m1 60 rfl) rfl
theorem q101 : (Jvm.Cond.lays "PageBanks$Bits" "PageBanks$Bits" "many" "I") ∈ lw_all := lw_g (lw_at lw_m1 61 rfl) rfl
theorem q102 : (Jvm.Cond.soleField "PageBanks$Bits" "many") ∈ lw_all := lw_g (lw_at lw_m1 62 rfl) rfl
theorem q103 : (Jvm.Cond.superclass "PageBanks$Bits" "java/lang/Object") ∈ lw_all := lw_g (lw_at lw_m1 63 rfl) rfl
theorem q210 : (Jvm.Cond.instanceMethod ({ cls := "PageBanks$Bits", name := "set", desc := "(IZ)V" } : Jvm.MethodName)) ∈ lw_all := lw_g (lw_at lw_m1 170 rfl) rfl
theorem q211 : (Jvm.Cond.selects "PageBanks$Bits" ({ cls := "PageBanks$Bits", name := "set", desc := "(IZ)V" } : Jvm.MethodName) ({ cls := "PageBanks$Bits", name := "set", desc := "(IZ)V" } : Jvm.MethodName)) ∈ lw_all := lw_g (lw_at lw_m1 171 rfl) rfl
theorem q212 : (Jvm.Cond.code ({ cls := "PageBanks$Bits", name := "set", desc := "(IZ)V" } : Jvm.MethodName) prog_3_method_3_code (3 : Nat) (Option.none : Option Jvm.ClassFile.FieldType)) ∈ lw_all := lw_g (lw_at lw_m1 172 rfl) rfl
theorem q213 : (Jvm.Cond.methodLink "PageBanks$Bits" (19 : Nat) ({ cls := "PageBanks$Bits", name := "has", desc := "(I)Z" } : Jvm.MethodName)) ∈ lw_all := lw_g (lw_at lw_m1 173 rfl) rfl
theorem q214 : (Jvm.Cond.instanceMethod ({ cls := "PageBanks$Bits", name := "has", desc := "(I)Z" } : Jvm.MethodName)) ∈ lw_all := lw_g (lw_at lw_m1 174 rfl) rfl
theorem q215 : (Jvm.Cond.selects "PageBanks$Bits" ({ cls := "PageBanks$Bits", name := "has", desc := "(I)Z" } : Jvm.MethodName) ({ cls := "PageBanks$Bits", name := "has", desc := "(I)Z" } : Jvm.MethodName)) ∈ lw_all := lw_g (lw_at lw_m1 175 rfl) rfl
theorem q216 : (Jvm.Cond.code ({ cls := "PageBanks$Bits", name := "has", desc := "(I)Z" } : Jvm.MethodName) prog_3_method_2_code (2 : Nat) (Option.some Jvm.ClassFile.FieldType.boolean)) ∈ lw_all := lw_g (lw_at lw_m1 176 rfl) rfl
theorem q217 : (Jvm.Cond.constantLong "PageBanks$Bits" (23 : Nat) (-1 : Int64)) ∈ lw_all := lw_g (lw_at lw_m1 177 rfl) rfl
theorem q804 : (Jvm.Cond.selects "PageBanks$Bits" ({ cls := "java/lang/Object", name := "getClass", desc := "()Ljava/lang/Class;" } : Jvm.MethodName) ({ cls := "java/lang/Object", name := "getClass", desc := "()Ljava/lang/Class;" } : Jvm.MethodName)) ∈ lw_all := lw_g (lw_at lw_m4 44 rfl) rfl
theorem q846 : (Jvm.Cond.instanceMethod ({ cls := "PageBanks$Bits", name := "next", desc := "(IZ)I" } : Jvm.MethodName)) ∈ lw_all := lw_g (lw_at lw_m4 86 rfl) rfl
theorem q847 : (Jvm.Cond.selects "PageBanks$Bits" ({ cls := "PageBanks$Bits", name := "next", desc := "(IZ)I" } : Jvm.MethodName) ({ cls := "PageBanks$Bits", name := "next", desc := "(IZ)I" } : Jvm.MethodName)) ∈ lw_all := lw_g (lw_at lw_m4 87 rfl) rfl
theorem q848 : (Jvm.Cond.code ({ cls := "PageBanks$Bits", name := "next", desc := "(IZ)I" } : Jvm.MethodName) prog_3_method_4_code (6 : Nat) (Option.some Jvm.ClassFile.FieldType.int)) ∈ lw_all := lw_g (lw_at lw_m4 88 rfl) rfl
theorem q849 : (Jvm.Cond.methodLink "PageBanks$Bits" (25 : Nat) ({ cls := "java/lang/Long", name := "numberOfTrailingZeros", desc := "(J)I" } : Jvm.MethodName)) ∈ lw_all := lw_g (lw_at lw_m4 89 rfl) rfl
theorem q893 : (Jvm.Cond.instanceMethod ({ cls := "PageBanks$Bits", name := "run", desc := "(I)I" } : Jvm.MethodName)) ∈ lw_all := lw_g (lw_at lw_m4 133 rfl) rfl
theorem q894 : (Jvm.Cond.selects "PageBanks$Bits" ({ cls := "PageBanks$Bits", name := "run", desc := "(I)I" } : Jvm.MethodName) ({ cls := "PageBanks$Bits", name := "run", desc := "(I)I" } : Jvm.MethodName)) ∈ lw_all := lw_g (lw_at lw_m4 134 rfl) rfl
theorem q895 : (Jvm.Cond.code ({ cls := "PageBanks$Bits", name := "run", desc := "(I)I" } : Jvm.MethodName) prog_3_method_5_code (3 : Nat) (Option.some Jvm.ClassFile.FieldType.int)) ∈ lw_all := lw_g (lw_at lw_m4 135 rfl) rfl
theorem q896 : (Jvm.Cond.methodLink "PageBanks$Bits" (31 : Nat) ({ cls := "PageBanks$Bits", name := "next", desc := "(IZ)I" } : Jvm.MethodName)) ∈ lw_all := lw_g (lw_at lw_m4 136 rfl) rfl
theorem q1366 : (Jvm.Cond.castable "PageBanks$Bits" "java/lang/Object") ∈ lw_tbl := lw_at lw_m6 126 rfl
theorem in_X2 : ∀ w ∈ wsX20, w ∈ lw_all := lw_in wsX20 [99, 101] (by decide +kernel) (by decide +kernel)

/-! PageBanks$Buys -/
set_option maxRecDepth 100000
def RX3 : String := "PageBanks$Buys"
abbrev cX3_init : ByteArray := prog_5_method_1_code
def yX3_init : MethodName := ⟨RX3, "<init>", "()V"⟩
theorem dX3_init_0 : decode cX3_init 0 = .ok (.aload_n 0, 1) := by decide +kernel
theorem dX3_init_1 : decode cX3_init 1 = .ok (.invokespecial 1, 3) := by decide +kernel
theorem dX3_init_4 : decode cX3_init 4 = .ok (.return_, 1) := by decide +kernel
abbrev cX3_judge : ByteArray := prog_5_method_2_code
def yX3_judge : MethodName := ⟨RX3, "judge", "(LPageBanks$Bank;I)LPageBanks$Verdict;"⟩
def dkwX3_judge_0 : List UInt8 := [43, 180, 0, 7, 182, 0, 13, 153, 0, 9, 178, 0, 19, 167, 0, 6, 178, 0, 25, 176]
abbrev dktX3_judge_0 : List UInt8 := dkwX3_judge_0 ++ []
theorem dksX3_judge_0 : cX3_judge.data.toList.drop 0 = dktX3_judge_0 := by decide +kernel
theorem dX3_judge_0 : decode cX3_judge 0 = .ok (.aload_n 1, 1) := dk_43 (dk_at dksX3_judge_0 0 rfl rfl)
theorem dX3_judge_1 : decode cX3_judge 1 = .ok (.getfield 7, 3) := dk_180 0 7 (dk_at dksX3_judge_0 1 rfl rfl)
theorem dX3_judge_4 : decode cX3_judge 4 = .ok (.invokevirtual 13, 3) := dk_182 0 13 (dk_at dksX3_judge_0 4 rfl rfl)
theorem dX3_judge_7 : decode cX3_judge 7 = .ok (.ifCond .eq 9, 3) := dk_153 0 9 (dk_at dksX3_judge_0 7 rfl rfl)
theorem dX3_judge_10 : decode cX3_judge 10 = .ok (.getstatic 19, 3) := dk_178 0 19 (dk_at dksX3_judge_0 10 rfl rfl)
theorem dX3_judge_13 : decode cX3_judge 13 = .ok (.goto 6, 3) := dk_167 0 6 (dk_at dksX3_judge_0 13 rfl rfl)
theorem dX3_judge_16 : decode cX3_judge 16 = .ok (.getstatic 25, 3) := dk_178 0 25 (dk_at dksX3_judge_0 16 rfl rfl)
theorem dX3_judge_19 : decode cX3_judge 19 = .ok (.areturn, 1) := dk_176 (dk_at dksX3_judge_0 19 rfl rfl)
theorem q44 : (Jvm.Cond.initialized "PageBanks$Buys") ∈ lw_all := lw_g (lw_at lw_m1 4 rfl) rfl
theorem q108 : (Jvm.Cond.instantiable "PageBanks$Buys" (0 : Nat)) ∈ lw_all := lw_g (lw_at lw_m1 68 rfl) rfl
theorem q110 : (Jvm.Cond.instanceMethod ({ cls := "PageBanks$Buys", name := "<init>", desc := "()V" } : Jvm.MethodName)) ∈ lw_all := lw_g (lw_at lw_m1 70 rfl) rfl
theorem q111 : (Jvm.Cond.code ({ cls := "PageBanks$Buys", name := "<init>", desc := "()V" } : Jvm.MethodName) prog_5_method_1_code (1 : Nat) (Option.none : Option Jvm.ClassFile.FieldType)) ∈ lw_all := lw_g (lw_at lw_m1 71 rfl) rfl
theorem q112 : (Jvm.Cond.methodLink "PageBanks$Buys" (1 : Nat) ({ cls := "java/lang/Record", name := "<init>", desc := "()V" } : Jvm.MethodName)) ∈ lw_all := lw_g (lw_at lw_m1 72 rfl) rfl
theorem q116 : (Jvm.Cond.superclass "PageBanks$Buys" "java/lang/Record") ∈ lw_all := lw_g (lw_at lw_m1 76 rfl) rfl
theorem q128 : (Jvm.Cond.unhidden "PageBanks$Buys" "then" "(LPageBanks$Rule;)LPageBanks$Rule;") ∈ lw_tbl := lw_at lw_m1 88 rfl
theorem q278 : (Jvm.Cond.fieldLinkNest "PageBanks$Buys" (7 : Nat) "PageBanks$Bank" "state" "LPageBanks$State;" "PageBanks") ∈ lw_tbl := lw_at lw_m1 238 rfl
theorem q640 : (Jvm.Cond.castable "PageBanks$Buys" "PageBanks$Rule") ∈ lw_tbl := lw_at lw_m3 120 rfl
theorem q641 : (Jvm.Cond.selects "PageBanks$Buys" ({ cls := "PageBanks$Rule", name := "judge", desc := "(LPageBanks$Bank;I)LPageBanks$Verdict;" } : Jvm.MethodName) ({ cls := "PageBanks$Buys", name := "judge", desc := "(LPageBanks$Bank;I)LPageBanks$Verdict;" } : Jvm.MethodName)) ∈ lw_all := lw_g (lw_at lw_m3 121 rfl) rfl
theorem q642 : (Jvm.Cond.unhidden "PageBanks$Buys" "judge" "(LPageBanks$Bank;I)LPageBanks$Verdict;") ∈ lw_tbl := lw_at lw_m3 122 rfl
theorem q643 : (Jvm.Cond.instanceMethod ({ cls := "PageBanks$Buys", name := "judge", desc := "(LPageBanks$Bank;I)LPageBanks$Verdict;" } : Jvm.MethodName)) ∈ lw_all := lw_g (lw_at lw_m3 123 rfl) rfl
theorem q644 : (Jvm.Cond.publicMethod ({ cls := "PageBanks$Buys", name := "judge", desc := "(LPageBanks$Bank;I)LPageBanks$Verdict;" } : Jvm.MethodName)) ∈ lw_tbl := lw_at lw_m3 124 rfl
theorem q645 : (Jvm.Cond.code ({ cls := "PageBanks$Buys", name := "judge", desc := "(LPageBanks$Bank;I)LPageBanks$Verdict;" } : Jvm.MethodName) prog_5_method_2_code (3 : Nat) (Option.some (Jvm.ClassFile.FieldType.object "PageBanks$Verdict"))) ∈ lw_all := lw_g (lw_at lw_m3 125 rfl) rfl
theorem q646 : (Jvm.Cond.methodLink "PageBanks$Buys" (13 : Nat) ({ cls := "PageBanks$State", name := "buys", desc := "()Z" } : Jvm.MethodName)) ∈ lw_all := lw_g (lw_at lw_m3 126 rfl) rfl
theorem q651 : (Jvm.Cond.fieldLink "PageBanks$Buys" (19 : Nat) "PageBanks$Verdict" "FINE" "LPageBanks$Verdict;") ∈ lw_all := lw_g (lw_at lw_m3 131 rfl) rfl
theorem q653 : (Jvm.Cond.fieldLink "PageBanks$Buys" (25 : Nat) "PageBanks$Verdict" "STATE" "LPageBanks$Verdict;") ∈ lw_all := lw_g (lw_at lw_m3 133 rfl) rfl
theorem q806 : (Jvm.Cond.selects "PageBanks$Buys" ({ cls := "java/lang/Object", name := "getClass", desc := "()Ljava/lang/Class;" } : Jvm.MethodName) ({ cls := "java/lang/Object", name := "getClass", desc := "()Ljava/lang/Class;" } : Jvm.MethodName)) ∈ lw_all := lw_g (lw_at lw_m4 46 rfl) rfl
theorem q1367 : (Jvm.Cond.castable "PageBanks$Buys" "java/lang/Object") ∈ lw_tbl := lw_at lw_m6 127 rfl

/-! PageBanks$HasRoom -/
set_option maxRecDepth 100000
def RX4 : String := "PageBanks$HasRoom"
def TX4 : u_T := fun k => match k with
  | _ => ("PageBanks$HasRoom", "fromReserved", "Z", true)
def tyX4 : Nat → FieldType := fun k => match k with
  | _ => .boolean
abbrev wsX40 : List Cond := u_ws RX4 TX4 1
theorem nmX4 : ∀ a, a < 1 → ∀ b, b < 1 → a ≠ b → (TX4 a).2.1 ≠ (TX4 b).2.1 := by decide +kernel
theorem tyX4_ok : ∀ k, k < 1 → parseFieldDescriptor (TX4 k).2.2.1 = some (tyX4 k) := by decide +kernel
abbrev cX4_init : ByteArray := prog_6_method_1_code
def yX4_init : MethodName := ⟨RX4, "<init>", "(Z)V"⟩
def dkwX4_init_0 : List UInt8 := [42, 183, 0, 1, 42, 27, 181, 0, 7, 177]
abbrev dktX4_init_0 : List UInt8 := dkwX4_init_0 ++ []
theorem dksX4_init_0 : cX4_init.data.toList.drop 0 = dktX4_init_0 := by decide +kernel
theorem dX4_init_0 : decode cX4_init 0 = .ok (.aload_n 0, 1) := dk_42 (dk_at dksX4_init_0 0 rfl rfl)
theorem dX4_init_1 : decode cX4_init 1 = .ok (.invokespecial 1, 3) := dk_183 0 1 (dk_at dksX4_init_0 1 rfl rfl)
theorem dX4_init_4 : decode cX4_init 4 = .ok (.aload_n 0, 1) := dk_42 (dk_at dksX4_init_0 4 rfl rfl)
theorem dX4_init_5 : decode cX4_init 5 = .ok (.iload_n 1, 1) := dk_27 (dk_at dksX4_init_0 5 rfl rfl)
theorem dX4_init_6 : decode cX4_init 6 = .ok (.putfield 7, 3) := dk_181 0 7 (dk_at dksX4_init_0 6 rfl rfl)
theorem dX4_init_9 : decode cX4_init 9 = .ok (.return_, 1) := dk_177 (dk_at dksX4_init_0 9 rfl rfl)
abbrev cX4_judge : ByteArray := prog_6_method_2_code
def yX4_judge : MethodName := ⟨RX4, "judge", "(LPageBanks$Bank;I)LPageBanks$Verdict;"⟩
def dkwX4_judge_1 : List UInt8 := [182, 0, 25, 199, 0, 9, 178, 0, 29, 167, 0, 6, 178, 0, 35, 176]
abbrev dktX4_judge_1 : List UInt8 := dkwX4_judge_1 ++ []
def dkwX4_judge_0 : List UInt8 := [42, 180, 0, 7, 153, 0, 16, 28, 28, 43, 180, 0, 13, 184, 0, 19, 100, 167, 0, 4, 28, 62, 43, 29]
abbrev dktX4_judge_0 : List UInt8 := dkwX4_judge_0 ++ dktX4_judge_1
theorem dksX4_judge_0 : cX4_judge.data.toList.drop 0 = dktX4_judge_0 := by decide +kernel
theorem dksX4_judge_1 : cX4_judge.data.toList.drop 24 = dktX4_judge_1 := dk_seg dksX4_judge_0 24 rfl rfl
theorem dX4_judge_0 : decode cX4_judge 0 = .ok (.aload_n 0, 1) := dk_42 (dk_at dksX4_judge_0 0 rfl rfl)
theorem dX4_judge_1 : decode cX4_judge 1 = .ok (.getfield 7, 3) := dk_180 0 7 (dk_at dksX4_judge_0 1 rfl rfl)
theorem dX4_judge_4 : decode cX4_judge 4 = .ok (.ifCond .eq 16, 3) := dk_153 0 16 (dk_at dksX4_judge_0 4 rfl rfl)
theorem dX4_judge_7 : decode cX4_judge 7 = .ok (.iload_n 2, 1) := dk_28 (dk_at dksX4_judge_0 7 rfl rfl)
theorem dX4_judge_8 : decode cX4_judge 8 = .ok (.iload_n 2, 1) := dk_28 (dk_at dksX4_judge_0 8 rfl rfl)
theorem dX4_judge_9 : decode cX4_judge 9 = .ok (.aload_n 1, 1) := dk_43 (dk_at dksX4_judge_0 9 rfl rfl)
theorem dX4_judge_10 : decode cX4_judge 10 = .ok (.getfield 13, 3) := dk_180 0 13 (dk_at dksX4_judge_0 10 rfl rfl)
theorem dX4_judge_13 : decode cX4_judge 13 = .ok (.invokestatic 19, 3) := dk_184 0 19 (dk_at dksX4_judge_0 13 rfl rfl)
theorem dX4_judge_16 : decode cX4_judge 16 = .ok (.isub, 1) := dk_100 (dk_at dksX4_judge_0 16 rfl rfl)
theorem dX4_judge_17 : decode cX4_judge 17 = .ok (.goto 4, 3) := dk_167 0 4 (dk_at dksX4_judge_0 17 rfl rfl)
theorem dX4_judge_20 : decode cX4_judge 20 = .ok (.iload_n 2, 1) := dk_28 (dk_at dksX4_judge_0 20 rfl rfl)
theorem dX4_judge_21 : decode cX4_judge 21 = .ok (.istore_n 3, 1) := dk_62 (dk_at dksX4_judge_0 21 rfl rfl)
theorem dX4_judge_22 : decode cX4_judge 22 = .ok (.aload_n 1, 1) := dk_43 (dk_at dksX4_judge_0 22 rfl rfl)
theorem dX4_judge_23 : decode cX4_judge 23 = .ok (.iload_n 3, 1) := dk_29 (dk_at dksX4_judge_0 23 rfl rfl)
theorem dX4_judge_24 : decode cX4_judge 24 = .ok (.invokevirtual 25, 3) := dk_182 0 25 (dk_at dksX4_judge_1 0 rfl rfl)
theorem dX4_judge_27 : decode cX4_judge 27 = .ok (.ifnonnull 9, 3) := dk_199 0 9 (dk_at dksX4_judge_1 3 rfl rfl)
theorem dX4_judge_30 : decode cX4_judge 30 = .ok (.getstatic 29, 3) := dk_178 0 29 (dk_at dksX4_judge_1 6 rfl rfl)
theorem dX4_judge_33 : decode cX4_judge 33 = .ok (.goto 6, 3) := dk_167 0 6 (dk_at dksX4_judge_1 9 rfl rfl)
theorem dX4_judge_36 : decode cX4_judge 36 = .ok (.getstatic 35, 3) := dk_178 0 35 (dk_at dksX4_judge_1 12 rfl rfl)
theorem dX4_judge_39 : decode cX4_judge 39 = .ok (.areturn, 1) := dk_176 (dk_at dksX4_judge_1 15 rfl rfl)
theorem q45 : (Jvm.Cond.initialized "PageBanks$HasRoom") ∈ lw_all := lw_g (lw_at lw_m1 5 rfl) rfl
theorem q118 : (Jvm.Cond.instantiable "PageBanks$HasRoom" (1 : Nat)) ∈ lw_all := lw_g (lw_at lw_m1 78 rfl) rfl
theorem q120 : (Jvm.Cond.instanceMethod ({ cls := "PageBanks$HasRoom", name := "<init>", desc := "(Z)V" } : Jvm.MethodName)) ∈ lw_all := lw_g (lw_at lw_m1 80 rfl) rfl
theorem q121 : (Jvm.Cond.code ({ cls := "PageBanks$HasRoom", name := "<init>", desc := "(Z)V" } : Jvm.MethodName) prog_6_method_1_code (2 : Nat) (Option.none : Option Jvm.ClassFile.FieldType)) ∈ lw_all := lw_g (lw_at lw_m1 81 rfl) rfl
theorem q122 : (Jvm.Cond.methodLink "PageBanks$HasRoom" (1 : Nat) ({ cls := "java/lang/Record", name := "<init>", desc := "()V" } : Jvm.MethodName)) ∈ lw_all := lw_g (lw_at lw_m1 82 rfl) rfl
theorem q123 : (Jvm.Cond.fieldLink "PageBanks$HasRoom" (7 : Nat) "PageBanks$HasRoom" "fromReserved" "Z") ∈ lw_all := lw_g (lw_at lw_m1 83 rfl) rfl
theorem q124 : (Jvm.Cond.laysFinal "PageBanks$HasRoom" "PageBanks$HasRoom" "fromReserved" "Z") ∈ lw_all := lw_g (lw_at lw_m1 84 rfl) rfl
theorem q125 : (Jvm.Cond.soleField "PageBanks$HasRoom" "fromReserved") ∈ lw_all := lw_g (lw_at lw_m1 85 rfl) rfl
theorem q126 : (Jvm.Cond.superclass "PageBanks$HasRoom" "java/lang/Record") ∈ lw_all := lw_g (lw_at lw_m1 86 rfl) rfl
theorem q281 : (Jvm.Cond.fieldLinkNest "PageBanks$HasRoom" (13 : Nat) "PageBanks$Bank" "reserved" "I" "PageBanks") ∈ lw_tbl := lw_at lw_m2 1 rfl
theorem q655 : (Jvm.Cond.castable "PageBanks$HasRoom" "PageBanks$Rule") ∈ lw_tbl := lw_at lw_m3 135 rfl
theorem q656 : (Jvm.Cond.selects "PageBanks$HasRoom" ({ cls := "PageBanks$Rule", name := "judge", desc := "(LPageBanks$Bank;I)LPageBanks$Verdict;" } : Jvm.MethodName) ({ cls := "PageBanks$HasRoom", name := "judge", desc := "(LPageBanks$Bank;I)LPageBanks$Verdict;" } : Jvm.MethodName)) ∈ lw_all := lw_g (lw_at lw_m3 136 rfl) rfl
theorem q657 : (Jvm.Cond.unhidden "PageBanks$HasRoom" "judge" "(LPageBanks$Bank;I)LPageBanks$Verdict;") ∈ lw_tbl := lw_at lw_m3 137 rfl
theorem q658 : (Jvm.Cond.instanceMethod ({ cls := "PageBanks$HasRoom", name := "judge", desc := "(LPageBanks$Bank;I)LPageBanks$Verdict;" } : Jvm.MethodName)) ∈ lw_all := lw_g (lw_at lw_m3 138 rfl) rfl
theorem q659 : (Jvm.Cond.publicMethod ({ cls := "PageBanks$HasRoom", name := "judge", desc := "(LPageBanks$Bank;I)LPageBanks$Verdict;" } : Jvm.MethodName)) ∈ lw_tbl := lw_at lw_m3 139 rfl
theorem q660 : (Jvm.Cond.code ({ cls := "PageBanks$HasRoom", name := "judge", desc := "(LPageBanks$Bank;I)LPageBanks$Verdict;" } : Jvm.MethodName) prog_6_method_2_code (4 : Nat) (Option.some (Jvm.ClassFile.FieldType.object "PageBanks$Verdict"))) ∈ lw_all := lw_g (lw_at lw_m3 140 rfl) rfl
theorem q661 : (Jvm.Cond.methodLink "PageBanks$HasRoom" (19 : Nat) ({ cls := "java/lang/Math", name := "min", desc := "(II)I" } : Jvm.MethodName)) ∈ lw_all := lw_g (lw_at lw_m3 141 rfl) rfl
theorem q664 : (Jvm.Cond.methodLink "PageBanks$HasRoom" (25 : Nat) ({ cls := "PageBanks$Bank", name := "refuses", desc := "(I)LPageBanks$Bank;" } : Jvm.MethodName)) ∈ lw_all := lw_g (lw_at lw_m3 144 rfl) rfl
theorem q668 : (Jvm.Cond.fieldLink "PageBanks$HasRoom" (29 : Nat) "PageBanks$Verdict" "FINE" "LPageBanks$Verdict;") ∈ lw_all := lw_g (lw_at lw_m3 148 rfl) rfl
theorem q669 : (Jvm.Cond.fieldLink "PageBanks$HasRoom" (35 : Nat) "PageBanks$Verdict" "REFUSED" "LPageBanks$Verdict;") ∈ lw_all := lw_g (lw_at lw_m3 149 rfl) rfl
theorem q807 : (Jvm.Cond.selects "PageBanks$HasRoom" ({ cls := "java/lang/Object", name := "getClass", desc := "()Ljava/lang/Class;" } : Jvm.MethodName) ({ cls := "java/lang/Object", name := "getClass", desc := "()Ljava/lang/Class;" } : Jvm.MethodName)) ∈ lw_all := lw_g (lw_at lw_m4 47 rfl) rfl
theorem q1368 : (Jvm.Cond.castable "PageBanks$HasRoom" "java/lang/Object") ∈ lw_tbl := lw_at lw_m6 128 rfl
theorem in_X4 : ∀ w ∈ wsX40, w ∈ lw_all := lw_in wsX40 [124] (by decide +kernel) (by decide +kernel)

/-! PageBanks$Both -/
set_option maxRecDepth 100000
def RX5 : String := "PageBanks$Both"
def TX5 : u_T := fun k => match k with
  | 0 => ("PageBanks$Both", "first", "LPageBanks$Rule;", true)
  | _ => ("PageBanks$Both", "next", "LPageBanks$Rule;", true)
def tyX5 : Nat → FieldType := fun k => match k with
  | 0 => .object "PageBanks$Rule"
  | _ => .object "PageBanks$Rule"
abbrev wsX50 : List Cond := u_ws RX5 TX5 2
theorem nmX5 : ∀ a, a < 2 → ∀ b, b < 2 → a ≠ b → (TX5 a).2.1 ≠ (TX5 b).2.1 := by decide +kernel
theorem tyX5_ok : ∀ k, k < 2 → parseFieldDescriptor (TX5 k).2.2.1 = some (tyX5 k) := by decide +kernel
abbrev cX5_init : ByteArray := prog_4_method_1_code
def yX5_init : MethodName := ⟨RX5, "<init>", "(LPageBanks$Rule;LPageBanks$Rule;)V"⟩
def dkwX5_init_0 : List UInt8 := [42, 183, 0, 1, 42, 43, 181, 0, 7, 42, 44, 181, 0, 13, 177]
abbrev dktX5_init_0 : List UInt8 := dkwX5_init_0 ++ []
theorem dksX5_init_0 : cX5_init.data.toList.drop 0 = dktX5_init_0 := by decide +kernel
theorem dX5_init_0 : decode cX5_init 0 = .ok (.aload_n 0, 1) := dk_42 (dk_at dksX5_init_0 0 rfl rfl)
theorem dX5_init_1 : decode cX5_init 1 = .ok (.invokespecial 1, 3) := dk_183 0 1 (dk_at dksX5_init_0 1 rfl rfl)
theorem dX5_init_4 : decode cX5_init 4 = .ok (.aload_n 0, 1) := dk_42 (dk_at dksX5_init_0 4 rfl rfl)
theorem dX5_init_5 : decode cX5_init 5 = .ok (.aload_n 1, 1) := dk_43 (dk_at dksX5_init_0 5 rfl rfl)
theorem dX5_init_6 : decode cX5_init 6 = .ok (.putfield 7, 3) := dk_181 0 7 (dk_at dksX5_init_0 6 rfl rfl)
theorem dX5_init_9 : decode cX5_init 9 = .ok (.aload_n 0, 1) := dk_42 (dk_at dksX5_init_0 9 rfl rfl)
theorem dX5_init_10 : decode cX5_init 10 = .ok (.aload_n 2, 1) := dk_44 (dk_at dksX5_init_0 10 rfl rfl)
theorem dX5_init_11 : decode cX5_init 11 = .ok (.putfield 13, 3) := dk_181 0 13 (dk_at dksX5_init_0 11 rfl rfl)
theorem dX5_init_14 : decode cX5_init 14 = .ok (.return_, 1) := dk_177 (dk_at dksX5_init_0 14 rfl rfl)
abbrev cX5_judge : ByteArray := prog_4_method_2_code
def yX5_judge : MethodName := ⟨RX5, "judge", "(LPageBanks$Bank;I)LPageBanks$Verdict;"⟩
def dkwX5_judge_1 : List UInt8 := [28, 185, 0, 16, 3, 0, 167, 0, 4, 45, 176]
abbrev dktX5_judge_1 : List UInt8 := dkwX5_judge_1 ++ []
def dkwX5_judge_0 : List UInt8 := [42, 180, 0, 7, 43, 28, 185, 0, 16, 3, 0, 78, 45, 178, 0, 22, 166, 0, 17, 42, 180, 0, 13, 43]
abbrev dktX5_judge_0 : List UInt8 := dkwX5_judge_0 ++ dktX5_judge_1
theorem dksX5_judge_0 : cX5_judge.data.toList.drop 0 = dktX5_judge_0 := by decide +kernel
theorem dksX5_judge_1 : cX5_judge.data.toList.drop 24 = dktX5_judge_1 := dk_seg dksX5_judge_0 24 rfl rfl
theorem dX5_judge_0 : decode cX5_judge 0 = .ok (.aload_n 0, 1) := dk_42 (dk_at dksX5_judge_0 0 rfl rfl)
theorem dX5_judge_1 : decode cX5_judge 1 = .ok (.getfield 7, 3) := dk_180 0 7 (dk_at dksX5_judge_0 1 rfl rfl)
theorem dX5_judge_4 : decode cX5_judge 4 = .ok (.aload_n 1, 1) := dk_43 (dk_at dksX5_judge_0 4 rfl rfl)
theorem dX5_judge_5 : decode cX5_judge 5 = .ok (.iload_n 2, 1) := dk_28 (dk_at dksX5_judge_0 5 rfl rfl)
theorem dX5_judge_6 : decode cX5_judge 6 = .ok (.invokeinterface 16 3, 5) := by decide +kernel
theorem dX5_judge_11 : decode cX5_judge 11 = .ok (.astore_n 3, 1) := dk_78 (dk_at dksX5_judge_0 11 rfl rfl)
theorem dX5_judge_12 : decode cX5_judge 12 = .ok (.aload_n 3, 1) := dk_45 (dk_at dksX5_judge_0 12 rfl rfl)
theorem dX5_judge_13 : decode cX5_judge 13 = .ok (.getstatic 22, 3) := dk_178 0 22 (dk_at dksX5_judge_0 13 rfl rfl)
theorem dX5_judge_16 : decode cX5_judge 16 = .ok (.if_acmp .ne 17, 3) := dk_166 0 17 (dk_at dksX5_judge_0 16 rfl rfl)
theorem dX5_judge_19 : decode cX5_judge 19 = .ok (.aload_n 0, 1) := dk_42 (dk_at dksX5_judge_0 19 rfl rfl)
theorem dX5_judge_20 : decode cX5_judge 20 = .ok (.getfield 13, 3) := dk_180 0 13 (dk_at dksX5_judge_0 20 rfl rfl)
theorem dX5_judge_23 : decode cX5_judge 23 = .ok (.aload_n 1, 1) := dk_43 (dk_at dksX5_judge_0 23 rfl rfl)
theorem dX5_judge_24 : decode cX5_judge 24 = .ok (.iload_n 2, 1) := dk_28 (dk_at dksX5_judge_1 0 rfl rfl)
theorem dX5_judge_25 : decode cX5_judge 25 = .ok (.invokeinterface 16 3, 5) := by decide +kernel
theorem dX5_judge_30 : decode cX5_judge 30 = .ok (.goto 4, 3) := dk_167 0 4 (dk_at dksX5_judge_1 6 rfl rfl)
theorem dX5_judge_33 : decode cX5_judge 33 = .ok (.aload_n 3, 1) := dk_45 (dk_at dksX5_judge_1 9 rfl rfl)
theorem dX5_judge_34 : decode cX5_judge 34 = .ok (.areturn, 1) := dk_176 (dk_at dksX5_judge_1 10 rfl rfl)
theorem q46 : (Jvm.Cond.initialized "PageBanks$Both") ∈ lw_all := lw_g (lw_at lw_m1 6 rfl) rfl
theorem q133 : (Jvm.Cond.instantiable "PageBanks$Both" (2 : Nat)) ∈ lw_all := lw_g (lw_at lw_m1 93 rfl) rfl
theorem q135 : (Jvm.Cond.instanceMethod ({ cls := "PageBanks$Both", name := "<init>", desc := "(LPageBanks$Rule;LPageBanks$Rule;)V" } : Jvm.MethodName)) ∈ lw_all := lw_g (lw_at lw_m1 95 rfl) rfl
theorem q136 : (Jvm.Cond.code ({ cls := "PageBanks$Both", name := "<init>", desc := "(LPageBanks$Rule;LPageBanks$Rule;)V" } : Jvm.MethodName) prog_4_method_1_code (3 : Nat) (Option.none : Option Jvm.ClassFile.FieldType)) ∈ lw_all := lw_g (lw_at lw_m1 96 rfl) rfl
theorem q137 : (Jvm.Cond.methodLink "PageBanks$Both" (1 : Nat) ({ cls := "java/lang/Record", name := "<init>", desc := "()V" } : Jvm.MethodName)) ∈ lw_all := lw_g (lw_at lw_m1 97 rfl) rfl
theorem q138 : (Jvm.Cond.fieldLink "PageBanks$Both" (7 : Nat) "PageBanks$Both" "first" "LPageBanks$Rule;") ∈ lw_all := lw_g (lw_at lw_m1 98 rfl) rfl
theorem q139 : (Jvm.Cond.fieldLink "PageBanks$Both" (13 : Nat) "PageBanks$Both" "next" "LPageBanks$Rule;") ∈ lw_all := lw_g (lw_at lw_m1 99 rfl) rfl
theorem q140 : (Jvm.Cond.laysFinal "PageBanks$Both" "PageBanks$Both" "first" "LPageBanks$Rule;") ∈ lw_all := lw_g (lw_at lw_m1 100 rfl) rfl
theorem q141 : (Jvm.Cond.soleField "PageBanks$Both" "first") ∈ lw_all := lw_g (lw_at lw_m1 101 rfl) rfl
theorem q142 : (Jvm.Cond.laysFinal "PageBanks$Both" "PageBanks$Both" "next" "LPageBanks$Rule;") ∈ lw_all := lw_g (lw_at lw_m1 102 rfl) rfl
theorem q143 : (Jvm.Cond.soleField "PageBanks$Both" "next") ∈ lw_all := lw_g (lw_at lw_m1 103 rfl) rfl
theorem q144 : (Jvm.Cond.superclass "PageBanks$Both" "java/lang/Record") ∈ lw_all := lw_g (lw_at lw_m1 104 rfl) rfl
theorem q632 : (Jvm.Cond.castable "PageBanks$Both" "PageBanks$Rule") ∈ lw_tbl := lw_at lw_m3 112 rfl
theorem q633 : (Jvm.Cond.selects "PageBanks$Both" ({ cls := "PageBanks$Rule", name := "judge", desc := "(LPageBanks$Bank;I)LPageBanks$Verdict;" } : Jvm.MethodName) ({ cls := "PageBanks$Both", name := "judge", desc := "(LPageBanks$Bank;I)LPageBanks$Verdict;" } : Jvm.MethodName)) ∈ lw_all := lw_g (lw_at lw_m3 113 rfl) rfl
theorem q634 : (Jvm.Cond.unhidden "PageBanks$Both" "judge" "(LPageBanks$Bank;I)LPageBanks$Verdict;") ∈ lw_tbl := lw_at lw_m3 114 rfl
theorem q635 : (Jvm.Cond.instanceMethod ({ cls := "PageBanks$Both", name := "judge", desc := "(LPageBanks$Bank;I)LPageBanks$Verdict;" } : Jvm.MethodName)) ∈ lw_all := lw_g (lw_at lw_m3 115 rfl) rfl
theorem q636 : (Jvm.Cond.publicMethod ({ cls := "PageBanks$Both", name := "judge", desc := "(LPageBanks$Bank;I)LPageBanks$Verdict;" } : Jvm.MethodName)) ∈ lw_tbl := lw_at lw_m3 116 rfl
theorem q637 : (Jvm.Cond.code ({ cls := "PageBanks$Both", name := "judge", desc := "(LPageBanks$Bank;I)LPageBanks$Verdict;" } : Jvm.MethodName) prog_4_method_2_code (4 : Nat) (Option.some (Jvm.ClassFile.FieldType.object "PageBanks$Verdict"))) ∈ lw_all := lw_g (lw_at lw_m3 117 rfl) rfl
theorem q638 : (Jvm.Cond.interfaceEntry "PageBanks$Both" (16 : Nat)) ∈ lw_tbl := lw_at lw_m3 118 rfl
theorem q639 : (Jvm.Cond.methodLink "PageBanks$Both" (16 : Nat) ({ cls := "PageBanks$Rule", name := "judge", desc := "(LPageBanks$Bank;I)LPageBanks$Verdict;" } : Jvm.MethodName)) ∈ lw_all := lw_g (lw_at lw_m3 119 rfl) rfl
theorem q702 : (Jvm.Cond.fieldLink "PageBanks$Both" (22 : Nat) "PageBanks$Verdict" "FINE" "LPageBanks$Verdict;") ∈ lw_all := lw_g (lw_at lw_m3 182 rfl) rfl
theorem q805 : (Jvm.Cond.selects "PageBanks$Both" ({ cls := "java/lang/Object", name := "getClass", desc := "()Ljava/lang/Class;" } : Jvm.MethodName) ({ cls := "java/lang/Object", name := "getClass", desc := "()Ljava/lang/Class;" } : Jvm.MethodName)) ∈ lw_all := lw_g (lw_at lw_m4 45 rfl) rfl
theorem q1369 : (Jvm.Cond.castable "PageBanks$Both" "java/lang/Object") ∈ lw_tbl := lw_at lw_m6 129 rfl
theorem in_X5 : ∀ w ∈ wsX50, w ∈ lw_all := lw_in wsX50 [140, 142] (by decide +kernel) (by decide +kernel)

/-! PageBanks$InRange -/
set_option maxRecDepth 100000
def RX6 : String := "PageBanks$InRange"
def TX6 : u_T := fun k => match k with
  | 0 => ("PageBanks$InRange", "low", "I", true)
  | _ => ("PageBanks$InRange", "high", "I", true)
def tyX6 : Nat → FieldType := fun k => match k with
  | 0 => .int
  | _ => .int
abbrev wsX60 : List Cond := u_ws RX6 TX6 2
theorem nmX6 : ∀ a, a < 2 → ∀ b, b < 2 → a ≠ b → (TX6 a).2.1 ≠ (TX6 b).2.1 := by decide +kernel
theorem tyX6_ok : ∀ k, k < 2 → parseFieldDescriptor (TX6 k).2.2.1 = some (tyX6 k) := by decide +kernel
abbrev cX6_init : ByteArray := prog_7_method_1_code
def yX6_init : MethodName := ⟨RX6, "<init>", "(II)V"⟩
def dkwX6_init_0 : List UInt8 := [42, 183, 0, 1, 42, 27, 181, 0, 7, 42, 28, 181, 0, 13, 177]
abbrev dktX6_init_0 : List UInt8 := dkwX6_init_0 ++ []
theorem dksX6_init_0 : cX6_init.data.toList.drop 0 = dktX6_init_0 := by decide +kernel
theorem dX6_init_0 : decode cX6_init 0 = .ok (.aload_n 0, 1) := dk_42 (dk_at dksX6_init_0 0 rfl rfl)
theorem dX6_init_1 : decode cX6_init 1 = .ok (.invokespecial 1, 3) := dk_183 0 1 (dk_at dksX6_init_0 1 rfl rfl)
theorem dX6_init_4 : decode cX6_init 4 = .ok (.aload_n 0, 1) := dk_42 (dk_at dksX6_init_0 4 rfl rfl)
theorem dX6_init_5 : decode cX6_init 5 = .ok (.iload_n 1, 1) := dk_27 (dk_at dksX6_init_0 5 rfl rfl)
theorem dX6_init_6 : decode cX6_init 6 = .ok (.putfield 7, 3) := dk_181 0 7 (dk_at dksX6_init_0 6 rfl rfl)
theorem dX6_init_9 : decode cX6_init 9 = .ok (.aload_n 0, 1) := dk_42 (dk_at dksX6_init_0 9 rfl rfl)
theorem dX6_init_10 : decode cX6_init 10 = .ok (.iload_n 2, 1) := dk_28 (dk_at dksX6_init_0 10 rfl rfl)
theorem dX6_init_11 : decode cX6_init 11 = .ok (.putfield 13, 3) := dk_181 0 13 (dk_at dksX6_init_0 11 rfl rfl)
theorem dX6_init_14 : decode cX6_init 14 = .ok (.return_, 1) := dk_177 (dk_at dksX6_init_0 14 rfl rfl)
abbrev cX6_judge : ByteArray := prog_7_method_2_code
def yX6_judge : MethodName := ⟨RX6, "judge", "(LPageBanks$Bank;I)LPageBanks$Verdict;"⟩
def dkwX6_judge_1 : List UInt8 := [176]
abbrev dktX6_judge_1 : List UInt8 := dkwX6_judge_1 ++ []
def dkwX6_judge_0 : List UInt8 := [28, 42, 180, 0, 7, 42, 180, 0, 13, 184, 0, 16, 153, 0, 9, 178, 0, 22, 167, 0, 6, 178, 0, 28]
abbrev dktX6_judge_0 : List UInt8 := dkwX6_judge_0 ++ dktX6_judge_1
theorem dksX6_judge_0 : cX6_judge.data.toList.drop 0 = dktX6_judge_0 := by decide +kernel
theorem dksX6_judge_1 : cX6_judge.data.toList.drop 24 = dktX6_judge_1 := dk_seg dksX6_judge_0 24 rfl rfl
theorem dX6_judge_0 : decode cX6_judge 0 = .ok (.iload_n 2, 1) := dk_28 (dk_at dksX6_judge_0 0 rfl rfl)
theorem dX6_judge_1 : decode cX6_judge 1 = .ok (.aload_n 0, 1) := dk_42 (dk_at dksX6_judge_0 1 rfl rfl)
theorem dX6_judge_2 : decode cX6_judge 2 = .ok (.getfield 7, 3) := dk_180 0 7 (dk_at dksX6_judge_0 2 rfl rfl)
theorem dX6_judge_5 : decode cX6_judge 5 = .ok (.aload_n 0, 1) := dk_42 (dk_at dksX6_judge_0 5 rfl rfl)
theorem dX6_judge_6 : decode cX6_judge 6 = .ok (.getfield 13, 3) := dk_180 0 13 (dk_at dksX6_judge_0 6 rfl rfl)
theorem dX6_judge_9 : decode cX6_judge 9 = .ok (.invokestatic 16, 3) := dk_184 0 16 (dk_at dksX6_judge_0 9 rfl rfl)
theorem dX6_judge_12 : decode cX6_judge 12 = .ok (.ifCond .eq 9, 3) := dk_153 0 9 (dk_at dksX6_judge_0 12 rfl rfl)
theorem dX6_judge_15 : decode cX6_judge 15 = .ok (.getstatic 22, 3) := dk_178 0 22 (dk_at dksX6_judge_0 15 rfl rfl)
theorem dX6_judge_18 : decode cX6_judge 18 = .ok (.goto 6, 3) := dk_167 0 6 (dk_at dksX6_judge_0 18 rfl rfl)
theorem dX6_judge_21 : decode cX6_judge 21 = .ok (.getstatic 28, 3) := dk_178 0 28 (dk_at dksX6_judge_0 21 rfl rfl)
theorem dX6_judge_24 : decode cX6_judge 24 = .ok (.areturn, 1) := dk_176 (dk_at dksX6_judge_1 0 rfl rfl)
theorem q47 : (Jvm.Cond.initialized "PageBanks$InRange") ∈ lw_all := lw_g (lw_at lw_m1 7 rfl) rfl
theorem q146 : (Jvm.Cond.instantiable "PageBanks$InRange" (2 : Nat)) ∈ lw_all := lw_g (lw_at lw_m1 106 rfl) rfl
theorem q148 : (Jvm.Cond.instanceMethod ({ cls := "PageBanks$InRange", name := "<init>", desc := "(II)V" } : Jvm.MethodName)) ∈ lw_all := lw_g (lw_at lw_m1 108 rfl) rfl
theorem q149 : (Jvm.Cond.code ({ cls := "PageBanks$InRange", name := "<init>", desc := "(II)V" } : Jvm.MethodName) prog_7_method_1_code (3 : Nat) (Option.none : Option Jvm.ClassFile.FieldType)) ∈ lw_all := lw_g (lw_at lw_m1 109 rfl) rfl
theorem q150 : (Jvm.Cond.methodLink "PageBanks$InRange" (1 : Nat) ({ cls := "java/lang/Record", name := "<init>", desc := "()V" } : Jvm.MethodName)) ∈ lw_all := lw_g (lw_at lw_m1 110 rfl) rfl
theorem q151 : (Jvm.Cond.fieldLink "PageBanks$InRange" (7 : Nat) "PageBanks$InRange" "low" "I") ∈ lw_all := lw_g (lw_at lw_m1 111 rfl) rfl
theorem q152 : (Jvm.Cond.fieldLink "PageBanks$InRange" (13 : Nat) "PageBanks$InRange" "high" "I") ∈ lw_all := lw_g (lw_at lw_m1 112 rfl) rfl
theorem q153 : (Jvm.Cond.laysFinal "PageBanks$InRange" "PageBanks$InRange" "low" "I") ∈ lw_all := lw_g (lw_at lw_m1 113 rfl) rfl
theorem q154 : (Jvm.Cond.soleField "PageBanks$InRange" "low") ∈ lw_all := lw_g (lw_at lw_m1 114 rfl) rfl
theorem q155 : (Jvm.Cond.laysFinal "PageBanks$InRange" "PageBanks$InRange" "high" "I") ∈ lw_all := lw_g (lw_at lw_m1 115 rfl) rfl
theorem q156 : (Jvm.Cond.soleField "PageBanks$InRange" "high") ∈ lw_all := lw_g (lw_at lw_m1 116 rfl) rfl
theorem q157 : (Jvm.Cond.superclass "PageBanks$InRange" "java/lang/Record") ∈ lw_all := lw_g (lw_at lw_m1 117 rfl) rfl
theorem q158 : (Jvm.Cond.unhidden "PageBanks$InRange" "then" "(LPageBanks$Rule;)LPageBanks$Rule;") ∈ lw_tbl := lw_at lw_m1 118 rfl
theorem q671 : (Jvm.Cond.castable "PageBanks$InRange" "PageBanks$Rule") ∈ lw_tbl := lw_at lw_m3 151 rfl
theorem q672 : (Jvm.Cond.selects "PageBanks$InRange" ({ cls := "PageBanks$Rule", name := "judge", desc := "(LPageBanks$Bank;I)LPageBanks$Verdict;" } : Jvm.MethodName) ({ cls := "PageBanks$InRange", name := "judge", desc := "(LPageBanks$Bank;I)LPageBanks$Verdict;" } : Jvm.MethodName)) ∈ lw_all := lw_g (lw_at lw_m3 152 rfl) rfl
theorem q673 : (Jvm.Cond.unhidden "PageBanks$InRange" "judge" "(LPageBanks$Bank;I)LPageBanks$Verdict;") ∈ lw_tbl := lw_at lw_m3 153 rfl
theorem q674 : (Jvm.Cond.instanceMethod ({ cls := "PageBanks$InRange", name := "judge", desc := "(LPageBanks$Bank;I)LPageBanks$Verdict;" } : Jvm.MethodName)) ∈ lw_all := lw_g (lw_at lw_m3 154 rfl) rfl
theorem q675 : (Jvm.Cond.publicMethod ({ cls := "PageBanks$InRange", name := "judge", desc := "(LPageBanks$Bank;I)LPageBanks$Verdict;" } : Jvm.MethodName)) ∈ lw_tbl := lw_at lw_m3 155 rfl
theorem q676 : (Jvm.Cond.code ({ cls := "PageBanks$InRange", name := "judge", desc := "(LPageBanks$Bank;I)LPageBanks$Verdict;" } : Jvm.MethodName) prog_7_method_2_code (3 : Nat) (Option.some (Jvm.ClassFile.FieldType.object "PageBanks$Verdict"))) ∈ lw_all := lw_g (lw_at lw_m3 156 rfl) rfl
theorem q677 : (Jvm.Cond.methodLinkNest "PageBanks$InRange" (16 : Nat) ({ cls := "PageBanks", name := "within", desc := "(III)Z" } : Jvm.MethodName) "PageBanks") ∈ lw_tbl := lw_at lw_m3 157 rfl
theorem q678 : (Jvm.Cond.fieldLink "PageBanks$InRange" (22 : Nat) "PageBanks$Verdict" "FINE" "LPageBanks$Verdict;") ∈ lw_all := lw_g (lw_at lw_m3 158 rfl) rfl
theorem q679 : (Jvm.Cond.fieldLink "PageBanks$InRange" (28 : Nat) "PageBanks$Verdict" "ARGUMENT" "LPageBanks$Verdict;") ∈ lw_all := lw_g (lw_at lw_m3 159 rfl) rfl
theorem q808 : (Jvm.Cond.selects "PageBanks$InRange" ({ cls := "java/lang/Object", name := "getClass", desc := "()Ljava/lang/Class;" } : Jvm.MethodName) ({ cls := "java/lang/Object", name := "getClass", desc := "()Ljava/lang/Class;" } : Jvm.MethodName)) ∈ lw_all := lw_g (lw_at lw_m4 48 rfl) rfl
theorem q1370 : (Jvm.Cond.castable "PageBanks$InRange" "java/lang/Object") ∈ lw_tbl := lw_at lw_m6 130 rfl
theorem in_X6 : ∀ w ∈ wsX60, w ∈ lw_all := lw_in wsX60 [153, 155] (by decide +kernel) (by decide +kernel)

/-! PageBanks$NotRoot -/
set_option maxRecDepth 100000
def RX7 : String := "PageBanks$NotRoot"
abbrev cX7_init : ByteArray := prog_9_method_1_code
def yX7_init : MethodName := ⟨RX7, "<init>", "()V"⟩
theorem dX7_init_0 : decode cX7_init 0 = .ok (.aload_n 0, 1) := by decide +kernel
theorem dX7_init_1 : decode cX7_init 1 = .ok (.invokespecial 1, 3) := by decide +kernel
theorem dX7_init_4 : decode cX7_init 4 = .ok (.return_, 1) := by decide +kernel
abbrev cX7_judge : ByteArray := prog_9_method_2_code
def yX7_judge : MethodName := ⟨RX7, "judge", "(LPageBanks$Bank;I)LPageBanks$Verdict;"⟩
def dkwX7_judge_0 : List UInt8 := [43, 182, 0, 7, 153, 0, 9, 178, 0, 13, 167, 0, 6, 178, 0, 19, 176]
abbrev dktX7_judge_0 : List UInt8 := dkwX7_judge_0 ++ []
theorem dksX7_judge_0 : cX7_judge.data.toList.drop 0 = dktX7_judge_0 := by decide +kernel
theorem dX7_judge_0 : decode cX7_judge 0 = .ok (.aload_n 1, 1) := dk_43 (dk_at dksX7_judge_0 0 rfl rfl)
theorem dX7_judge_1 : decode cX7_judge 1 = .ok (.invokevirtual 7, 3) := dk_182 0 7 (dk_at dksX7_judge_0 1 rfl rfl)
theorem dX7_judge_4 : decode cX7_judge 4 = .ok (.ifCond .eq 9, 3) := dk_153 0 9 (dk_at dksX7_judge_0 4 rfl rfl)
theorem dX7_judge_7 : decode cX7_judge 7 = .ok (.getstatic 13, 3) := dk_178 0 13 (dk_at dksX7_judge_0 7 rfl rfl)
theorem dX7_judge_10 : decode cX7_judge 10 = .ok (.goto 6, 3) := dk_167 0 6 (dk_at dksX7_judge_0 10 rfl rfl)
theorem dX7_judge_13 : decode cX7_judge 13 = .ok (.getstatic 19, 3) := dk_178 0 19 (dk_at dksX7_judge_0 13 rfl rfl)
theorem dX7_judge_16 : decode cX7_judge 16 = .ok (.areturn, 1) := dk_176 (dk_at dksX7_judge_0 16 rfl rfl)
theorem q48 : (Jvm.Cond.initialized "PageBanks$NotRoot") ∈ lw_all := lw_g (lw_at lw_m1 8 rfl) rfl
theorem q160 : (Jvm.Cond.instantiable "PageBanks$NotRoot" (0 : Nat)) ∈ lw_all := lw_g (lw_at lw_m1 120 rfl) rfl
theorem q162 : (Jvm.Cond.instanceMethod ({ cls := "PageBanks$NotRoot", name := "<init>", desc := "()V" } : Jvm.MethodName)) ∈ lw_all := lw_g (lw_at lw_m1 122 rfl) rfl
theorem q163 : (Jvm.Cond.code ({ cls := "PageBanks$NotRoot", name := "<init>", desc := "()V" } : Jvm.MethodName) prog_9_method_1_code (1 : Nat) (Option.none : Option Jvm.ClassFile.FieldType)) ∈ lw_all := lw_g (lw_at lw_m1 123 rfl) rfl
theorem q164 : (Jvm.Cond.methodLink "PageBanks$NotRoot" (1 : Nat) ({ cls := "java/lang/Record", name := "<init>", desc := "()V" } : Jvm.MethodName)) ∈ lw_all := lw_g (lw_at lw_m1 124 rfl) rfl
theorem q165 : (Jvm.Cond.superclass "PageBanks$NotRoot" "java/lang/Record") ∈ lw_all := lw_g (lw_at lw_m1 125 rfl) rfl
theorem q173 : (Jvm.Cond.unhidden "PageBanks$NotRoot" "then" "(LPageBanks$Rule;)LPageBanks$Rule;") ∈ lw_tbl := lw_at lw_m1 133 rfl
theorem q690 : (Jvm.Cond.castable "PageBanks$NotRoot" "PageBanks$Rule") ∈ lw_tbl := lw_at lw_m3 170 rfl
theorem q691 : (Jvm.Cond.selects "PageBanks$NotRoot" ({ cls := "PageBanks$Rule", name := "judge", desc := "(LPageBanks$Bank;I)LPageBanks$Verdict;" } : Jvm.MethodName) ({ cls := "PageBanks$NotRoot", name := "judge", desc := "(LPageBanks$Bank;I)LPageBanks$Verdict;" } : Jvm.MethodName)) ∈ lw_all := lw_g (lw_at lw_m3 171 rfl) rfl
theorem q692 : (Jvm.Cond.unhidden "PageBanks$NotRoot" "judge" "(LPageBanks$Bank;I)LPageBanks$Verdict;") ∈ lw_tbl := lw_at lw_m3 172 rfl
theorem q693 : (Jvm.Cond.instanceMethod ({ cls := "PageBanks$NotRoot", name := "judge", desc := "(LPageBanks$Bank;I)LPageBanks$Verdict;" } : Jvm.MethodName)) ∈ lw_all := lw_g (lw_at lw_m3 173 rfl) rfl
theorem q694 : (Jvm.Cond.publicMethod ({ cls := "PageBanks$NotRoot", name := "judge", desc := "(LPageBanks$Bank;I)LPageBanks$Verdict;" } : Jvm.MethodName)) ∈ lw_tbl := lw_at lw_m3 174 rfl
theorem q695 : (Jvm.Cond.code ({ cls := "PageBanks$NotRoot", name := "judge", desc := "(LPageBanks$Bank;I)LPageBanks$Verdict;" } : Jvm.MethodName) prog_9_method_2_code (3 : Nat) (Option.some (Jvm.ClassFile.FieldType.object "PageBanks$Verdict"))) ∈ lw_all := lw_g (lw_at lw_m3 175 rfl) rfl
theorem q696 : (Jvm.Cond.methodLink "PageBanks$NotRoot" (7 : Nat) ({ cls := "PageBanks$Bank", name := "isRoot", desc := "()Z" } : Jvm.MethodName)) ∈ lw_all := lw_g (lw_at lw_m3 176 rfl) rfl
theorem q700 : (Jvm.Cond.fieldLink "PageBanks$NotRoot" (13 : Nat) "PageBanks$Verdict" "ARGUMENT" "LPageBanks$Verdict;") ∈ lw_all := lw_g (lw_at lw_m3 180 rfl) rfl
theorem q701 : (Jvm.Cond.fieldLink "PageBanks$NotRoot" (19 : Nat) "PageBanks$Verdict" "FINE" "LPageBanks$Verdict;") ∈ lw_all := lw_g (lw_at lw_m3 181 rfl) rfl
theorem q810 : (Jvm.Cond.selects "PageBanks$NotRoot" ({ cls := "java/lang/Object", name := "getClass", desc := "()Ljava/lang/Class;" } : Jvm.MethodName) ({ cls := "java/lang/Object", name := "getClass", desc := "()Ljava/lang/Class;" } : Jvm.MethodName)) ∈ lw_all := lw_g (lw_at lw_m4 50 rfl) rfl
theorem q1371 : (Jvm.Cond.castable "PageBanks$NotRoot" "java/lang/Object") ∈ lw_tbl := lw_at lw_m6 131 rfl

/-! PageBanks$NotDying -/
set_option maxRecDepth 100000
def RX8 : String := "PageBanks$NotDying"
abbrev cX8_init : ByteArray := prog_8_method_1_code
def yX8_init : MethodName := ⟨RX8, "<init>", "()V"⟩
theorem dX8_init_0 : decode cX8_init 0 = .ok (.aload_n 0, 1) := by decide +kernel
theorem dX8_init_1 : decode cX8_init 1 = .ok (.invokespecial 1, 3) := by decide +kernel
theorem dX8_init_4 : decode cX8_init 4 = .ok (.return_, 1) := by decide +kernel
abbrev cX8_judge : ByteArray := prog_8_method_2_code
def yX8_judge : MethodName := ⟨RX8, "judge", "(LPageBanks$Bank;I)LPageBanks$Verdict;"⟩
def dkwX8_judge_0 : List UInt8 := [43, 182, 0, 7, 153, 0, 9, 178, 0, 13, 167, 0, 6, 178, 0, 19, 176]
abbrev dktX8_judge_0 : List UInt8 := dkwX8_judge_0 ++ []
theorem dksX8_judge_0 : cX8_judge.data.toList.drop 0 = dktX8_judge_0 := by decide +kernel
theorem dX8_judge_0 : decode cX8_judge 0 = .ok (.aload_n 1, 1) := dk_43 (dk_at dksX8_judge_0 0 rfl rfl)
theorem dX8_judge_1 : decode cX8_judge 1 = .ok (.invokevirtual 7, 3) := dk_182 0 7 (dk_at dksX8_judge_0 1 rfl rfl)
theorem dX8_judge_4 : decode cX8_judge 4 = .ok (.ifCond .eq 9, 3) := dk_153 0 9 (dk_at dksX8_judge_0 4 rfl rfl)
theorem dX8_judge_7 : decode cX8_judge 7 = .ok (.getstatic 13, 3) := dk_178 0 13 (dk_at dksX8_judge_0 7 rfl rfl)
theorem dX8_judge_10 : decode cX8_judge 10 = .ok (.goto 6, 3) := dk_167 0 6 (dk_at dksX8_judge_0 10 rfl rfl)
theorem dX8_judge_13 : decode cX8_judge 13 = .ok (.getstatic 19, 3) := dk_178 0 19 (dk_at dksX8_judge_0 13 rfl rfl)
theorem dX8_judge_16 : decode cX8_judge 16 = .ok (.areturn, 1) := dk_176 (dk_at dksX8_judge_0 16 rfl rfl)
theorem q49 : (Jvm.Cond.initialized "PageBanks$NotDying") ∈ lw_all := lw_g (lw_at lw_m1 9 rfl) rfl
theorem q167 : (Jvm.Cond.instantiable "PageBanks$NotDying" (0 : Nat)) ∈ lw_all := lw_g (lw_at lw_m1 127 rfl) rfl
theorem q169 : (Jvm.Cond.instanceMethod ({ cls := "PageBanks$NotDying", name := "<init>", desc := "()V" } : Jvm.MethodName)) ∈ lw_all := lw_g (lw_at lw_m1 129 rfl) rfl
theorem q170 : (Jvm.Cond.code ({ cls := "PageBanks$NotDying", name := "<init>", desc := "()V" } : Jvm.MethodName) prog_8_method_1_code (1 : Nat) (Option.none : Option Jvm.ClassFile.FieldType)) ∈ lw_all := lw_g (lw_at lw_m1 130 rfl) rfl
theorem q171 : (Jvm.Cond.methodLink "PageBanks$NotDying" (1 : Nat) ({ cls := "java/lang/Record", name := "<init>", desc := "()V" } : Jvm.MethodName)) ∈ lw_all := lw_g (lw_at lw_m1 131 rfl) rfl
theorem q172 : (Jvm.Cond.superclass "PageBanks$NotDying" "java/lang/Record") ∈ lw_all := lw_g (lw_at lw_m1 132 rfl) rfl
theorem q681 : (Jvm.Cond.castable "PageBanks$NotDying" "PageBanks$Rule") ∈ lw_tbl := lw_at lw_m3 161 rfl
theorem q682 : (Jvm.Cond.selects "PageBanks$NotDying" ({ cls := "PageBanks$Rule", name := "judge", desc := "(LPageBanks$Bank;I)LPageBanks$Verdict;" } : Jvm.MethodName) ({ cls := "PageBanks$NotDying", name := "judge", desc := "(LPageBanks$Bank;I)LPageBanks$Verdict;" } : Jvm.MethodName)) ∈ lw_all := lw_g (lw_at lw_m3 162 rfl) rfl
theorem q683 : (Jvm.Cond.unhidden "PageBanks$NotDying" "judge" "(LPageBanks$Bank;I)LPageBanks$Verdict;") ∈ lw_tbl := lw_at lw_m3 163 rfl
theorem q684 : (Jvm.Cond.instanceMethod ({ cls := "PageBanks$NotDying", name := "judge", desc := "(LPageBanks$Bank;I)LPageBanks$Verdict;" } : Jvm.MethodName)) ∈ lw_all := lw_g (lw_at lw_m3 164 rfl) rfl
theorem q685 : (Jvm.Cond.publicMethod ({ cls := "PageBanks$NotDying", name := "judge", desc := "(LPageBanks$Bank;I)LPageBanks$Verdict;" } : Jvm.MethodName)) ∈ lw_tbl := lw_at lw_m3 165 rfl
theorem q686 : (Jvm.Cond.code ({ cls := "PageBanks$NotDying", name := "judge", desc := "(LPageBanks$Bank;I)LPageBanks$Verdict;" } : Jvm.MethodName) prog_8_method_2_code (3 : Nat) (Option.some (Jvm.ClassFile.FieldType.object "PageBanks$Verdict"))) ∈ lw_all := lw_g (lw_at lw_m3 166 rfl) rfl
theorem q687 : (Jvm.Cond.methodLink "PageBanks$NotDying" (7 : Nat) ({ cls := "PageBanks$Bank", name := "isDying", desc := "()Z" } : Jvm.MethodName)) ∈ lw_all := lw_g (lw_at lw_m3 167 rfl) rfl
theorem q688 : (Jvm.Cond.fieldLink "PageBanks$NotDying" (13 : Nat) "PageBanks$Verdict" "STATE" "LPageBanks$Verdict;") ∈ lw_all := lw_g (lw_at lw_m3 168 rfl) rfl
theorem q689 : (Jvm.Cond.fieldLink "PageBanks$NotDying" (19 : Nat) "PageBanks$Verdict" "FINE" "LPageBanks$Verdict;") ∈ lw_all := lw_g (lw_at lw_m3 169 rfl) rfl
theorem q809 : (Jvm.Cond.selects "PageBanks$NotDying" ({ cls := "java/lang/Object", name := "getClass", desc := "()Ljava/lang/Class;" } : Jvm.MethodName) ({ cls := "java/lang/Object", name := "getClass", desc := "()Ljava/lang/Class;" } : Jvm.MethodName)) ∈ lw_all := lw_g (lw_at lw_m4 49 rfl) rfl
theorem q1372 : (Jvm.Cond.castable "PageBanks$NotDying" "java/lang/Object") ∈ lw_tbl := lw_at lw_m6 132 rfl

/-! PageBanks$Page -/
set_option maxRecDepth 100000
def RX9 : String := "PageBanks$Page"
def TX9 : u_T := fun k => match k with
  | 0 => ("PageBanks$Page", "place", "I", true)
  | 1 => ("PageBanks$Page", "version", "I", false)
  | 2 => ("PageBanks$Page", "bank", "LPageBanks$Bank;", false)
  | 3 => ("PageBanks$Page", "before", "LPageBanks$Page;", false)
  | 4 => ("PageBanks$Page", "behind", "LPageBanks$Page;", false)
  | 5 => ("PageBanks$Page", "run", "I", false)
  | _ => ("PageBanks$Page", "words", "[I", true)
def tyX9 : Nat → FieldType := fun k => match k with
  | 0 => .int
  | 1 => .int
  | 2 => .object "PageBanks$Bank"
  | 3 => .object "PageBanks$Page"
  | 4 => .object "PageBanks$Page"
  | 5 => .int
  | _ => .array .int
abbrev wsX90 : List Cond := u_ws RX9 TX9 7
theorem nmX9 : ∀ a, a < 7 → ∀ b, b < 7 → a ≠ b → (TX9 a).2.1 ≠ (TX9 b).2.1 := by decide +kernel
theorem tyX9_ok : ∀ k, k < 7 → parseFieldDescriptor (TX9 k).2.2.1 = some (tyX9 k) := by decide +kernel
abbrev cX9_init : ByteArray := prog_10_method_1_code
def yX9_init : MethodName := ⟨RX9, "<init>", "(I)V"⟩
def dkwX9_init_0 : List UInt8 := [42, 183, 0, 3, 42, 7, 188, 10, 181, 0, 9, 42, 27, 181, 0, 15, 177]
abbrev dktX9_init_0 : List UInt8 := dkwX9_init_0 ++ []
theorem dksX9_init_0 : cX9_init.data.toList.drop 0 = dktX9_init_0 := by decide +kernel
theorem dX9_init_0 : decode cX9_init 0 = .ok (.aload_n 0, 1) := dk_42 (dk_at dksX9_init_0 0 rfl rfl)
theorem dX9_init_1 : decode cX9_init 1 = .ok (.invokespecial 3, 3) := dk_183 0 3 (dk_at dksX9_init_0 1 rfl rfl)
theorem dX9_init_4 : decode cX9_init 4 = .ok (.aload_n 0, 1) := dk_42 (dk_at dksX9_init_0 4 rfl rfl)
theorem dX9_init_5 : decode cX9_init 5 = .ok (.iconst 4, 1) := dk_7 (dk_at dksX9_init_0 5 rfl rfl)
theorem dX9_init_6 : decode cX9_init 6 = .ok (.newarray .int, 2) := dk_188_10 (dk_at dksX9_init_0 6 rfl rfl)
theorem dX9_init_8 : decode cX9_init 8 = .ok (.putfield 9, 3) := dk_181 0 9 (dk_at dksX9_init_0 8 rfl rfl)
theorem dX9_init_11 : decode cX9_init 11 = .ok (.aload_n 0, 1) := dk_42 (dk_at dksX9_init_0 11 rfl rfl)
theorem dX9_init_12 : decode cX9_init 12 = .ok (.iload_n 1, 1) := dk_27 (dk_at dksX9_init_0 12 rfl rfl)
theorem dX9_init_13 : decode cX9_init 13 = .ok (.putfield 15, 3) := dk_181 0 15 (dk_at dksX9_init_0 13 rfl rfl)
theorem dX9_init_16 : decode cX9_init 16 = .ok (.return_, 1) := dk_177 (dk_at dksX9_init_0 16 rfl rfl)
abbrev cX9_isAlive : ByteArray := prog_10_method_3_code
def yX9_isAlive : MethodName := ⟨RX9, "isAlive", "()Z"⟩
def dkwX9_isAlive_1 : List UInt8 := [3, 172]
abbrev dktX9_isAlive_1 : List UInt8 := dkwX9_isAlive_1 ++ []
def dkwX9_isAlive_0 : List UInt8 := [42, 180, 0, 22, 198, 0, 20, 42, 180, 0, 22, 180, 0, 26, 178, 0, 32, 165, 0, 7, 4, 167, 0, 4]
abbrev dktX9_isAlive_0 : List UInt8 := dkwX9_isAlive_0 ++ dktX9_isAlive_1
theorem dksX9_isAlive_0 : cX9_isAlive.data.toList.drop 0 = dktX9_isAlive_0 := by decide +kernel
theorem dksX9_isAlive_1 : cX9_isAlive.data.toList.drop 24 = dktX9_isAlive_1 := dk_seg dksX9_isAlive_0 24 rfl rfl
theorem dX9_isAlive_0 : decode cX9_isAlive 0 = .ok (.aload_n 0, 1) := dk_42 (dk_at dksX9_isAlive_0 0 rfl rfl)
theorem dX9_isAlive_1 : decode cX9_isAlive 1 = .ok (.getfield 22, 3) := dk_180 0 22 (dk_at dksX9_isAlive_0 1 rfl rfl)
theorem dX9_isAlive_4 : decode cX9_isAlive 4 = .ok (.ifnull 20, 3) := dk_198 0 20 (dk_at dksX9_isAlive_0 4 rfl rfl)
theorem dX9_isAlive_7 : decode cX9_isAlive 7 = .ok (.aload_n 0, 1) := dk_42 (dk_at dksX9_isAlive_0 7 rfl rfl)
theorem dX9_isAlive_8 : decode cX9_isAlive 8 = .ok (.getfield 22, 3) := dk_180 0 22 (dk_at dksX9_isAlive_0 8 rfl rfl)
theorem dX9_isAlive_11 : decode cX9_isAlive 11 = .ok (.getfield 26, 3) := dk_180 0 26 (dk_at dksX9_isAlive_0 11 rfl rfl)
theorem dX9_isAlive_14 : decode cX9_isAlive 14 = .ok (.getstatic 32, 3) := dk_178 0 32 (dk_at dksX9_isAlive_0 14 rfl rfl)
theorem dX9_isAlive_17 : decode cX9_isAlive 17 = .ok (.if_acmp .eq 7, 3) := dk_165 0 7 (dk_at dksX9_isAlive_0 17 rfl rfl)
theorem dX9_isAlive_20 : decode cX9_isAlive 20 = .ok (.iconst 1, 1) := dk_4 (dk_at dksX9_isAlive_0 20 rfl rfl)
theorem dX9_isAlive_21 : decode cX9_isAlive 21 = .ok (.goto 4, 3) := dk_167 0 4 (dk_at dksX9_isAlive_0 21 rfl rfl)
theorem dX9_isAlive_24 : decode cX9_isAlive 24 = .ok (.iconst 0, 1) := dk_3 (dk_at dksX9_isAlive_1 0 rfl rfl)
theorem dX9_isAlive_25 : decode cX9_isAlive 25 = .ok (.ireturn, 1) := dk_172 (dk_at dksX9_isAlive_1 1 rfl rfl)
abbrev cX9_key : ByteArray := prog_10_method_2_code
def yX9_key : MethodName := ⟨RX9, "key", "()I"⟩
def dkwX9_key_0 : List UInt8 := [17, 4, 0, 42, 180, 0, 19, 104, 5, 42, 180, 0, 15, 104, 96, 172]
abbrev dktX9_key_0 : List UInt8 := dkwX9_key_0 ++ []
theorem dksX9_key_0 : cX9_key.data.toList.drop 0 = dktX9_key_0 := by decide +kernel
theorem dX9_key_0 : decode cX9_key 0 = .ok (.sipush 1024, 3) := dk_17 4 0 (dk_at dksX9_key_0 0 rfl rfl)
theorem dX9_key_3 : decode cX9_key 3 = .ok (.aload_n 0, 1) := dk_42 (dk_at dksX9_key_0 3 rfl rfl)
theorem dX9_key_4 : decode cX9_key 4 = .ok (.getfield 19, 3) := dk_180 0 19 (dk_at dksX9_key_0 4 rfl rfl)
theorem dX9_key_7 : decode cX9_key 7 = .ok (.imul, 1) := dk_104 (dk_at dksX9_key_0 7 rfl rfl)
theorem dX9_key_8 : decode cX9_key 8 = .ok (.iconst 2, 1) := dk_5 (dk_at dksX9_key_0 8 rfl rfl)
theorem dX9_key_9 : decode cX9_key 9 = .ok (.aload_n 0, 1) := dk_42 (dk_at dksX9_key_0 9 rfl rfl)
theorem dX9_key_10 : decode cX9_key 10 = .ok (.getfield 15, 3) := dk_180 0 15 (dk_at dksX9_key_0 10 rfl rfl)
theorem dX9_key_13 : decode cX9_key 13 = .ok (.imul, 1) := dk_104 (dk_at dksX9_key_0 13 rfl rfl)
theorem dX9_key_14 : decode cX9_key 14 = .ok (.iadd, 1) := dk_96 (dk_at dksX9_key_0 14 rfl rfl)
theorem dX9_key_15 : decode cX9_key 15 = .ok (.ireturn, 1) := dk_172 (dk_at dksX9_key_0 15 rfl rfl)
theorem q50 : (Jvm.Cond.initialized "PageBanks$Page") ∈ lw_all := lw_g (lw_at lw_m1 10 rfl) rfl
theorem q174 : (Jvm.Cond.instantiable "PageBanks$Page" (7 : Nat)) ∈ lw_all := lw_g (lw_at lw_m1 134 rfl) rfl
theorem q176 : (Jvm.Cond.instanceMethod ({ cls := "PageBanks$Page", name := "<init>", desc := "(I)V" } : Jvm.MethodName)) ∈ lw_all := lw_g (lw_at lw_m1 136 rfl) rfl
theorem q177 : (Jvm.Cond.code ({ cls := "PageBanks$Page", name := "<init>", desc := "(I)V" } : Jvm.MethodName) prog_10_method_1_code (2 : Nat) (Option.none : Option Jvm.ClassFile.FieldType)) ∈ lw_all := lw_g (lw_at lw_m1 137 rfl) rfl
theorem q178 : (Jvm.Cond.methodLink "PageBanks$Page" (3 : Nat) ({ cls := "java/lang/Object", name := "<init>", desc := "()V" } : Jvm.MethodName)) ∈ lw_all := lw_g (lw_at lw_m1 138 rfl) rfl
theorem q179 : (Jvm.Cond.fieldLink "PageBanks$Page" (15 : Nat) "PageBanks$Page" "place" "I") ∈ lw_all := lw_g (lw_at lw_m1 139 rfl) rfl
theorem q181 : (Jvm.Cond.fieldLink "PageBanks$Page" (19 : Nat) "PageBanks$Page" "version" "I") ∈ lw_all := lw_g (lw_at lw_m1 141 rfl) rfl
theorem q183 : (Jvm.Cond.fieldLink "PageBanks$Page" (22 : Nat) "PageBanks$Page" "bank" "LPageBanks$Bank;") ∈ lw_all := lw_g (lw_at lw_m1 143 rfl) rfl
theorem q191 : (Jvm.Cond.fieldLink "PageBanks$Page" (9 : Nat) "PageBanks$Page" "words" "[I") ∈ lw_all := lw_g (lw_at lw_m1 151 rfl) rfl
theorem q193 : (Jvm.Cond.laysFinal "PageBanks$Page" "PageBanks$Page" "place" "I") ∈ lw_all := lw_g (lw_at lw_m1 153 rfl) rfl
theorem q194 : (Jvm.Cond.soleField "PageBanks$Page" "place") ∈ lw_all := lw_g (lw_at lw_m1 154 rfl) rfl
theorem q195 : (Jvm.Cond.lays "PageBanks$Page" "PageBanks$Page" "version" "I") ∈ lw_all := lw_g (lw_at lw_m1 155 rfl) rfl
theorem q196 : (Jvm.Cond.soleField "PageBanks$Page" "version") ∈ lw_all := lw_g (lw_at lw_m1 156 rfl) rfl
theorem q197 : (Jvm.Cond.lays "PageBanks$Page" "PageBanks$Page" "bank" "LPageBanks$Bank;") ∈ lw_all := lw_g (lw_at lw_m1 157 rfl) rfl
theorem q198 : (Jvm.Cond.soleField "PageBanks$Page" "bank") ∈ lw_all := lw_g (lw_at lw_m1 158 rfl) rfl
theorem q199 : (Jvm.Cond.lays "PageBanks$Page" "PageBanks$Page" "before" "LPageBanks$Page;") ∈ lw_all := lw_g (lw_at lw_m1 159 rfl) rfl
theorem q200 : (Jvm.Cond.soleField "PageBanks$Page" "before") ∈ lw_all := lw_g (lw_at lw_m1 160 rfl) rfl
theorem q201 : (Jvm.Cond.lays "PageBanks$Page" "PageBanks$Page" "behind" "LPageBanks$Page;") ∈ lw_all := lw_g (lw_at lw_m1 161 rfl) rfl
theorem q202 : (Jvm.Cond.soleField "PageBanks$Page" "behind") ∈ lw_all := lw_g (lw_at lw_m1 162 rfl) rfl
theorem q203 : (Jvm.Cond.lays "PageBanks$Page" "PageBanks$Page" "run" "I") ∈ lw_all := lw_g (lw_at lw_m1 163 rfl) rfl
theorem q204 : (Jvm.Cond.soleField "PageBanks$Page" "run") ∈ lw_all := lw_g (lw_at lw_m1 164 rfl) rfl
theorem q205 : (Jvm.Cond.laysFinal "PageBanks$Page" "PageBanks$Page" "words" "[I") ∈ lw_all := lw_g (lw_at lw_m1 165 rfl) rfl
theorem q206 : (Jvm.Cond.soleField "PageBanks$Page" "words") ∈ lw_all := lw_g (lw_at lw_m1 166 rfl) rfl
theorem q207 : (Jvm.Cond.superclass "PageBanks$Page" "java/lang/Object") ∈ lw_all := lw_g (lw_at lw_m1 167 rfl) rfl
theorem q279 : (Jvm.Cond.fieldLinkNest "PageBanks$Page" (26 : Nat) "PageBanks$Bank" "state" "LPageBanks$State;" "PageBanks") ∈ lw_tbl := lw_at lw_m1 239 rfl
theorem q359 : (Jvm.Cond.instanceMethod ({ cls := "PageBanks$Page", name := "isAlive", desc := "()Z" } : Jvm.MethodName)) ∈ lw_all := lw_g (lw_at lw_m2 79 rfl) rfl
theorem q360 : (Jvm.Cond.selects "PageBanks$Page" ({ cls := "PageBanks$Page", name := "isAlive", desc := "()Z" } : Jvm.MethodName) ({ cls := "PageBanks$Page", name := "isAlive", desc := "()Z" } : Jvm.MethodName)) ∈ lw_all := lw_g (lw_at lw_m2 80 rfl) rfl
theorem q361 : (Jvm.Cond.code ({ cls := "PageBanks$Page", name := "isAlive", desc := "()Z" } : Jvm.MethodName) prog_10_method_3_code (1 : Nat) (Option.some Jvm.ClassFile.FieldType.boolean)) ∈ lw_all := lw_g (lw_at lw_m2 81 rfl) rfl
theorem q362 : (Jvm.Cond.fieldLink "PageBanks$Page" (32 : Nat) "PageBanks$State" "DYING" "LPageBanks$State;") ∈ lw_all := lw_g (lw_at lw_m2 82 rfl) rfl
theorem q811 : (Jvm.Cond.selects "PageBanks$Page" ({ cls := "java/lang/Object", name := "getClass", desc := "()Ljava/lang/Class;" } : Jvm.MethodName) ({ cls := "java/lang/Object", name := "getClass", desc := "()Ljava/lang/Class;" } : Jvm.MethodName)) ∈ lw_all := lw_g (lw_at lw_m4 51 rfl) rfl
theorem q882 : (Jvm.Cond.instanceMethod ({ cls := "PageBanks$Page", name := "key", desc := "()I" } : Jvm.MethodName)) ∈ lw_all := lw_g (lw_at lw_m4 122 rfl) rfl
theorem q883 : (Jvm.Cond.selects "PageBanks$Page" ({ cls := "PageBanks$Page", name := "key", desc := "()I" } : Jvm.MethodName) ({ cls := "PageBanks$Page", name := "key", desc := "()I" } : Jvm.MethodName)) ∈ lw_all := lw_g (lw_at lw_m4 123 rfl) rfl
theorem q884 : (Jvm.Cond.code ({ cls := "PageBanks$Page", name := "key", desc := "()I" } : Jvm.MethodName) prog_10_method_2_code (1 : Nat) (Option.some Jvm.ClassFile.FieldType.int)) ∈ lw_all := lw_g (lw_at lw_m4 124 rfl) rfl
theorem q1363 : (Jvm.Cond.castable "PageBanks$Page" "java/lang/Object") ∈ lw_tbl := lw_at lw_m6 123 rfl
theorem in_X9 : ∀ w ∈ wsX90, w ∈ lw_all := lw_in wsX90 [193, 195, 197, 199, 201, 203, 205] (by decide +kernel) (by decide +kernel)

theorem q65 : (Jvm.Cond.initialized "PageBanks$Verdict") ∈ lw_all := lw_g (lw_at lw_m1 25 rfl) rfl
set_option maxRecDepth 100000
theorem q652 : (Jvm.Cond.laysStatic "PageBanks$Verdict" "FINE" "LPageBanks$Verdict;") ∈ lw_tbl := lw_at lw_m3 132 rfl
theorem q654 : (Jvm.Cond.laysStatic "PageBanks$Verdict" "STATE" "LPageBanks$Verdict;") ∈ lw_tbl := lw_at lw_m3 134 rfl
theorem q670 : (Jvm.Cond.laysStatic "PageBanks$Verdict" "REFUSED" "LPageBanks$Verdict;") ∈ lw_tbl := lw_at lw_m3 150 rfl
theorem q680 : (Jvm.Cond.laysStatic "PageBanks$Verdict" "ARGUMENT" "LPageBanks$Verdict;") ∈ lw_tbl := lw_at lw_m3 160 rfl
theorem q704 : (Jvm.Cond.sameMethod "PageBanks$Verdict" "java/lang/Enum" "ordinal" "()I") ∈ lw_all := lw_g (lw_at lw_m3 184 rfl) rfl
theorem q706 : (Jvm.Cond.selects "PageBanks$Verdict" ({ cls := "PageBanks$Verdict", name := "ordinal", desc := "()I" } : Jvm.MethodName) ({ cls := "java/lang/Enum", name := "ordinal", desc := "()I" } : Jvm.MethodName)) ∈ lw_all := lw_g (lw_at lw_m3 186 rfl) rfl
theorem q815 : (Jvm.Cond.selects "PageBanks$Verdict" ({ cls := "java/lang/Object", name := "getClass", desc := "()Ljava/lang/Class;" } : Jvm.MethodName) ({ cls := "java/lang/Object", name := "getClass", desc := "()Ljava/lang/Class;" } : Jvm.MethodName)) ∈ lw_all := lw_g (lw_at lw_m4 55 rfl) rfl
theorem q1379 : (Jvm.Cond.castable "PageBanks$Verdict" "java/lang/Object") ∈ lw_tbl := lw_at lw_m6 139 rfl

theorem q524 : (Jvm.Cond.interfaceMethod "PageBanks$Walk" "PageBanks$Walk" "hasNext" "()Z") ∈ lw_tbl := lw_at lw_m3 4 rfl
set_option maxRecDepth 100000
theorem q525 : (Jvm.Cond.declares ({ cls := "PageBanks$Walk", name := "hasNext", desc := "()Z" } : Jvm.MethodName)) ∈ lw_tbl := lw_at lw_m3 5 rfl
theorem q534 : (Jvm.Cond.interfaceMethod "PageBanks$Walk" "PageBanks$Walk" "next" "()LPageBanks$Page;") ∈ lw_tbl := lw_at lw_m3 14 rfl
theorem q535 : (Jvm.Cond.declares ({ cls := "PageBanks$Walk", name := "next", desc := "()LPageBanks$Page;" } : Jvm.MethodName)) ∈ lw_tbl := lw_at lw_m3 15 rfl
theorem q1087 : (Jvm.Cond.interfaceMethod "PageBanks$Walk" "PageBanks$Walk" "remove" "()V") ∈ lw_tbl := lw_at lw_m5 87 rfl
theorem q1088 : (Jvm.Cond.declares ({ cls := "PageBanks$Walk", name := "remove", desc := "()V" } : Jvm.MethodName)) ∈ lw_tbl := lw_at lw_m5 88 rfl

theorem q1395 : (Jvm.Cond.castable "[B" "java/lang/Object") ∈ lw_tbl := lw_at lw_m6 155 rfl
set_option maxRecDepth 100000

theorem q1394 : (Jvm.Cond.castable "[I" "java/lang/Object") ∈ lw_tbl := lw_at lw_m6 154 rfl
set_option maxRecDepth 100000

theorem q1392 : (Jvm.Cond.castable "[J" "java/lang/Object") ∈ lw_tbl := lw_at lw_m6 152 rfl
set_option maxRecDepth 100000

theorem q1393 : (Jvm.Cond.castable "[LPageBanks$Bank;" "java/lang/Object") ∈ lw_tbl := lw_at lw_m6 153 rfl
set_option maxRecDepth 100000

theorem q1391 : (Jvm.Cond.castable "[LPageBanks$Page;" "java/lang/Object") ∈ lw_tbl := lw_at lw_m6 151 rfl
set_option maxRecDepth 100000

theorem q1388 : (Jvm.Cond.sameMethod "[Ljava/lang/Object;" "java/lang/Object" "getClass" "()Ljava/lang/Class;") ∈ lw_all := lw_g (lw_at lw_m6 148 rfl) rfl
set_option maxRecDepth 100000
theorem q1389 : (Jvm.Cond.selects "[Ljava/lang/Object;" ({ cls := "java/lang/Object", name := "getClass", desc := "()Ljava/lang/Class;" } : Jvm.MethodName) ({ cls := "java/lang/Object", name := "getClass", desc := "()Ljava/lang/Class;" } : Jvm.MethodName)) ∈ lw_all := lw_g (lw_at lw_m6 149 rfl) rfl
theorem q1396 : (Jvm.Cond.castable "[Ljava/lang/Object;" "java/lang/Object") ∈ lw_tbl := lw_at lw_m6 156 rfl

theorem q1397 : (Jvm.Cond.castable "[Z" "java/lang/Object") ∈ lw_tbl := lw_at lw_m6 157 rfl
set_option maxRecDepth 100000

theorem q72 : (Jvm.Cond.initialized "java/lang/System") ∈ lw_all := lw_g (lw_at lw_m1 32 rfl) rfl
set_option maxRecDepth 100000
theorem q834 : (Jvm.Cond.static ({ cls := "java/lang/System", name := "arraycopy", desc := "(Ljava/lang/Object;ILjava/lang/Object;II)V" } : Jvm.MethodName)) ∈ lw_all := lw_g (lw_at lw_m4 74 rfl) rfl
theorem q835 : (Jvm.Cond.native ({ cls := "java/lang/System", name := "arraycopy", desc := "(Ljava/lang/Object;ILjava/lang/Object;II)V" } : Jvm.MethodName)) ∈ lw_all := lw_g (lw_at lw_m4 75 rfl) rfl

theorem q411 : (Jvm.Cond.interfaceMethod "java/util/Iterator" "java/util/Iterator" "hasNext" "()Z") ∈ lw_tbl := lw_at lw_m2 131 rfl
set_option maxRecDepth 100000
theorem q412 : (Jvm.Cond.declares ({ cls := "java/util/Iterator", name := "hasNext", desc := "()Z" } : Jvm.MethodName)) ∈ lw_tbl := lw_at lw_m2 132 rfl
theorem q421 : (Jvm.Cond.interfaceMethod "java/util/Iterator" "java/util/Iterator" "next" "()Ljava/lang/Object;") ∈ lw_tbl := lw_at lw_m2 141 rfl
theorem q422 : (Jvm.Cond.declares ({ cls := "java/util/Iterator", name := "next", desc := "()Ljava/lang/Object;" } : Jvm.MethodName)) ∈ lw_tbl := lw_at lw_m2 142 rfl

theorem q382 : (Jvm.Cond.interfaceMethod "java/util/List" "java/util/List" "iterator" "()Ljava/util/Iterator;") ∈ lw_tbl := lw_at lw_m2 102 rfl
set_option maxRecDepth 100000
theorem q383 : (Jvm.Cond.declares ({ cls := "java/util/List", name := "iterator", desc := "()Ljava/util/Iterator;" } : Jvm.MethodName)) ∈ lw_tbl := lw_at lw_m2 103 rfl
theorem q767 : (Jvm.Cond.interfaceMethod "java/util/List" "java/util/List" "add" "(Ljava/lang/Object;)Z") ∈ lw_tbl := lw_at lw_m4 7 rfl
theorem q768 : (Jvm.Cond.declares ({ cls := "java/util/List", name := "add", desc := "(Ljava/lang/Object;)Z" } : Jvm.MethodName)) ∈ lw_tbl := lw_at lw_m4 8 rfl
theorem q1010 : (Jvm.Cond.interfaceMethod "java/util/List" "java/util/List" "size" "()I") ∈ lw_tbl := lw_at lw_m5 10 rfl
theorem q1011 : (Jvm.Cond.declares ({ cls := "java/util/List", name := "size", desc := "()I" } : Jvm.MethodName)) ∈ lw_tbl := lw_at lw_m5 11 rfl
theorem q1019 : (Jvm.Cond.interfaceMethod "java/util/List" "java/util/List" "get" "(I)Ljava/lang/Object;") ∈ lw_tbl := lw_at lw_m5 19 rfl
theorem q1020 : (Jvm.Cond.declares ({ cls := "java/util/List", name := "get", desc := "(I)Ljava/lang/Object;" } : Jvm.MethodName)) ∈ lw_tbl := lw_at lw_m5 20 rfl
theorem q1042 : (Jvm.Cond.interfaceMethod "java/util/List" "java/util/List" "isEmpty" "()Z") ∈ lw_tbl := lw_at lw_m5 42 rfl
theorem q1043 : (Jvm.Cond.declares ({ cls := "java/util/List", name := "isEmpty", desc := "()Z" } : Jvm.MethodName)) ∈ lw_tbl := lw_at lw_m5 43 rfl
theorem q1055 : (Jvm.Cond.interfaceMethod "java/util/List" "java/util/List" "remove" "(I)Ljava/lang/Object;") ∈ lw_tbl := lw_at lw_m5 55 rfl
theorem q1056 : (Jvm.Cond.declares ({ cls := "java/util/List", name := "remove", desc := "(I)Ljava/lang/Object;" } : Jvm.MethodName)) ∈ lw_tbl := lw_at lw_m5 56 rfl

theorem q89 : (Jvm.Cond.arrayOver (Jvm.ClassFile.FieldType.object "PageBanks$Page")) ∈ lw_tbl := lw_at lw_m1 49 rfl
set_option maxRecDepth 100000
theorem q104 : (Jvm.Cond.arrayClass Jvm.ClassFile.FieldType.long) ∈ lw_all := lw_g (lw_at lw_m1 64 rfl) rfl
theorem q106 : (Jvm.Cond.arrayOver (Jvm.ClassFile.FieldType.object "PageBanks$Bank")) ∈ lw_tbl := lw_at lw_m1 66 rfl
theorem q208 : (Jvm.Cond.arrayClass Jvm.ClassFile.FieldType.int) ∈ lw_all := lw_g (lw_at lw_m1 168 rfl) rfl
theorem q590 : (Jvm.Cond.arrayClass Jvm.ClassFile.FieldType.byte) ∈ lw_all := lw_g (lw_at lw_m3 70 rfl) rfl
theorem q830 : (Jvm.Cond.arrayOver (Jvm.ClassFile.FieldType.object "java/lang/Object")) ∈ lw_tbl := lw_at lw_m4 70 rfl
theorem q1172 : (Jvm.Cond.arrayClass Jvm.ClassFile.FieldType.boolean) ∈ lw_all := lw_g (lw_at lw_m5 172 rfl) rfl

/-! NameRests$Fault -/
set_option maxRecDepth 100000
def RX1 : String := "NameRests$Fault"
def TX1 : u_T := fun k => match k with
  | 0 => ("java/lang/Throwable", "cause", "Ljava/lang/Throwable;", false)
  | 1 => ("java/lang/Throwable", "stackTrace", "[Ljava/lang/StackTraceElement;", false)
  | 2 => ("java/lang/Throwable", "suppressedExceptions", "Ljava/util/List;", false)
  | 3 => ("java/lang/Throwable", "detailMessage", "Ljava/lang/String;", false)
  | 4 => ("java/lang/Throwable", "backtrace", "Ljava/lang/Object;", false)
  | _ => ("java/lang/Throwable", "depth", "I", false)
def tyX1 : Nat → FieldType := fun k => match k with
  | 0 => .object "java/lang/Throwable"
  | 1 => .array (.object "java/lang/StackTraceElement")
  | 2 => .object "java/util/List"
  | 3 => .object "java/lang/String"
  | 4 => .object "java/lang/Object"
  | _ => .int
abbrev wsX10 : List Cond := u_ws RX1 TX1 6
theorem nmX1 : ∀ a, a < 6 → ∀ b, b < 6 → a ≠ b → (TX1 a).2.1 ≠ (TX1 b).2.1 := by decide +kernel
theorem tyX1_ok : ∀ k, k < 6 → parseFieldDescriptor (TX1 k).2.2.1 = some (tyX1 k) := by decide +kernel
abbrev cX1_init : ByteArray := prog_7_method_1_code
def yX1_init : MethodName := ⟨RX1, "<init>", "()V"⟩
def dkwX1_init_0 : List UInt8 := [42, 1, 1, 3, 3, 183, 0, 1, 177]
abbrev dktX1_init_0 : List UInt8 := dkwX1_init_0 ++ []
theorem dksX1_init_0 : cX1_init.data.toList.drop 0 = dktX1_init_0 := by decide +kernel
theorem dX1_init_0 : decode cX1_init 0 = .ok (.aload_n 0, 1) := dk_42 (dk_at dksX1_init_0 0 rfl rfl)
theorem dX1_init_1 : decode cX1_init 1 = .ok (.aconst_null, 1) := dk_1 (dk_at dksX1_init_0 1 rfl rfl)
theorem dX1_init_2 : decode cX1_init 2 = .ok (.aconst_null, 1) := dk_1 (dk_at dksX1_init_0 2 rfl rfl)
theorem dX1_init_3 : decode cX1_init 3 = .ok (.iconst 0, 1) := dk_3 (dk_at dksX1_init_0 3 rfl rfl)
theorem dX1_init_4 : decode cX1_init 4 = .ok (.iconst 0, 1) := dk_3 (dk_at dksX1_init_0 4 rfl rfl)
theorem dX1_init_5 : decode cX1_init 5 = .ok (.invokespecial 1, 3) := dk_183 0 1 (dk_at dksX1_init_0 5 rfl rfl)
theorem dX1_init_8 : decode cX1_init 8 = .ok (.return_, 1) := dk_177 (dk_at dksX1_init_0 8 rfl rfl)
theorem q107 : (Jvm.Cond.initialized "NameRests$Fault") ∈ lw_all := lw_g (lw_at lw_m1 5 rfl) rfl
theorem q149 : (Jvm.Cond.instantiable "NameRests$Fault" (6 : Nat)) ∈ lw_all := lw_g (lw_at lw_m1 47 rfl) rfl
theorem q150 : (Jvm.Cond.castable "NameRests$Fault" "NameRests$Fault") ∈ lw_tbl := lw_at lw_m1 48 rfl
theorem q157 : (Jvm.Cond.selects "NameRests$Fault" ({ cls := "java/lang/Throwable", name := "fillInStackTrace", desc := "(I)Ljava/lang/Throwable;" } : Jvm.MethodName) ({ cls := "java/lang/Throwable", name := "fillInStackTrace", desc := "(I)Ljava/lang/Throwable;" } : Jvm.MethodName)) ∈ lw_all := lw_g (lw_at lw_m1 55 rfl) rfl
theorem q158 : (Jvm.Cond.selects "NameRests$Fault" ({ cls := "java/lang/Throwable", name := "fillInStackTrace", desc := "()Ljava/lang/Throwable;" } : Jvm.MethodName) ({ cls := "java/lang/Throwable", name := "fillInStackTrace", desc := "()Ljava/lang/Throwable;" } : Jvm.MethodName)) ∈ lw_all := lw_g (lw_at lw_m1 56 rfl) rfl
theorem q159 : (Jvm.Cond.lays "NameRests$Fault" "java/lang/Throwable" "cause" "Ljava/lang/Throwable;") ∈ lw_all := lw_g (lw_at lw_m1 57 rfl) rfl
theorem q161 : (Jvm.Cond.lays "NameRests$Fault" "java/lang/Throwable" "stackTrace" "[Ljava/lang/StackTraceElement;") ∈ lw_all := lw_g (lw_at lw_m1 59 rfl) rfl
theorem q163 : (Jvm.Cond.lays "NameRests$Fault" "java/lang/Throwable" "suppressedExceptions" "Ljava/util/List;") ∈ lw_all := lw_g (lw_at lw_m1 61 rfl) rfl
theorem q165 : (Jvm.Cond.lays "NameRests$Fault" "java/lang/Throwable" "detailMessage" "Ljava/lang/String;") ∈ lw_all := lw_g (lw_at lw_m1 63 rfl) rfl
theorem q167 : (Jvm.Cond.lays "NameRests$Fault" "java/lang/Throwable" "backtrace" "Ljava/lang/Object;") ∈ lw_all := lw_g (lw_at lw_m1 65 rfl) rfl
theorem q189 : (Jvm.Cond.instanceMethod ({ cls := "NameRests$Fault", name := "<init>", desc := "()V" } : Jvm.MethodName)) ∈ lw_all := lw_g (lw_at lw_m1 87 rfl) rfl
theorem q190 : (Jvm.Cond.code ({ cls := "NameRests$Fault", name := "<init>", desc := "()V" } : Jvm.MethodName) prog_7_method_1_code (1 : Nat) (Option.none : Option Jvm.ClassFile.FieldType)) ∈ lw_all := lw_g (lw_at lw_m1 88 rfl) rfl
theorem q191 : (Jvm.Cond.methodLink "NameRests$Fault" (1 : Nat) ({ cls := "java/lang/RuntimeException", name := "<init>", desc := "(Ljava/lang/String;Ljava/lang/Throwable;ZZ)V" } : Jvm.MethodName)) ∈ lw_all := lw_g (lw_at lw_m1 89 rfl) rfl
theorem q209 : (Jvm.Cond.lays "NameRests$Fault" "java/lang/Throwable" "depth" "I") ∈ lw_all := lw_g (lw_at lw_m1 107 rfl) rfl
theorem q212 : (Jvm.Cond.superclass "NameRests$Fault" "java/lang/RuntimeException") ∈ lw_all := lw_g (lw_at lw_m1 110 rfl) rfl
theorem q1844 : (Jvm.Cond.castable "NameRests$Fault" "java/lang/Object") ∈ lw_tbl := lw_at lw_m8 62 rfl
theorem in_X1 : ∀ w ∈ wsX10, w ∈ lw_all := lw_in wsX10 [159, 161, 163, 165, 167, 209] (by decide +kernel) (by decide +kernel)

/-! NameRests$Torn -/
set_option maxRecDepth 100000
def RX2 : String := "NameRests$Torn"
def TX2 : u_T := fun k => match k with
  | 0 => ("java/lang/Throwable", "cause", "Ljava/lang/Throwable;", false)
  | 1 => ("java/lang/Throwable", "stackTrace", "[Ljava/lang/StackTraceElement;", false)
  | 2 => ("java/lang/Throwable", "suppressedExceptions", "Ljava/util/List;", false)
  | 3 => ("java/lang/Throwable", "detailMessage", "Ljava/lang/String;", false)
  | 4 => ("java/lang/Throwable", "backtrace", "Ljava/lang/Object;", false)
  | _ => ("java/lang/Throwable", "depth", "I", false)
def tyX2 : Nat → FieldType := fun k => match k with
  | 0 => .object "java/lang/Throwable"
  | 1 => .array (.object "java/lang/StackTraceElement")
  | 2 => .object "java/util/List"
  | 3 => .object "java/lang/String"
  | 4 => .object "java/lang/Object"
  | _ => .int
abbrev wsX20 : List Cond := u_ws RX2 TX2 6
theorem nmX2 : ∀ a, a < 6 → ∀ b, b < 6 → a ≠ b → (TX2 a).2.1 ≠ (TX2 b).2.1 := by decide +kernel
theorem tyX2_ok : ∀ k, k < 6 → parseFieldDescriptor (TX2 k).2.2.1 = some (tyX2 k) := by decide +kernel
abbrev cX2_init : ByteArray := prog_22_method_1_code
def yX2_init : MethodName := ⟨RX2, "<init>", "()V"⟩
def dkwX2_init_0 : List UInt8 := [42, 1, 1, 3, 3, 183, 0, 1, 177]
abbrev dktX2_init_0 : List UInt8 := dkwX2_init_0 ++ []
theorem dksX2_init_0 : cX2_init.data.toList.drop 0 = dktX2_init_0 := by decide +kernel
theorem dX2_init_0 : decode cX2_init 0 = .ok (.aload_n 0, 1) := dk_42 (dk_at dksX2_init_0 0 rfl rfl)
theorem dX2_init_1 : decode cX2_init 1 = .ok (.aconst_null, 1) := dk_1 (dk_at dksX2_init_0 1 rfl rfl)
theorem dX2_init_2 : decode cX2_init 2 = .ok (.aconst_null, 1) := dk_1 (dk_at dksX2_init_0 2 rfl rfl)
theorem dX2_init_3 : decode cX2_init 3 = .ok (.iconst 0, 1) := dk_3 (dk_at dksX2_init_0 3 rfl rfl)
theorem dX2_init_4 : decode cX2_init 4 = .ok (.iconst 0, 1) := dk_3 (dk_at dksX2_init_0 4 rfl rfl)
theorem dX2_init_5 : decode cX2_init 5 = .ok (.invokespecial 1, 3) := dk_183 0 1 (dk_at dksX2_init_0 5 rfl rfl)
theorem dX2_init_8 : decode cX2_init 8 = .ok (.return_, 1) := dk_177 (dk_at dksX2_init_0 8 rfl rfl)
theorem q108 : (Jvm.Cond.initialized "NameRests$Torn") ∈ lw_all := lw_g (lw_at lw_m1 6 rfl) rfl
theorem q181 : (Jvm.Cond.selects "NameRests$Torn" ({ cls := "java/lang/Throwable", name := "fillInStackTrace", desc := "()Ljava/lang/Throwable;" } : Jvm.MethodName) ({ cls := "java/lang/Throwable", name := "fillInStackTrace", desc := "()Ljava/lang/Throwable;" } : Jvm.MethodName)) ∈ lw_all := lw_g (lw_at lw_m1 79 rfl) rfl
theorem q221 : (Jvm.Cond.instantiable "NameRests$Torn" (6 : Nat)) ∈ lw_all := lw_g (lw_at lw_m1 119 rfl) rfl
theorem q222 : (Jvm.Cond.castable "NameRests$Torn" "NameRests$Torn") ∈ lw_tbl := lw_at lw_m1 120 rfl
theorem q223 : (Jvm.Cond.selects "NameRests$Torn" ({ cls := "java/lang/Throwable", name := "fillInStackTrace", desc := "(I)Ljava/lang/Throwable;" } : Jvm.MethodName) ({ cls := "java/lang/Throwable", name := "fillInStackTrace", desc := "(I)Ljava/lang/Throwable;" } : Jvm.MethodName)) ∈ lw_all := lw_g (lw_at lw_m1 121 rfl) rfl
theorem q224 : (Jvm.Cond.lays "NameRests$Torn" "java/lang/Throwable" "cause" "Ljava/lang/Throwable;") ∈ lw_all := lw_g (lw_at lw_m1 122 rfl) rfl
theorem q225 : (Jvm.Cond.lays "NameRests$Torn" "java/lang/Throwable" "stackTrace" "[Ljava/lang/StackTraceElement;") ∈ lw_all := lw_g (lw_at lw_m1 123 rfl) rfl
theorem q226 : (Jvm.Cond.lays "NameRests$Torn" "java/lang/Throwable" "suppressedExceptions" "Ljava/util/List;") ∈ lw_all := lw_g (lw_at lw_m1 124 rfl) rfl
theorem q227 : (Jvm.Cond.lays "NameRests$Torn" "java/lang/Throwable" "detailMessage" "Ljava/lang/String;") ∈ lw_all := lw_g (lw_at lw_m1 125 rfl) rfl
theorem q228 : (Jvm.Cond.lays "NameRests$Torn" "java/lang/Throwable" "backtrace" "Ljava/lang/Object;") ∈ lw_all := lw_g (lw_at lw_m1 126 rfl) rfl
theorem q230 : (Jvm.Cond.instanceMethod ({ cls := "NameRests$Torn", name := "<init>", desc := "()V" } : Jvm.MethodName)) ∈ lw_all := lw_g (lw_at lw_m1 128 rfl) rfl
theorem q231 : (Jvm.Cond.code ({ cls := "NameRests$Torn", name := "<init>", desc := "()V" } : Jvm.MethodName) prog_22_method_1_code (1 : Nat) (Option.none : Option Jvm.ClassFile.FieldType)) ∈ lw_all := lw_g (lw_at lw_m1 129 rfl) rfl
theorem q232 : (Jvm.Cond.methodLink "NameRests$Torn" (1 : Nat) ({ cls := "java/lang/RuntimeException", name := "<init>", desc := "(Ljava/lang/String;Ljava/lang/Throwable;ZZ)V" } : Jvm.MethodName)) ∈ lw_all := lw_g (lw_at lw_m1 130 rfl) rfl
theorem q233 : (Jvm.Cond.lays "NameRests$Torn" "java/lang/Throwable" "depth" "I") ∈ lw_all := lw_g (lw_at lw_m1 131 rfl) rfl
theorem q234 : (Jvm.Cond.superclass "NameRests$Torn" "java/lang/RuntimeException") ∈ lw_all := lw_g (lw_at lw_m1 132 rfl) rfl
theorem q1845 : (Jvm.Cond.castable "NameRests$Torn" "java/lang/Object") ∈ lw_tbl := lw_at lw_m8 63 rfl
theorem in_X2 : ∀ w ∈ wsX20, w ∈ lw_all := lw_in wsX20 [224, 225, 226, 227, 228, 233] (by decide +kernel) (by decide +kernel)

/-! NameRests$Change -/
set_option maxRecDepth 100000
def RX3 : String := "NameRests$Change"
def TX3 : u_T := fun k => match k with
  | 0 => ("NameRests$Change", "of", "LNameRests$Held;", false)
  | 1 => ("NameRests$Change", "was", "I", false)
  | _ => ("NameRests$Change", "is", "I", false)
def tyX3 : Nat → FieldType := fun k => match k with
  | 0 => .object "NameRests$Held"
  | 1 => .int
  | _ => .int
abbrev wsX30 : List Cond := u_ws RX3 TX3 3
theorem nmX3 : ∀ a, a < 3 → ∀ b, b < 3 → a ≠ b → (TX3 a).2.1 ≠ (TX3 b).2.1 := by decide +kernel
theorem tyX3_ok : ∀ k, k < 3 → parseFieldDescriptor (TX3 k).2.2.1 = some (tyX3 k) := by decide +kernel
abbrev cX3_init : ByteArray := prog_6_method_1_code
def yX3_init : MethodName := ⟨RX3, "<init>", "()V"⟩
theorem dX3_init_0 : decode cX3_init 0 = .ok (.aload_n 0, 1) := by decide +kernel
theorem dX3_init_1 : decode cX3_init 1 = .ok (.invokespecial 1, 3) := by decide +kernel
theorem dX3_init_4 : decode cX3_init 4 = .ok (.return_, 1) := by decide +kernel
theorem q109 : (Jvm.Cond.initialized "NameRests$Change") ∈ lw_all := lw_g (lw_at lw_m1 7 rfl) rfl
theorem q239 : (Jvm.Cond.instantiable "NameRests$Change" (3 : Nat)) ∈ lw_all := lw_g (lw_at lw_m1 137 rfl) rfl
theorem q241 : (Jvm.Cond.instanceMethod ({ cls := "NameRests$Change", name := "<init>", desc := "()V" } : Jvm.MethodName)) ∈ lw_all := lw_g (lw_at lw_m1 139 rfl) rfl
theorem q242 : (Jvm.Cond.code ({ cls := "NameRests$Change", name := "<init>", desc := "()V" } : Jvm.MethodName) prog_6_method_1_code (1 : Nat) (Option.none : Option Jvm.ClassFile.FieldType)) ∈ lw_all := lw_g (lw_at lw_m1 140 rfl) rfl
theorem q243 : (Jvm.Cond.methodLink "NameRests$Change" (1 : Nat) ({ cls := "java/lang/Object", name := "<init>", desc := "()V" } : Jvm.MethodName)) ∈ lw_all := lw_g (lw_at lw_m1 141 rfl) rfl
theorem q247 : (Jvm.Cond.lays "NameRests$Change" "NameRests$Change" "of" "LNameRests$Held;") ∈ lw_all := lw_g (lw_at lw_m1 145 rfl) rfl
theorem q248 : (Jvm.Cond.soleField "NameRests$Change" "of") ∈ lw_all := lw_g (lw_at lw_m1 146 rfl) rfl
theorem q249 : (Jvm.Cond.lays "NameRests$Change" "NameRests$Change" "was" "I") ∈ lw_all := lw_g (lw_at lw_m1 147 rfl) rfl
theorem q250 : (Jvm.Cond.soleField "NameRests$Change" "was") ∈ lw_all := lw_g (lw_at lw_m1 148 rfl) rfl
theorem q251 : (Jvm.Cond.lays "NameRests$Change" "NameRests$Change" "is" "I") ∈ lw_all := lw_g (lw_at lw_m1 149 rfl) rfl
theorem q252 : (Jvm.Cond.soleField "NameRests$Change" "is") ∈ lw_all := lw_g (lw_at lw_m1 150 rfl) rfl
theorem q253 : (Jvm.Cond.superclass "NameRests$Change" "java/lang/Object") ∈ lw_all := lw_g (lw_at lw_m1 151 rfl) rfl
theorem q1846 : (Jvm.Cond.castable "NameRests$Change" "java/lang/Object") ∈ lw_tbl := lw_at lw_m8 64 rfl
theorem in_X3 : ∀ w ∈ wsX30, w ∈ lw_all := lw_in wsX30 [247, 249, 251] (by decide +kernel) (by decide +kernel)

/-! NameRests$Held -/
set_option maxRecDepth 100000
def RX4 : String := "NameRests$Held"
def TX4 : u_T := fun k => match k with
  | _ => ("NameRests$Held", "v", "I", false)
def tyX4 : Nat → FieldType := fun k => match k with
  | _ => .int
abbrev wsX40 : List Cond := u_ws RX4 TX4 1
theorem nmX4 : ∀ a, a < 1 → ∀ b, b < 1 → a ≠ b → (TX4 a).2.1 ≠ (TX4 b).2.1 := by decide +kernel
theorem tyX4_ok : ∀ k, k < 1 → parseFieldDescriptor (TX4 k).2.2.1 = some (tyX4 k) := by decide +kernel
abbrev cX4_init : ByteArray := prog_11_method_1_code
def yX4_init : MethodName := ⟨RX4, "<init>", "()V"⟩
theorem dX4_init_0 : decode cX4_init 0 = .ok (.aload_n 0, 1) := by decide +kernel
theorem dX4_init_1 : decode cX4_init 1 = .ok (.invokespecial 1, 3) := by decide +kernel
theorem dX4_init_4 : decode cX4_init 4 = .ok (.return_, 1) := by decide +kernel
theorem q110 : (Jvm.Cond.initialized "NameRests$Held") ∈ lw_all := lw_g (lw_at lw_m1 8 rfl) rfl
theorem q254 : (Jvm.Cond.instantiable "NameRests$Held" (1 : Nat)) ∈ lw_all := lw_g (lw_at lw_m1 152 rfl) rfl
theorem q256 : (Jvm.Cond.instanceMethod ({ cls := "NameRests$Held", name := "<init>", desc := "()V" } : Jvm.MethodName)) ∈ lw_all := lw_g (lw_at lw_m1 154 rfl) rfl
theorem q257 : (Jvm.Cond.code ({ cls := "NameRests$Held", name := "<init>", desc := "()V" } : Jvm.MethodName) prog_11_method_1_code (1 : Nat) (Option.none : Option Jvm.ClassFile.FieldType)) ∈ lw_all := lw_g (lw_at lw_m1 155 rfl) rfl
theorem q258 : (Jvm.Cond.methodLink "NameRests$Held" (1 : Nat) ({ cls := "java/lang/Object", name := "<init>", desc := "()V" } : Jvm.MethodName)) ∈ lw_all := lw_g (lw_at lw_m1 156 rfl) rfl
theorem q261 : (Jvm.Cond.lays "NameRests$Held" "NameRests$Held" "v" "I") ∈ lw_all := lw_g (lw_at lw_m1 159 rfl) rfl
theorem q262 : (Jvm.Cond.soleField "NameRests$Held" "v") ∈ lw_all := lw_g (lw_at lw_m1 160 rfl) rfl
theorem q263 : (Jvm.Cond.superclass "NameRests$Held" "java/lang/Object") ∈ lw_all := lw_g (lw_at lw_m1 161 rfl) rfl
theorem q1847 : (Jvm.Cond.castable "NameRests$Held" "java/lang/Object") ∈ lw_tbl := lw_at lw_m8 65 rfl
theorem in_X4 : ∀ w ∈ wsX40, w ∈ lw_all := lw_in wsX40 [261] (by decide +kernel) (by decide +kernel)

/-! NameRests$Person -/
set_option maxRecDepth 100000
def RX6 : String := "NameRests$Person"
def TX6 : u_T := fun k => match k with
  | 0 => ("NameRests$Person", "born", "I", true)
  | 1 => ("NameRests$Person", "dies", "LNameRests$Held;", true)
  | _ => ("NameRests$Person", "name", "I", false)
def tyX6 : Nat → FieldType := fun k => match k with
  | 0 => .int
  | 1 => .object "NameRests$Held"
  | _ => .int
abbrev wsX60 : List Cond := u_ws RX6 TX6 3
theorem nmX6 : ∀ a, a < 3 → ∀ b, b < 3 → a ≠ b → (TX6 a).2.1 ≠ (TX6 b).2.1 := by decide +kernel
theorem tyX6_ok : ∀ k, k < 3 → parseFieldDescriptor (TX6 k).2.2.1 = some (tyX6 k) := by decide +kernel
abbrev cX6_init : ByteArray := prog_16_method_1_code
def yX6_init : MethodName := ⟨RX6, "<init>", "(II)V"⟩
def dkwX6_init_1 : List UInt8 := [181, 0, 22, 42, 180, 0, 12, 28, 181, 0, 25, 177]
abbrev dktX6_init_1 : List UInt8 := dkwX6_init_1 ++ []
def dkwX6_init_0 : List UInt8 := [42, 183, 0, 3, 42, 187, 0, 9, 89, 183, 0, 11, 181, 0, 12, 42, 2, 181, 0, 18, 42, 27]
abbrev dktX6_init_0 : List UInt8 := dkwX6_init_0 ++ dktX6_init_1
theorem dksX6_init_0 : cX6_init.data.toList.drop 0 = dktX6_init_0 := by decide +kernel
theorem dksX6_init_1 : cX6_init.data.toList.drop 22 = dktX6_init_1 := dk_seg dksX6_init_0 22 rfl rfl
theorem dX6_init_0 : decode cX6_init 0 = .ok (.aload_n 0, 1) := dk_42 (dk_at dksX6_init_0 0 rfl rfl)
theorem dX6_init_1 : decode cX6_init 1 = .ok (.invokespecial 3, 3) := dk_183 0 3 (dk_at dksX6_init_0 1 rfl rfl)
theorem dX6_init_4 : decode cX6_init 4 = .ok (.aload_n 0, 1) := dk_42 (dk_at dksX6_init_0 4 rfl rfl)
theorem dX6_init_5 : decode cX6_init 5 = .ok (.new 9, 3) := dk_187 0 9 (dk_at dksX6_init_0 5 rfl rfl)
theorem dX6_init_8 : decode cX6_init 8 = .ok (.dup, 1) := dk_89 (dk_at dksX6_init_0 8 rfl rfl)
theorem dX6_init_9 : decode cX6_init 9 = .ok (.invokespecial 11, 3) := dk_183 0 11 (dk_at dksX6_init_0 9 rfl rfl)
theorem dX6_init_12 : decode cX6_init 12 = .ok (.putfield 12, 3) := dk_181 0 12 (dk_at dksX6_init_0 12 rfl rfl)
theorem dX6_init_15 : decode cX6_init 15 = .ok (.aload_n 0, 1) := dk_42 (dk_at dksX6_init_0 15 rfl rfl)
theorem dX6_init_16 : decode cX6_init 16 = .ok (.iconst (-1), 1) := dk_2 (dk_at dksX6_init_0 16 rfl rfl)
theorem dX6_init_17 : decode cX6_init 17 = .ok (.putfield 18, 3) := dk_181 0 18 (dk_at dksX6_init_0 17 rfl rfl)
theorem dX6_init_20 : decode cX6_init 20 = .ok (.aload_n 0, 1) := dk_42 (dk_at dksX6_init_0 20 rfl rfl)
theorem dX6_init_21 : decode cX6_init 21 = .ok (.iload_n 1, 1) := dk_27 (dk_at dksX6_init_0 21 rfl rfl)
theorem dX6_init_22 : decode cX6_init 22 = .ok (.putfield 22, 3) := dk_181 0 22 (dk_at dksX6_init_1 0 rfl rfl)
theorem dX6_init_25 : decode cX6_init 25 = .ok (.aload_n 0, 1) := dk_42 (dk_at dksX6_init_1 3 rfl rfl)
theorem dX6_init_26 : decode cX6_init 26 = .ok (.getfield 12, 3) := dk_180 0 12 (dk_at dksX6_init_1 4 rfl rfl)
theorem dX6_init_29 : decode cX6_init 29 = .ok (.iload_n 2, 1) := dk_28 (dk_at dksX6_init_1 7 rfl rfl)
theorem dX6_init_30 : decode cX6_init 30 = .ok (.putfield 25, 3) := dk_181 0 25 (dk_at dksX6_init_1 8 rfl rfl)
theorem dX6_init_33 : decode cX6_init 33 = .ok (.return_, 1) := dk_177 (dk_at dksX6_init_1 11 rfl rfl)
abbrev cX6_lives : ByteArray := prog_16_method_2_code
def yX6_lives : MethodName := ⟨RX6, "lives", "(I)Z"⟩
def dkwX6_lives_1 : List UInt8 := [172]
abbrev dktX6_lives_1 : List UInt8 := dkwX6_lives_1 ++ []
def dkwX6_lives_0 : List UInt8 := [27, 42, 180, 0, 22, 161, 0, 18, 27, 42, 180, 0, 12, 180, 0, 25, 162, 0, 7, 4, 167, 0, 4, 3]
abbrev dktX6_lives_0 : List UInt8 := dkwX6_lives_0 ++ dktX6_lives_1
theorem dksX6_lives_0 : cX6_lives.data.toList.drop 0 = dktX6_lives_0 := by decide +kernel
theorem dksX6_lives_1 : cX6_lives.data.toList.drop 24 = dktX6_lives_1 := dk_seg dksX6_lives_0 24 rfl rfl
theorem dX6_lives_0 : decode cX6_lives 0 = .ok (.iload_n 1, 1) := dk_27 (dk_at dksX6_lives_0 0 rfl rfl)
theorem dX6_lives_1 : decode cX6_lives 1 = .ok (.aload_n 0, 1) := dk_42 (dk_at dksX6_lives_0 1 rfl rfl)
theorem dX6_lives_2 : decode cX6_lives 2 = .ok (.getfield 22, 3) := dk_180 0 22 (dk_at dksX6_lives_0 2 rfl rfl)
theorem dX6_lives_5 : decode cX6_lives 5 = .ok (.if_icmp .lt 18, 3) := dk_161 0 18 (dk_at dksX6_lives_0 5 rfl rfl)
theorem dX6_lives_8 : decode cX6_lives 8 = .ok (.iload_n 1, 1) := dk_27 (dk_at dksX6_lives_0 8 rfl rfl)
theorem dX6_lives_9 : decode cX6_lives 9 = .ok (.aload_n 0, 1) := dk_42 (dk_at dksX6_lives_0 9 rfl rfl)
theorem dX6_lives_10 : decode cX6_lives 10 = .ok (.getfield 12, 3) := dk_180 0 12 (dk_at dksX6_lives_0 10 rfl rfl)
theorem dX6_lives_13 : decode cX6_lives 13 = .ok (.getfield 25, 3) := dk_180 0 25 (dk_at dksX6_lives_0 13 rfl rfl)
theorem dX6_lives_16 : decode cX6_lives 16 = .ok (.if_icmp .ge 7, 3) := dk_162 0 7 (dk_at dksX6_lives_0 16 rfl rfl)
theorem dX6_lives_19 : decode cX6_lives 19 = .ok (.iconst 1, 1) := dk_4 (dk_at dksX6_lives_0 19 rfl rfl)
theorem dX6_lives_20 : decode cX6_lives 20 = .ok (.goto 4, 3) := dk_167 0 4 (dk_at dksX6_lives_0 20 rfl rfl)
theorem dX6_lives_23 : decode cX6_lives 23 = .ok (.iconst 0, 1) := dk_3 (dk_at dksX6_lives_0 23 rfl rfl)
theorem dX6_lives_24 : decode cX6_lives 24 = .ok (.ireturn, 1) := dk_172 (dk_at dksX6_lives_1 0 rfl rfl)
theorem q112 : (Jvm.Cond.initialized "NameRests$Person") ∈ lw_all := lw_g (lw_at lw_m1 10 rfl) rfl
theorem q259 : (Jvm.Cond.fieldLinkNest "NameRests$Person" (25 : Nat) "NameRests$Held" "v" "I" "NameRests") ∈ lw_tbl := lw_at lw_m1 157 rfl
theorem q381 : (Jvm.Cond.instantiable "NameRests$Person" (3 : Nat)) ∈ lw_all := lw_g (lw_at lw_m2 39 rfl) rfl
theorem q383 : (Jvm.Cond.instanceMethod ({ cls := "NameRests$Person", name := "<init>", desc := "(II)V" } : Jvm.MethodName)) ∈ lw_all := lw_g (lw_at lw_m2 41 rfl) rfl
theorem q384 : (Jvm.Cond.code ({ cls := "NameRests$Person", name := "<init>", desc := "(II)V" } : Jvm.MethodName) prog_16_method_1_code (3 : Nat) (Option.none : Option Jvm.ClassFile.FieldType)) ∈ lw_all := lw_g (lw_at lw_m2 42 rfl) rfl
theorem q385 : (Jvm.Cond.methodLink "NameRests$Person" (3 : Nat) ({ cls := "java/lang/Object", name := "<init>", desc := "()V" } : Jvm.MethodName)) ∈ lw_all := lw_g (lw_at lw_m2 43 rfl) rfl
theorem q386 : (Jvm.Cond.classLink "NameRests$Person" (9 : Nat) "NameRests$Held") ∈ lw_all := lw_g (lw_at lw_m2 44 rfl) rfl
theorem q387 : (Jvm.Cond.methodLinkNest "NameRests$Person" (11 : Nat) ({ cls := "NameRests$Held", name := "<init>", desc := "()V" } : Jvm.MethodName) "NameRests") ∈ lw_tbl := lw_at lw_m2 45 rfl
theorem q388 : (Jvm.Cond.fieldLink "NameRests$Person" (22 : Nat) "NameRests$Person" "born" "I") ∈ lw_all := lw_g (lw_at lw_m2 46 rfl) rfl
theorem q390 : (Jvm.Cond.fieldLink "NameRests$Person" (12 : Nat) "NameRests$Person" "dies" "LNameRests$Held;") ∈ lw_all := lw_g (lw_at lw_m2 48 rfl) rfl
theorem q392 : (Jvm.Cond.fieldLink "NameRests$Person" (18 : Nat) "NameRests$Person" "name" "I") ∈ lw_all := lw_g (lw_at lw_m2 50 rfl) rfl
theorem q394 : (Jvm.Cond.laysFinal "NameRests$Person" "NameRests$Person" "born" "I") ∈ lw_all := lw_g (lw_at lw_m2 52 rfl) rfl
theorem q395 : (Jvm.Cond.soleField "NameRests$Person" "born") ∈ lw_all := lw_g (lw_at lw_m2 53 rfl) rfl
theorem q396 : (Jvm.Cond.laysFinal "NameRests$Person" "NameRests$Person" "dies" "LNameRests$Held;") ∈ lw_all := lw_g (lw_at lw_m2 54 rfl) rfl
theorem q397 : (Jvm.Cond.soleField "NameRests$Person" "dies") ∈ lw_all := lw_g (lw_at lw_m2 55 rfl) rfl
theorem q398 : (Jvm.Cond.lays "NameRests$Person" "NameRests$Person" "name" "I") ∈ lw_all := lw_g (lw_at lw_m2 56 rfl) rfl
theorem q399 : (Jvm.Cond.soleField "NameRests$Person" "name") ∈ lw_all := lw_g (lw_at lw_m2 57 rfl) rfl
theorem q400 : (Jvm.Cond.superclass "NameRests$Person" "java/lang/Object") ∈ lw_all := lw_g (lw_at lw_m2 58 rfl) rfl
theorem q445 : (Jvm.Cond.instanceMethod ({ cls := "NameRests$Person", name := "lives", desc := "(I)Z" } : Jvm.MethodName)) ∈ lw_all := lw_g (lw_at lw_m2 103 rfl) rfl
theorem q446 : (Jvm.Cond.selects "NameRests$Person" ({ cls := "NameRests$Person", name := "lives", desc := "(I)Z" } : Jvm.MethodName) ({ cls := "NameRests$Person", name := "lives", desc := "(I)Z" } : Jvm.MethodName)) ∈ lw_all := lw_g (lw_at lw_m2 104 rfl) rfl
theorem q447 : (Jvm.Cond.code ({ cls := "NameRests$Person", name := "lives", desc := "(I)Z" } : Jvm.MethodName) prog_16_method_2_code (2 : Nat) (Option.some Jvm.ClassFile.FieldType.boolean)) ∈ lw_all := lw_g (lw_at lw_m2 105 rfl) rfl
theorem q1849 : (Jvm.Cond.castable "NameRests$Person" "java/lang/Object") ∈ lw_tbl := lw_at lw_m8 67 rfl
theorem in_X6 : ∀ w ∈ wsX60, w ∈ lw_all := lw_in wsX60 [394, 396, 398] (by decide +kernel) (by decide +kernel)

/-! NameRests$Meeting -/
set_option maxRecDepth 100000
def RX7 : String := "NameRests$Meeting"
def TX7 : u_T := fun k => match k with
  | 0 => ("NameRests$Meeting", "a", "I", true)
  | 1 => ("NameRests$Meeting", "b", "I", true)
  | _ => ("NameRests$Meeting", "year", "I", true)
def tyX7 : Nat → FieldType := fun k => match k with
  | 0 => .int
  | 1 => .int
  | _ => .int
abbrev wsX70 : List Cond := u_ws RX7 TX7 3
theorem nmX7 : ∀ a, a < 3 → ∀ b, b < 3 → a ≠ b → (TX7 a).2.1 ≠ (TX7 b).2.1 := by decide +kernel
theorem tyX7_ok : ∀ k, k < 3 → parseFieldDescriptor (TX7 k).2.2.1 = some (tyX7 k) := by decide +kernel
abbrev cX7_init : ByteArray := prog_14_method_1_code
def yX7_init : MethodName := ⟨RX7, "<init>", "(III)V"⟩
def dkwX7_init_0 : List UInt8 := [42, 183, 0, 1, 42, 27, 181, 0, 7, 42, 28, 181, 0, 13, 42, 29, 181, 0, 16, 177]
abbrev dktX7_init_0 : List UInt8 := dkwX7_init_0 ++ []
theorem dksX7_init_0 : cX7_init.data.toList.drop 0 = dktX7_init_0 := by decide +kernel
theorem dX7_init_0 : decode cX7_init 0 = .ok (.aload_n 0, 1) := dk_42 (dk_at dksX7_init_0 0 rfl rfl)
theorem dX7_init_1 : decode cX7_init 1 = .ok (.invokespecial 1, 3) := dk_183 0 1 (dk_at dksX7_init_0 1 rfl rfl)
theorem dX7_init_4 : decode cX7_init 4 = .ok (.aload_n 0, 1) := dk_42 (dk_at dksX7_init_0 4 rfl rfl)
theorem dX7_init_5 : decode cX7_init 5 = .ok (.iload_n 1, 1) := dk_27 (dk_at dksX7_init_0 5 rfl rfl)
theorem dX7_init_6 : decode cX7_init 6 = .ok (.putfield 7, 3) := dk_181 0 7 (dk_at dksX7_init_0 6 rfl rfl)
theorem dX7_init_9 : decode cX7_init 9 = .ok (.aload_n 0, 1) := dk_42 (dk_at dksX7_init_0 9 rfl rfl)
theorem dX7_init_10 : decode cX7_init 10 = .ok (.iload_n 2, 1) := dk_28 (dk_at dksX7_init_0 10 rfl rfl)
theorem dX7_init_11 : decode cX7_init 11 = .ok (.putfield 13, 3) := dk_181 0 13 (dk_at dksX7_init_0 11 rfl rfl)
theorem dX7_init_14 : decode cX7_init 14 = .ok (.aload_n 0, 1) := dk_42 (dk_at dksX7_init_0 14 rfl rfl)
theorem dX7_init_15 : decode cX7_init 15 = .ok (.iload_n 3, 1) := dk_29 (dk_at dksX7_init_0 15 rfl rfl)
theorem dX7_init_16 : decode cX7_init 16 = .ok (.putfield 16, 3) := dk_181 0 16 (dk_at dksX7_init_0 16 rfl rfl)
theorem dX7_init_19 : decode cX7_init 19 = .ok (.return_, 1) := dk_177 (dk_at dksX7_init_0 19 rfl rfl)
theorem q113 : (Jvm.Cond.initialized "NameRests$Meeting") ∈ lw_all := lw_g (lw_at lw_m1 11 rfl) rfl
theorem q448 : (Jvm.Cond.instantiable "NameRests$Meeting" (3 : Nat)) ∈ lw_all := lw_g (lw_at lw_m2 106 rfl) rfl
theorem q450 : (Jvm.Cond.instanceMethod ({ cls := "NameRests$Meeting", name := "<init>", desc := "(III)V" } : Jvm.MethodName)) ∈ lw_all := lw_g (lw_at lw_m2 108 rfl) rfl
theorem q451 : (Jvm.Cond.code ({ cls := "NameRests$Meeting", name := "<init>", desc := "(III)V" } : Jvm.MethodName) prog_14_method_1_code (4 : Nat) (Option.none : Option Jvm.ClassFile.FieldType)) ∈ lw_all := lw_g (lw_at lw_m2 109 rfl) rfl
theorem q452 : (Jvm.Cond.methodLink "NameRests$Meeting" (1 : Nat) ({ cls := "java/lang/Object", name := "<init>", desc := "()V" } : Jvm.MethodName)) ∈ lw_all := lw_g (lw_at lw_m2 110 rfl) rfl
theorem q453 : (Jvm.Cond.fieldLink "NameRests$Meeting" (7 : Nat) "NameRests$Meeting" "a" "I") ∈ lw_all := lw_g (lw_at lw_m2 111 rfl) rfl
theorem q455 : (Jvm.Cond.fieldLink "NameRests$Meeting" (13 : Nat) "NameRests$Meeting" "b" "I") ∈ lw_all := lw_g (lw_at lw_m2 113 rfl) rfl
theorem q457 : (Jvm.Cond.fieldLink "NameRests$Meeting" (16 : Nat) "NameRests$Meeting" "year" "I") ∈ lw_all := lw_g (lw_at lw_m2 115 rfl) rfl
theorem q459 : (Jvm.Cond.laysFinal "NameRests$Meeting" "NameRests$Meeting" "a" "I") ∈ lw_all := lw_g (lw_at lw_m2 117 rfl) rfl
theorem q460 : (Jvm.Cond.soleField "NameRests$Meeting" "a") ∈ lw_all := lw_g (lw_at lw_m2 118 rfl) rfl
theorem q461 : (Jvm.Cond.laysFinal "NameRests$Meeting" "NameRests$Meeting" "b" "I") ∈ lw_all := lw_g (lw_at lw_m2 119 rfl) rfl
theorem q462 : (Jvm.Cond.soleField "NameRests$Meeting" "b") ∈ lw_all := lw_g (lw_at lw_m2 120 rfl) rfl
theorem q463 : (Jvm.Cond.laysFinal "NameRests$Meeting" "NameRests$Meeting" "year" "I") ∈ lw_all := lw_g (lw_at lw_m2 121 rfl) rfl
theorem q464 : (Jvm.Cond.soleField "NameRests$Meeting" "year") ∈ lw_all := lw_g (lw_at lw_m2 122 rfl) rfl
theorem q465 : (Jvm.Cond.superclass "NameRests$Meeting" "java/lang/Object") ∈ lw_all := lw_g (lw_at lw_m2 123 rfl) rfl
theorem q1850 : (Jvm.Cond.castable "NameRests$Meeting" "java/lang/Object") ∈ lw_tbl := lw_at lw_m8 68 rfl
theorem in_X7 : ∀ w ∈ wsX70, w ∈ lw_all := lw_in wsX70 [459, 461, 463] (by decide +kernel) (by decide +kernel)

/-! NameRests$Line -/
set_option maxRecDepth 100000
def RX8 : String := "NameRests$Line"
def TX8 : u_T := fun k => match k with
  | 0 => ("NameRests$Line", "asked", "LNameRests$Term;", false)
  | 1 => ("NameRests$Line", "counts", "LNameRests$Term;", false)
  | _ => ("NameRests$Line", "next", "LNameRests$Line;", false)
def tyX8 : Nat → FieldType := fun k => match k with
  | 0 => .object "NameRests$Term"
  | 1 => .object "NameRests$Term"
  | _ => .object "NameRests$Line"
abbrev wsX80 : List Cond := u_ws RX8 TX8 3
theorem nmX8 : ∀ a, a < 3 → ∀ b, b < 3 → a ≠ b → (TX8 a).2.1 ≠ (TX8 b).2.1 := by decide +kernel
theorem tyX8_ok : ∀ k, k < 3 → parseFieldDescriptor (TX8 k).2.2.1 = some (tyX8 k) := by decide +kernel
abbrev cX8_init : ByteArray := prog_13_method_1_code
def yX8_init : MethodName := ⟨RX8, "<init>", "()V"⟩
theorem dX8_init_0 : decode cX8_init 0 = .ok (.aload_n 0, 1) := by decide +kernel
theorem dX8_init_1 : decode cX8_init 1 = .ok (.invokespecial 1, 3) := by decide +kernel
theorem dX8_init_4 : decode cX8_init 4 = .ok (.return_, 1) := by decide +kernel
theorem q114 : (Jvm.Cond.initialized "NameRests$Line") ∈ lw_all := lw_g (lw_at lw_m1 12 rfl) rfl
theorem q531 : (Jvm.Cond.instantiable "NameRests$Line" (3 : Nat)) ∈ lw_all := lw_g (lw_at lw_m2 189 rfl) rfl
theorem q533 : (Jvm.Cond.instanceMethod ({ cls := "NameRests$Line", name := "<init>", desc := "()V" } : Jvm.MethodName)) ∈ lw_all := lw_g (lw_at lw_m2 191 rfl) rfl
theorem q534 : (Jvm.Cond.code ({ cls := "NameRests$Line", name := "<init>", desc := "()V" } : Jvm.MethodName) prog_13_method_1_code (1 : Nat) (Option.none : Option Jvm.ClassFile.FieldType)) ∈ lw_all := lw_g (lw_at lw_m2 192 rfl) rfl
theorem q535 : (Jvm.Cond.methodLink "NameRests$Line" (1 : Nat) ({ cls := "java/lang/Object", name := "<init>", desc := "()V" } : Jvm.MethodName)) ∈ lw_all := lw_g (lw_at lw_m2 193 rfl) rfl
theorem q539 : (Jvm.Cond.lays "NameRests$Line" "NameRests$Line" "asked" "LNameRests$Term;") ∈ lw_all := lw_g (lw_at lw_m2 197 rfl) rfl
theorem q540 : (Jvm.Cond.soleField "NameRests$Line" "asked") ∈ lw_all := lw_g (lw_at lw_m2 198 rfl) rfl
theorem q541 : (Jvm.Cond.lays "NameRests$Line" "NameRests$Line" "counts" "LNameRests$Term;") ∈ lw_all := lw_g (lw_at lw_m2 199 rfl) rfl
theorem q542 : (Jvm.Cond.soleField "NameRests$Line" "counts") ∈ lw_all := lw_g (lw_at lw_m2 200 rfl) rfl
theorem q543 : (Jvm.Cond.lays "NameRests$Line" "NameRests$Line" "next" "LNameRests$Line;") ∈ lw_all := lw_g (lw_at lw_m2 201 rfl) rfl
theorem q544 : (Jvm.Cond.soleField "NameRests$Line" "next") ∈ lw_all := lw_g (lw_at lw_m2 202 rfl) rfl
theorem q545 : (Jvm.Cond.superclass "NameRests$Line" "java/lang/Object") ∈ lw_all := lw_g (lw_at lw_m2 203 rfl) rfl
theorem q1851 : (Jvm.Cond.castable "NameRests$Line" "java/lang/Object") ∈ lw_tbl := lw_at lw_m8 69 rfl
theorem in_X8 : ∀ w ∈ wsX80, w ∈ lw_all := lw_in wsX80 [539, 541, 543] (by decide +kernel) (by decide +kernel)

/-! NameRests$Term -/
set_option maxRecDepth 100000
def RX9 : String := "NameRests$Term"
abbrev cX9_init : ByteArray := prog_20_method_1_code
def yX9_init : MethodName := ⟨RX9, "<init>", "()V"⟩
theorem dX9_init_0 : decode cX9_init 0 = .ok (.aload_n 0, 1) := by decide +kernel
theorem dX9_init_1 : decode cX9_init 1 = .ok (.invokespecial 1, 3) := by decide +kernel
theorem dX9_init_4 : decode cX9_init 4 = .ok (.return_, 1) := by decide +kernel
theorem q115 : (Jvm.Cond.initialized "NameRests$Term") ∈ lw_all := lw_g (lw_at lw_m1 13 rfl) rfl
theorem q586 : (Jvm.Cond.instanceMethod ({ cls := "NameRests$Term", name := "<init>", desc := "()V" } : Jvm.MethodName)) ∈ lw_all := lw_g (lw_at lw_m3 4 rfl) rfl
theorem q587 : (Jvm.Cond.code ({ cls := "NameRests$Term", name := "<init>", desc := "()V" } : Jvm.MethodName) prog_20_method_1_code (1 : Nat) (Option.none : Option Jvm.ClassFile.FieldType)) ∈ lw_all := lw_g (lw_at lw_m3 5 rfl) rfl
theorem q588 : (Jvm.Cond.methodLink "NameRests$Term" (1 : Nat) ({ cls := "java/lang/Object", name := "<init>", desc := "()V" } : Jvm.MethodName)) ∈ lw_all := lw_g (lw_at lw_m3 6 rfl) rfl
theorem q697 : (Jvm.Cond.declares ({ cls := "NameRests$Term", name := "value", desc := "()I" } : Jvm.MethodName)) ∈ lw_tbl := lw_at lw_m3 115 rfl
theorem q698 : (Jvm.Cond.sameMethod "NameRests$Term" "NameRests$Term" "value" "()I") ∈ lw_all := lw_g (lw_at lw_m3 116 rfl) rfl

/-! NameRests$Figure -/
set_option maxRecDepth 100000
def RX10 : String := "NameRests$Figure"
def TX10 : u_T := fun k => match k with
  | _ => ("NameRests$Figure", "v", "I", true)
def tyX10 : Nat → FieldType := fun k => match k with
  | _ => .int
abbrev wsX100 : List Cond := u_ws RX10 TX10 1
theorem nmX10 : ∀ a, a < 1 → ∀ b, b < 1 → a ≠ b → (TX10 a).2.1 ≠ (TX10 b).2.1 := by decide +kernel
theorem tyX10_ok : ∀ k, k < 1 → parseFieldDescriptor (TX10 k).2.2.1 = some (tyX10 k) := by decide +kernel
abbrev cX10_init : ByteArray := prog_8_method_1_code
def yX10_init : MethodName := ⟨RX10, "<init>", "(I)V"⟩
def dkwX10_init_0 : List UInt8 := [42, 183, 0, 1, 42, 27, 181, 0, 7, 177]
abbrev dktX10_init_0 : List UInt8 := dkwX10_init_0 ++ []
theorem dksX10_init_0 : cX10_init.data.toList.drop 0 = dktX10_init_0 := by decide +kernel
theorem dX10_init_0 : decode cX10_init 0 = .ok (.aload_n 0, 1) := dk_42 (dk_at dksX10_init_0 0 rfl rfl)
theorem dX10_init_1 : decode cX10_init 1 = .ok (.invokespecial 1, 3) := dk_183 0 1 (dk_at dksX10_init_0 1 rfl rfl)
theorem dX10_init_4 : decode cX10_init 4 = .ok (.aload_n 0, 1) := dk_42 (dk_at dksX10_init_0 4 rfl rfl)
theorem dX10_init_5 : decode cX10_init 5 = .ok (.iload_n 1, 1) := dk_27 (dk_at dksX10_init_0 5 rfl rfl)
theorem dX10_init_6 : decode cX10_init 6 = .ok (.putfield 7, 3) := dk_181 0 7 (dk_at dksX10_init_0 6 rfl rfl)
theorem dX10_init_9 : decode cX10_init 9 = .ok (.return_, 1) := dk_177 (dk_at dksX10_init_0 9 rfl rfl)
abbrev cX10_value : ByteArray := prog_8_method_2_code
def yX10_value : MethodName := ⟨RX10, "value", "()I"⟩
theorem dX10_value_0 : decode cX10_value 0 = .ok (.aload_n 0, 1) := by decide +kernel
theorem dX10_value_1 : decode cX10_value 1 = .ok (.getfield 7, 3) := by decide +kernel
theorem dX10_value_4 : decode cX10_value 4 = .ok (.ireturn, 1) := by decide +kernel
theorem q116 : (Jvm.Cond.initialized "NameRests$Figure") ∈ lw_all := lw_g (lw_at lw_m1 14 rfl) rfl
theorem q581 : (Jvm.Cond.instantiable "NameRests$Figure" (1 : Nat)) ∈ lw_all := lw_g (lw_at lw_m2 239 rfl) rfl
theorem q583 : (Jvm.Cond.instanceMethod ({ cls := "NameRests$Figure", name := "<init>", desc := "(I)V" } : Jvm.MethodName)) ∈ lw_all := lw_g (lw_at lw_m3 1 rfl) rfl
theorem q584 : (Jvm.Cond.code ({ cls := "NameRests$Figure", name := "<init>", desc := "(I)V" } : Jvm.MethodName) prog_8_method_1_code (2 : Nat) (Option.none : Option Jvm.ClassFile.FieldType)) ∈ lw_all := lw_g (lw_at lw_m3 2 rfl) rfl
theorem q585 : (Jvm.Cond.methodLinkNest "NameRests$Figure" (1 : Nat) ({ cls := "NameRests$Term", name := "<init>", desc := "()V" } : Jvm.MethodName) "NameRests") ∈ lw_tbl := lw_at lw_m3 3 rfl
theorem q589 : (Jvm.Cond.fieldLink "NameRests$Figure" (7 : Nat) "NameRests$Figure" "v" "I") ∈ lw_all := lw_g (lw_at lw_m3 7 rfl) rfl
theorem q590 : (Jvm.Cond.laysFinal "NameRests$Figure" "NameRests$Figure" "v" "I") ∈ lw_all := lw_g (lw_at lw_m3 8 rfl) rfl
theorem q591 : (Jvm.Cond.soleField "NameRests$Figure" "v") ∈ lw_all := lw_g (lw_at lw_m3 9 rfl) rfl
theorem q592 : (Jvm.Cond.superclass "NameRests$Figure" "NameRests$Term") ∈ lw_all := lw_g (lw_at lw_m3 10 rfl) rfl
theorem q703 : (Jvm.Cond.instanceMethod ({ cls := "NameRests$Figure", name := "value", desc := "()I" } : Jvm.MethodName)) ∈ lw_all := lw_g (lw_at lw_m3 121 rfl) rfl
theorem q704 : (Jvm.Cond.code ({ cls := "NameRests$Figure", name := "value", desc := "()I" } : Jvm.MethodName) prog_8_method_2_code (1 : Nat) (Option.some Jvm.ClassFile.FieldType.int)) ∈ lw_all := lw_g (lw_at lw_m3 122 rfl) rfl
theorem q712 : (Jvm.Cond.selects "NameRests$Figure" ({ cls := "NameRests$Term", name := "value", desc := "()I" } : Jvm.MethodName) ({ cls := "NameRests$Figure", name := "value", desc := "()I" } : Jvm.MethodName)) ∈ lw_all := lw_g (lw_at lw_m3 130 rfl) rfl
theorem q1852 : (Jvm.Cond.castable "NameRests$Figure" "java/lang/Object") ∈ lw_tbl := lw_at lw_m8 70 rfl
theorem in_X10 : ∀ w ∈ wsX100, w ∈ lw_all := lw_in wsX100 [590] (by decide +kernel) (by decide +kernel)

/-! NameRests$Named -/
set_option maxRecDepth 100000
def RX11 : String := "NameRests$Named"
def TX11 : u_T := fun k => match k with
  | 0 => ("NameRests$Named", "name", "I", true)
  | _ => ("NameRests$Named", "this$0", "LNameRests;", true)
def tyX11 : Nat → FieldType := fun k => match k with
  | 0 => .int
  | _ => .object "NameRests"
abbrev wsX110 : List Cond := u_ws RX11 TX11 2
theorem nmX11 : ∀ a, a < 2 → ∀ b, b < 2 → a ≠ b → (TX11 a).2.1 ≠ (TX11 b).2.1 := by decide +kernel
theorem tyX11_ok : ∀ k, k < 2 → parseFieldDescriptor (TX11 k).2.2.1 = some (tyX11 k) := by decide +kernel
abbrev cX11_init : ByteArray := prog_15_method_1_code
def yX11_init : MethodName := ⟨RX11, "<init>", "(LNameRests;I)V"⟩
def dkwX11_init_0 : List UInt8 := [42, 43, 181, 0, 1, 42, 183, 0, 7, 42, 28, 181, 0, 13, 177]
abbrev dktX11_init_0 : List UInt8 := dkwX11_init_0 ++ []
theorem dksX11_init_0 : cX11_init.data.toList.drop 0 = dktX11_init_0 := by decide +kernel
theorem dX11_init_0 : decode cX11_init 0 = .ok (.aload_n 0, 1) := dk_42 (dk_at dksX11_init_0 0 rfl rfl)
theorem dX11_init_1 : decode cX11_init 1 = .ok (.aload_n 1, 1) := dk_43 (dk_at dksX11_init_0 1 rfl rfl)
theorem dX11_init_2 : decode cX11_init 2 = .ok (.putfield 1, 3) := dk_181 0 1 (dk_at dksX11_init_0 2 rfl rfl)
theorem dX11_init_5 : decode cX11_init 5 = .ok (.aload_n 0, 1) := dk_42 (dk_at dksX11_init_0 5 rfl rfl)
theorem dX11_init_6 : decode cX11_init 6 = .ok (.invokespecial 7, 3) := dk_183 0 7 (dk_at dksX11_init_0 6 rfl rfl)
theorem dX11_init_9 : decode cX11_init 9 = .ok (.aload_n 0, 1) := dk_42 (dk_at dksX11_init_0 9 rfl rfl)
theorem dX11_init_10 : decode cX11_init 10 = .ok (.iload_n 2, 1) := dk_28 (dk_at dksX11_init_0 10 rfl rfl)
theorem dX11_init_11 : decode cX11_init 11 = .ok (.putfield 13, 3) := dk_181 0 13 (dk_at dksX11_init_0 11 rfl rfl)
theorem dX11_init_14 : decode cX11_init 14 = .ok (.return_, 1) := dk_177 (dk_at dksX11_init_0 14 rfl rfl)
abbrev cX11_value : ByteArray := prog_15_method_2_code
def yX11_value : MethodName := ⟨RX11, "value", "()I"⟩
def dkwX11_value_0 : List UInt8 := [42, 180, 0, 1, 180, 0, 17, 42, 180, 0, 13, 46, 172]
abbrev dktX11_value_0 : List UInt8 := dkwX11_value_0 ++ []
theorem dksX11_value_0 : cX11_value.data.toList.drop 0 = dktX11_value_0 := by decide +kernel
theorem dX11_value_0 : decode cX11_value 0 = .ok (.aload_n 0, 1) := dk_42 (dk_at dksX11_value_0 0 rfl rfl)
theorem dX11_value_1 : decode cX11_value 1 = .ok (.getfield 1, 3) := dk_180 0 1 (dk_at dksX11_value_0 1 rfl rfl)
theorem dX11_value_4 : decode cX11_value 4 = .ok (.getfield 17, 3) := dk_180 0 17 (dk_at dksX11_value_0 4 rfl rfl)
theorem dX11_value_7 : decode cX11_value 7 = .ok (.aload_n 0, 1) := dk_42 (dk_at dksX11_value_0 7 rfl rfl)
theorem dX11_value_8 : decode cX11_value 8 = .ok (.getfield 13, 3) := dk_180 0 13 (dk_at dksX11_value_0 8 rfl rfl)
theorem dX11_value_11 : decode cX11_value 11 = .ok (.iaload, 1) := dk_46 (dk_at dksX11_value_0 11 rfl rfl)
theorem dX11_value_12 : decode cX11_value 12 = .ok (.ireturn, 1) := dk_172 (dk_at dksX11_value_0 12 rfl rfl)
theorem q117 : (Jvm.Cond.initialized "NameRests$Named") ∈ lw_all := lw_g (lw_at lw_m1 15 rfl) rfl
theorem q281 : (Jvm.Cond.fieldLinkNest "NameRests$Named" (17 : Nat) "NameRests" "names" "[I" "NameRests") ∈ lw_tbl := lw_at lw_m1 179 rfl
theorem q597 : (Jvm.Cond.instantiable "NameRests$Named" (2 : Nat)) ∈ lw_all := lw_g (lw_at lw_m3 15 rfl) rfl
theorem q599 : (Jvm.Cond.instanceMethod ({ cls := "NameRests$Named", name := "<init>", desc := "(LNameRests;I)V" } : Jvm.MethodName)) ∈ lw_all := lw_g (lw_at lw_m3 17 rfl) rfl
theorem q600 : (Jvm.Cond.code ({ cls := "NameRests$Named", name := "<init>", desc := "(LNameRests;I)V" } : Jvm.MethodName) prog_15_method_1_code (3 : Nat) (Option.none : Option Jvm.ClassFile.FieldType)) ∈ lw_all := lw_g (lw_at lw_m3 18 rfl) rfl
theorem q601 : (Jvm.Cond.methodLinkNest "NameRests$Named" (7 : Nat) ({ cls := "NameRests$Term", name := "<init>", desc := "()V" } : Jvm.MethodName) "NameRests") ∈ lw_tbl := lw_at lw_m3 19 rfl
theorem q602 : (Jvm.Cond.fieldLink "NameRests$Named" (13 : Nat) "NameRests$Named" "name" "I") ∈ lw_all := lw_g (lw_at lw_m3 20 rfl) rfl
theorem q603 : (Jvm.Cond.fieldLink "NameRests$Named" (1 : Nat) "NameRests$Named" "this$0" "LNameRests;") ∈ lw_all := lw_g (lw_at lw_m3 21 rfl) rfl
theorem q604 : (Jvm.Cond.laysFinal "NameRests$Named" "NameRests$Named" "name" "I") ∈ lw_all := lw_g (lw_at lw_m3 22 rfl) rfl
theorem q605 : (Jvm.Cond.soleField "NameRests$Named" "name") ∈ lw_all := lw_g (lw_at lw_m3 23 rfl) rfl
theorem q606 : (Jvm.Cond.laysFinal "NameRests$Named" "NameRests$Named" "this$0" "LNameRests;") ∈ lw_all := lw_g (lw_at lw_m3 24 rfl) rfl
theorem q607 : (Jvm.Cond.soleField "NameRests$Named" "this$0") ∈ lw_all := lw_g (lw_at lw_m3 25 rfl) rfl
theorem q608 : (Jvm.Cond.superclass "NameRests$Named" "NameRests$Term") ∈ lw_all := lw_g (lw_at lw_m3 26 rfl) rfl
theorem q705 : (Jvm.Cond.instanceMethod ({ cls := "NameRests$Named", name := "value", desc := "()I" } : Jvm.MethodName)) ∈ lw_all := lw_g (lw_at lw_m3 123 rfl) rfl
theorem q706 : (Jvm.Cond.code ({ cls := "NameRests$Named", name := "value", desc := "()I" } : Jvm.MethodName) prog_15_method_2_code (1 : Nat) (Option.some Jvm.ClassFile.FieldType.int)) ∈ lw_all := lw_g (lw_at lw_m3 124 rfl) rfl
theorem q713 : (Jvm.Cond.selects "NameRests$Named" ({ cls := "NameRests$Term", name := "value", desc := "()I" } : Jvm.MethodName) ({ cls := "NameRests$Named", name := "value", desc := "()I" } : Jvm.MethodName)) ∈ lw_all := lw_g (lw_at lw_m3 131 rfl) rfl
theorem q1853 : (Jvm.Cond.castable "NameRests$Named" "java/lang/Object") ∈ lw_tbl := lw_at lw_m8 71 rfl
theorem in_X11 : ∀ w ∈ wsX110, w ∈ lw_all := lw_in wsX110 [604, 606] (by decide +kernel) (by decide +kernel)

/-! NameRests$Signed -/
set_option maxRecDepth 100000
def RX12 : String := "NameRests$Signed"
def TX12 : u_T := fun k => match k with
  | 0 => ("NameRests$Signed", "sign", "I", true)
  | _ => ("NameRests$Signed", "of", "LNameRests$Term;", true)
def tyX12 : Nat → FieldType := fun k => match k with
  | 0 => .int
  | _ => .object "NameRests$Term"
abbrev wsX120 : List Cond := u_ws RX12 TX12 2
theorem nmX12 : ∀ a, a < 2 → ∀ b, b < 2 → a ≠ b → (TX12 a).2.1 ≠ (TX12 b).2.1 := by decide +kernel
theorem tyX12_ok : ∀ k, k < 2 → parseFieldDescriptor (TX12 k).2.2.1 = some (tyX12 k) := by decide +kernel
abbrev cX12_init : ByteArray := prog_17_method_1_code
def yX12_init : MethodName := ⟨RX12, "<init>", "(ILNameRests$Term;)V"⟩
def dkwX12_init_0 : List UInt8 := [42, 183, 0, 1, 42, 27, 181, 0, 7, 42, 44, 181, 0, 13, 177]
abbrev dktX12_init_0 : List UInt8 := dkwX12_init_0 ++ []
theorem dksX12_init_0 : cX12_init.data.toList.drop 0 = dktX12_init_0 := by decide +kernel
theorem dX12_init_0 : decode cX12_init 0 = .ok (.aload_n 0, 1) := dk_42 (dk_at dksX12_init_0 0 rfl rfl)
theorem dX12_init_1 : decode cX12_init 1 = .ok (.invokespecial 1, 3) := dk_183 0 1 (dk_at dksX12_init_0 1 rfl rfl)
theorem dX12_init_4 : decode cX12_init 4 = .ok (.aload_n 0, 1) := dk_42 (dk_at dksX12_init_0 4 rfl rfl)
theorem dX12_init_5 : decode cX12_init 5 = .ok (.iload_n 1, 1) := dk_27 (dk_at dksX12_init_0 5 rfl rfl)
theorem dX12_init_6 : decode cX12_init 6 = .ok (.putfield 7, 3) := dk_181 0 7 (dk_at dksX12_init_0 6 rfl rfl)
theorem dX12_init_9 : decode cX12_init 9 = .ok (.aload_n 0, 1) := dk_42 (dk_at dksX12_init_0 9 rfl rfl)
theorem dX12_init_10 : decode cX12_init 10 = .ok (.aload_n 2, 1) := dk_44 (dk_at dksX12_init_0 10 rfl rfl)
theorem dX12_init_11 : decode cX12_init 11 = .ok (.putfield 13, 3) := dk_181 0 13 (dk_at dksX12_init_0 11 rfl rfl)
theorem dX12_init_14 : decode cX12_init 14 = .ok (.return_, 1) := dk_177 (dk_at dksX12_init_0 14 rfl rfl)
abbrev cX12_value : ByteArray := prog_17_method_2_code
def yX12_value : MethodName := ⟨RX12, "value", "()I"⟩
def dkwX12_value_1 : List UInt8 := [184, 0, 21, 167, 0, 11, 42, 180, 0, 13, 182, 0, 17, 116, 172]
abbrev dktX12_value_1 : List UInt8 := dkwX12_value_1 ++ []
def dkwX12_value_0 : List UInt8 := [42, 180, 0, 7, 16, 33, 160, 0, 24, 42, 180, 0, 13, 182, 0, 17, 154, 0, 7, 4, 167, 0, 4, 3]
abbrev dktX12_value_0 : List UInt8 := dkwX12_value_0 ++ dktX12_value_1
theorem dksX12_value_0 : cX12_value.data.toList.drop 0 = dktX12_value_0 := by decide +kernel
theorem dksX12_value_1 : cX12_value.data.toList.drop 24 = dktX12_value_1 := dk_seg dksX12_value_0 24 rfl rfl
theorem dX12_value_0 : decode cX12_value 0 = .ok (.aload_n 0, 1) := dk_42 (dk_at dksX12_value_0 0 rfl rfl)
theorem dX12_value_1 : decode cX12_value 1 = .ok (.getfield 7, 3) := dk_180 0 7 (dk_at dksX12_value_0 1 rfl rfl)
theorem dX12_value_4 : decode cX12_value 4 = .ok (.bipush 33, 2) := dk_16 33 (dk_at dksX12_value_0 4 rfl rfl)
theorem dX12_value_6 : decode cX12_value 6 = .ok (.if_icmp .ne 24, 3) := dk_160 0 24 (dk_at dksX12_value_0 6 rfl rfl)
theorem dX12_value_9 : decode cX12_value 9 = .ok (.aload_n 0, 1) := dk_42 (dk_at dksX12_value_0 9 rfl rfl)
theorem dX12_value_10 : decode cX12_value 10 = .ok (.getfield 13, 3) := dk_180 0 13 (dk_at dksX12_value_0 10 rfl rfl)
theorem dX12_value_13 : decode cX12_value 13 = .ok (.invokevirtual 17, 3) := dk_182 0 17 (dk_at dksX12_value_0 13 rfl rfl)
theorem dX12_value_16 : decode cX12_value 16 = .ok (.ifCond .ne 7, 3) := dk_154 0 7 (dk_at dksX12_value_0 16 rfl rfl)
theorem dX12_value_19 : decode cX12_value 19 = .ok (.iconst 1, 1) := dk_4 (dk_at dksX12_value_0 19 rfl rfl)
theorem dX12_value_20 : decode cX12_value 20 = .ok (.goto 4, 3) := dk_167 0 4 (dk_at dksX12_value_0 20 rfl rfl)
theorem dX12_value_23 : decode cX12_value 23 = .ok (.iconst 0, 1) := dk_3 (dk_at dksX12_value_0 23 rfl rfl)
theorem dX12_value_24 : decode cX12_value 24 = .ok (.invokestatic 21, 3) := dk_184 0 21 (dk_at dksX12_value_1 0 rfl rfl)
theorem dX12_value_27 : decode cX12_value 27 = .ok (.goto 11, 3) := dk_167 0 11 (dk_at dksX12_value_1 3 rfl rfl)
theorem dX12_value_30 : decode cX12_value 30 = .ok (.aload_n 0, 1) := dk_42 (dk_at dksX12_value_1 6 rfl rfl)
theorem dX12_value_31 : decode cX12_value 31 = .ok (.getfield 13, 3) := dk_180 0 13 (dk_at dksX12_value_1 7 rfl rfl)
theorem dX12_value_34 : decode cX12_value 34 = .ok (.invokevirtual 17, 3) := dk_182 0 17 (dk_at dksX12_value_1 10 rfl rfl)
theorem dX12_value_37 : decode cX12_value 37 = .ok (.ineg, 1) := dk_116 (dk_at dksX12_value_1 13 rfl rfl)
theorem dX12_value_38 : decode cX12_value 38 = .ok (.ireturn, 1) := dk_172 (dk_at dksX12_value_1 14 rfl rfl)
theorem q118 : (Jvm.Cond.initialized "NameRests$Signed") ∈ lw_all := lw_g (lw_at lw_m1 16 rfl) rfl
theorem q610 : (Jvm.Cond.instantiable "NameRests$Signed" (2 : Nat)) ∈ lw_all := lw_g (lw_at lw_m3 28 rfl) rfl
theorem q612 : (Jvm.Cond.instanceMethod ({ cls := "NameRests$Signed", name := "<init>", desc := "(ILNameRests$Term;)V" } : Jvm.MethodName)) ∈ lw_all := lw_g (lw_at lw_m3 30 rfl) rfl
theorem q613 : (Jvm.Cond.code ({ cls := "NameRests$Signed", name := "<init>", desc := "(ILNameRests$Term;)V" } : Jvm.MethodName) prog_17_method_1_code (3 : Nat) (Option.none : Option Jvm.ClassFile.FieldType)) ∈ lw_all := lw_g (lw_at lw_m3 31 rfl) rfl
theorem q614 : (Jvm.Cond.methodLinkNest "NameRests$Signed" (1 : Nat) ({ cls := "NameRests$Term", name := "<init>", desc := "()V" } : Jvm.MethodName) "NameRests") ∈ lw_tbl := lw_at lw_m3 32 rfl
theorem q615 : (Jvm.Cond.fieldLink "NameRests$Signed" (7 : Nat) "NameRests$Signed" "sign" "I") ∈ lw_all := lw_g (lw_at lw_m3 33 rfl) rfl
theorem q616 : (Jvm.Cond.fieldLink "NameRests$Signed" (13 : Nat) "NameRests$Signed" "of" "LNameRests$Term;") ∈ lw_all := lw_g (lw_at lw_m3 34 rfl) rfl
theorem q617 : (Jvm.Cond.laysFinal "NameRests$Signed" "NameRests$Signed" "sign" "I") ∈ lw_all := lw_g (lw_at lw_m3 35 rfl) rfl
theorem q618 : (Jvm.Cond.soleField "NameRests$Signed" "sign") ∈ lw_all := lw_g (lw_at lw_m3 36 rfl) rfl
theorem q619 : (Jvm.Cond.laysFinal "NameRests$Signed" "NameRests$Signed" "of" "LNameRests$Term;") ∈ lw_all := lw_g (lw_at lw_m3 37 rfl) rfl
theorem q620 : (Jvm.Cond.soleField "NameRests$Signed" "of") ∈ lw_all := lw_g (lw_at lw_m3 38 rfl) rfl
theorem q621 : (Jvm.Cond.superclass "NameRests$Signed" "NameRests$Term") ∈ lw_all := lw_g (lw_at lw_m3 39 rfl) rfl
theorem q707 : (Jvm.Cond.instanceMethod ({ cls := "NameRests$Signed", name := "value", desc := "()I" } : Jvm.MethodName)) ∈ lw_all := lw_g (lw_at lw_m3 125 rfl) rfl
theorem q708 : (Jvm.Cond.code ({ cls := "NameRests$Signed", name := "value", desc := "()I" } : Jvm.MethodName) prog_17_method_2_code (1 : Nat) (Option.some Jvm.ClassFile.FieldType.int)) ∈ lw_all := lw_g (lw_at lw_m3 126 rfl) rfl
theorem q709 : (Jvm.Cond.methodLink "NameRests$Signed" (17 : Nat) ({ cls := "NameRests$Term", name := "value", desc := "()I" } : Jvm.MethodName)) ∈ lw_all := lw_g (lw_at lw_m3 127 rfl) rfl
theorem q710 : (Jvm.Cond.methodLinkNest "NameRests$Signed" (21 : Nat) ({ cls := "NameRests", name := "bit", desc := "(Z)I" } : Jvm.MethodName) "NameRests") ∈ lw_tbl := lw_at lw_m3 128 rfl
theorem q714 : (Jvm.Cond.selects "NameRests$Signed" ({ cls := "NameRests$Term", name := "value", desc := "()I" } : Jvm.MethodName) ({ cls := "NameRests$Signed", name := "value", desc := "()I" } : Jvm.MethodName)) ∈ lw_all := lw_g (lw_at lw_m3 132 rfl) rfl
theorem q1854 : (Jvm.Cond.castable "NameRests$Signed" "java/lang/Object") ∈ lw_tbl := lw_at lw_m8 72 rfl
theorem in_X12 : ∀ w ∈ wsX120, w ∈ lw_all := lw_in wsX120 [617, 619] (by decide +kernel) (by decide +kernel)

/-! NameRests$Both -/
set_option maxRecDepth 100000
def RX13 : String := "NameRests$Both"
def TX13 : u_T := fun k => match k with
  | 0 => ("NameRests$Both", "sign", "I", true)
  | 1 => ("NameRests$Both", "left", "LNameRests$Term;", true)
  | _ => ("NameRests$Both", "right", "LNameRests$Term;", true)
def tyX13 : Nat → FieldType := fun k => match k with
  | 0 => .int
  | 1 => .object "NameRests$Term"
  | _ => .object "NameRests$Term"
abbrev wsX130 : List Cond := u_ws RX13 TX13 3
theorem nmX13 : ∀ a, a < 3 → ∀ b, b < 3 → a ≠ b → (TX13 a).2.1 ≠ (TX13 b).2.1 := by decide +kernel
theorem tyX13_ok : ∀ k, k < 3 → parseFieldDescriptor (TX13 k).2.2.1 = some (tyX13 k) := by decide +kernel
abbrev cX13_init : ByteArray := prog_5_method_1_code
def yX13_init : MethodName := ⟨RX13, "<init>", "(ILNameRests$Term;LNameRests$Term;)V"⟩
def dkwX13_init_0 : List UInt8 := [42, 183, 0, 1, 42, 27, 181, 0, 7, 42, 44, 181, 0, 13, 42, 45, 181, 0, 17, 177]
abbrev dktX13_init_0 : List UInt8 := dkwX13_init_0 ++ []
theorem dksX13_init_0 : cX13_init.data.toList.drop 0 = dktX13_init_0 := by decide +kernel
theorem dX13_init_0 : decode cX13_init 0 = .ok (.aload_n 0, 1) := dk_42 (dk_at dksX13_init_0 0 rfl rfl)
theorem dX13_init_1 : decode cX13_init 1 = .ok (.invokespecial 1, 3) := dk_183 0 1 (dk_at dksX13_init_0 1 rfl rfl)
theorem dX13_init_4 : decode cX13_init 4 = .ok (.aload_n 0, 1) := dk_42 (dk_at dksX13_init_0 4 rfl rfl)
theorem dX13_init_5 : decode cX13_init 5 = .ok (.iload_n 1, 1) := dk_27 (dk_at dksX13_init_0 5 rfl rfl)
theorem dX13_init_6 : decode cX13_init 6 = .ok (.putfield 7, 3) := dk_181 0 7 (dk_at dksX13_init_0 6 rfl rfl)
theorem dX13_init_9 : decode cX13_init 9 = .ok (.aload_n 0, 1) := dk_42 (dk_at dksX13_init_0 9 rfl rfl)
theorem dX13_init_10 : decode cX13_init 10 = .ok (.aload_n 2, 1) := dk_44 (dk_at dksX13_init_0 10 rfl rfl)
theorem dX13_init_11 : decode cX13_init 11 = .ok (.putfield 13, 3) := dk_181 0 13 (dk_at dksX13_init_0 11 rfl rfl)
theorem dX13_init_14 : decode cX13_init 14 = .ok (.aload_n 0, 1) := dk_42 (dk_at dksX13_init_0 14 rfl rfl)
theorem dX13_init_15 : decode cX13_init 15 = .ok (.aload_n 3, 1) := dk_45 (dk_at dksX13_init_0 15 rfl rfl)
theorem dX13_init_16 : decode cX13_init 16 = .ok (.putfield 17, 3) := dk_181 0 17 (dk_at dksX13_init_0 16 rfl rfl)
theorem dX13_init_19 : decode cX13_init 19 = .ok (.return_, 1) := dk_177 (dk_at dksX13_init_0 19 rfl rfl)
abbrev cX13_value : ByteArray := prog_5_method_2_code
def yX13_value : MethodName := ⟨RX13, "value", "()I"⟩
def dkwX13_value_6 : List UInt8 := [3, 167, 0, 6, 27, 28, 108, 172, 28, 154, 0, 7, 3, 167, 0, 6, 27, 28, 112, 172]
abbrev dktX13_value_6 : List UInt8 := dkwX13_value_6 ++ []
def dkwX13_value_5 : List UInt8 := [167, 0, 4, 3, 184, 0, 24, 172, 27, 28, 96, 172, 27, 28, 100, 172, 27, 28, 104, 172, 28, 154, 0, 7]
abbrev dktX13_value_5 : List UInt8 := dkwX13_value_5 ++ dktX13_value_6
def dkwX13_value_4 : List UInt8 := [184, 0, 24, 172, 27, 28, 160, 0, 7, 4, 167, 0, 4, 3, 184, 0, 24, 172, 27, 28, 164, 0, 7, 4]
abbrev dktX13_value_4 : List UInt8 := dkwX13_value_4 ++ dktX13_value_5
def dkwX13_value_3 : List UInt8 := [153, 0, 7, 4, 167, 0, 4, 3, 184, 0, 24, 172, 27, 28, 162, 0, 7, 4, 167, 0, 4, 3]
abbrev dktX13_value_3 : List UInt8 := dkwX13_value_3 ++ dktX13_value_4
def dkwX13_value_2 : List UInt8 := [27, 154, 0, 7, 28, 153, 0, 7, 4, 167, 0, 4, 3, 184, 0, 24, 172, 27, 153, 0, 11, 28]
abbrev dktX13_value_2 : List UInt8 := dkwX13_value_2 ++ dktX13_value_3
def dkwX13_value_1 : List UInt8 := [171, 0, 0, 0, 0, 0, 0, 184, 0, 0, 0, 9, 0, 0, 0, 38, 0, 0, 0, 101, 0, 0, 0, 42, 0, 0, 0, 168, 0, 0, 0, 43, 0, 0, 0, 160, 0, 0, 0, 45, 0, 0, 0, 164, 0, 0, 0, 47, 0, 0, 0, 172, 0, 0, 0, 60, 0, 0, 0, 118, 0, 0, 0, 61, 0, 0, 0, 132, 0, 0, 0, 62, 0, 0, 0, 146, 0, 0, 0, 124, 0, 0, 0, 84]
abbrev dktX13_value_1 : List UInt8 := dkwX13_value_1 ++ dktX13_value_2
def dkwX13_value_0 : List UInt8 := [42, 180, 0, 13, 182, 0, 20, 60, 42, 180, 0, 17, 182, 0, 20, 61, 42, 180, 0, 7]
abbrev dktX13_value_0 : List UInt8 := dkwX13_value_0 ++ dktX13_value_1
theorem dksX13_value_0 : cX13_value.data.toList.drop 0 = dktX13_value_0 := by decide +kernel
theorem dksX13_value_1 : cX13_value.data.toList.drop 20 = dktX13_value_1 := dk_seg dksX13_value_0 20 rfl rfl
theorem dksX13_value_2 : cX13_value.data.toList.drop 104 = dktX13_value_2 := dk_seg dksX13_value_1 84 rfl rfl
theorem dksX13_value_3 : cX13_value.data.toList.drop 126 = dktX13_value_3 := dk_seg dksX13_value_2 22 rfl rfl
theorem dksX13_value_4 : cX13_value.data.toList.drop 148 = dktX13_value_4 := dk_seg dksX13_value_3 22 rfl rfl
theorem dksX13_value_5 : cX13_value.data.toList.drop 172 = dktX13_value_5 := dk_seg dksX13_value_4 24 rfl rfl
theorem dksX13_value_6 : cX13_value.data.toList.drop 196 = dktX13_value_6 := dk_seg dksX13_value_5 24 rfl rfl
theorem dX13_value_0 : decode cX13_value 0 = .ok (.aload_n 0, 1) := dk_42 (dk_at dksX13_value_0 0 rfl rfl)
theorem dX13_value_1 : decode cX13_value 1 = .ok (.getfield 13, 3) := dk_180 0 13 (dk_at dksX13_value_0 1 rfl rfl)
theorem dX13_value_4 : decode cX13_value 4 = .ok (.invokevirtual 20, 3) := dk_182 0 20 (dk_at dksX13_value_0 4 rfl rfl)
theorem dX13_value_7 : decode cX13_value 7 = .ok (.istore_n 1, 1) := dk_60 (dk_at dksX13_value_0 7 rfl rfl)
theorem dX13_value_8 : decode cX13_value 8 = .ok (.aload_n 0, 1) := dk_42 (dk_at dksX13_value_0 8 rfl rfl)
theorem dX13_value_9 : decode cX13_value 9 = .ok (.getfield 17, 3) := dk_180 0 17 (dk_at dksX13_value_0 9 rfl rfl)
theorem dX13_value_12 : decode cX13_value 12 = .ok (.invokevirtual 20, 3) := dk_182 0 20 (dk_at dksX13_value_0 12 rfl rfl)
theorem dX13_value_15 : decode cX13_value 15 = .ok (.istore_n 2, 1) := dk_61 (dk_at dksX13_value_0 15 rfl rfl)
theorem dX13_value_16 : decode cX13_value 16 = .ok (.aload_n 0, 1) := dk_42 (dk_at dksX13_value_0 16 rfl rfl)
theorem dX13_value_17 : decode cX13_value 17 = .ok (.getfield 7, 3) := dk_180 0 7 (dk_at dksX13_value_0 17 rfl rfl)
theorem dX13_value_20 : decode cX13_value 20 = .ok (.lookupswitch 184 #[(38, 101), (42, 168), (43, 160), (45, 164), (47, 172), (60, 118), (61, 132), (62, 146), (124, 84)], 84) := by decide +kernel
theorem dX13_value_104 : decode cX13_value 104 = .ok (.iload_n 1, 1) := dk_27 (dk_at dksX13_value_2 0 rfl rfl)
theorem dX13_value_105 : decode cX13_value 105 = .ok (.ifCond .ne 7, 3) := dk_154 0 7 (dk_at dksX13_value_2 1 rfl rfl)
theorem dX13_value_108 : decode cX13_value 108 = .ok (.iload_n 2, 1) := dk_28 (dk_at dksX13_value_2 4 rfl rfl)
theorem dX13_value_109 : decode cX13_value 109 = .ok (.ifCond .eq 7, 3) := dk_153 0 7 (dk_at dksX13_value_2 5 rfl rfl)
theorem dX13_value_112 : decode cX13_value 112 = .ok (.iconst 1, 1) := dk_4 (dk_at dksX13_value_2 8 rfl rfl)
theorem dX13_value_113 : decode cX13_value 113 = .ok (.goto 4, 3) := dk_167 0 4 (dk_at dksX13_value_2 9 rfl rfl)
theorem dX13_value_116 : decode cX13_value 116 = .ok (.iconst 0, 1) := dk_3 (dk_at dksX13_value_2 12 rfl rfl)
theorem dX13_value_117 : decode cX13_value 117 = .ok (.invokestatic 24, 3) := dk_184 0 24 (dk_at dksX13_value_2 13 rfl rfl)
theorem dX13_value_120 : decode cX13_value 120 = .ok (.ireturn, 1) := dk_172 (dk_at dksX13_value_2 16 rfl rfl)
theorem dX13_value_121 : decode cX13_value 121 = .ok (.iload_n 1, 1) := dk_27 (dk_at dksX13_value_2 17 rfl rfl)
theorem dX13_value_122 : decode cX13_value 122 = .ok (.ifCond .eq 11, 3) := dk_153 0 11 (dk_at dksX13_value_2 18 rfl rfl)
theorem dX13_value_125 : decode cX13_value 125 = .ok (.iload_n 2, 1) := dk_28 (dk_at dksX13_value_2 21 rfl rfl)
theorem dX13_value_126 : decode cX13_value 126 = .ok (.ifCond .eq 7, 3) := dk_153 0 7 (dk_at dksX13_value_3 0 rfl rfl)
theorem dX13_value_129 : decode cX13_value 129 = .ok (.iconst 1, 1) := dk_4 (dk_at dksX13_value_3 3 rfl rfl)
theorem dX13_value_130 : decode cX13_value 130 = .ok (.goto 4, 3) := dk_167 0 4 (dk_at dksX13_value_3 4 rfl rfl)
theorem dX13_value_133 : decode cX13_value 133 = .ok (.iconst 0, 1) := dk_3 (dk_at dksX13_value_3 7 rfl rfl)
theorem dX13_value_134 : decode cX13_value 134 = .ok (.invokestatic 24, 3) := dk_184 0 24 (dk_at dksX13_value_3 8 rfl rfl)
theorem dX13_value_137 : decode cX13_value 137 = .ok (.ireturn, 1) := dk_172 (dk_at dksX13_value_3 11 rfl rfl)
theorem dX13_value_138 : decode cX13_value 138 = .ok (.iload_n 1, 1) := dk_27 (dk_at dksX13_value_3 12 rfl rfl)
theorem dX13_value_139 : decode cX13_value 139 = .ok (.iload_n 2, 1) := dk_28 (dk_at dksX13_value_3 13 rfl rfl)
theorem dX13_value_140 : decode cX13_value 140 = .ok (.if_icmp .ge 7, 3) := dk_162 0 7 (dk_at dksX13_value_3 14 rfl rfl)
theorem dX13_value_143 : decode cX13_value 143 = .ok (.iconst 1, 1) := dk_4 (dk_at dksX13_value_3 17 rfl rfl)
theorem dX13_value_144 : decode cX13_value 144 = .ok (.goto 4, 3) := dk_167 0 4 (dk_at dksX13_value_3 18 rfl rfl)
theorem dX13_value_147 : decode cX13_value 147 = .ok (.iconst 0, 1) := dk_3 (dk_at dksX13_value_3 21 rfl rfl)
theorem dX13_value_148 : decode cX13_value 148 = .ok (.invokestatic 24, 3) := dk_184 0 24 (dk_at dksX13_value_4 0 rfl rfl)
theorem dX13_value_151 : decode cX13_value 151 = .ok (.ireturn, 1) := dk_172 (dk_at dksX13_value_4 3 rfl rfl)
theorem dX13_value_152 : decode cX13_value 152 = .ok (.iload_n 1, 1) := dk_27 (dk_at dksX13_value_4 4 rfl rfl)
theorem dX13_value_153 : decode cX13_value 153 = .ok (.iload_n 2, 1) := dk_28 (dk_at dksX13_value_4 5 rfl rfl)
theorem dX13_value_154 : decode cX13_value 154 = .ok (.if_icmp .ne 7, 3) := dk_160 0 7 (dk_at dksX13_value_4 6 rfl rfl)
theorem dX13_value_157 : decode cX13_value 157 = .ok (.iconst 1, 1) := dk_4 (dk_at dksX13_value_4 9 rfl rfl)
theorem dX13_value_158 : decode cX13_value 158 = .ok (.goto 4, 3) := dk_167 0 4 (dk_at dksX13_value_4 10 rfl rfl)
theorem dX13_value_161 : decode cX13_value 161 = .ok (.iconst 0, 1) := dk_3 (dk_at dksX13_value_4 13 rfl rfl)
theorem dX13_value_162 : decode cX13_value 162 = .ok (.invokestatic 24, 3) := dk_184 0 24 (dk_at dksX13_value_4 14 rfl rfl)
theorem dX13_value_165 : decode cX13_value 165 = .ok (.ireturn, 1) := dk_172 (dk_at dksX13_value_4 17 rfl rfl)
theorem dX13_value_166 : decode cX13_value 166 = .ok (.iload_n 1, 1) := dk_27 (dk_at dksX13_value_4 18 rfl rfl)
theorem dX13_value_167 : decode cX13_value 167 = .ok (.iload_n 2, 1) := dk_28 (dk_at dksX13_value_4 19 rfl rfl)
theorem dX13_value_168 : decode cX13_value 168 = .ok (.if_icmp .le 7, 3) := dk_164 0 7 (dk_at dksX13_value_4 20 rfl rfl)
theorem dX13_value_171 : decode cX13_value 171 = .ok (.iconst 1, 1) := dk_4 (dk_at dksX13_value_4 23 rfl rfl)
theorem dX13_value_172 : decode cX13_value 172 = .ok (.goto 4, 3) := dk_167 0 4 (dk_at dksX13_value_5 0 rfl rfl)
theorem dX13_value_175 : decode cX13_value 175 = .ok (.iconst 0, 1) := dk_3 (dk_at dksX13_value_5 3 rfl rfl)
theorem dX13_value_176 : decode cX13_value 176 = .ok (.invokestatic 24, 3) := dk_184 0 24 (dk_at dksX13_value_5 4 rfl rfl)
theorem dX13_value_179 : decode cX13_value 179 = .ok (.ireturn, 1) := dk_172 (dk_at dksX13_value_5 7 rfl rfl)
theorem dX13_value_180 : decode cX13_value 180 = .ok (.iload_n 1, 1) := dk_27 (dk_at dksX13_value_5 8 rfl rfl)
theorem dX13_value_181 : decode cX13_value 181 = .ok (.iload_n 2, 1) := dk_28 (dk_at dksX13_value_5 9 rfl rfl)
theorem dX13_value_182 : decode cX13_value 182 = .ok (.iadd, 1) := dk_96 (dk_at dksX13_value_5 10 rfl rfl)
theorem dX13_value_183 : decode cX13_value 183 = .ok (.ireturn, 1) := dk_172 (dk_at dksX13_value_5 11 rfl rfl)
theorem dX13_value_184 : decode cX13_value 184 = .ok (.iload_n 1, 1) := dk_27 (dk_at dksX13_value_5 12 rfl rfl)
theorem dX13_value_185 : decode cX13_value 185 = .ok (.iload_n 2, 1) := dk_28 (dk_at dksX13_value_5 13 rfl rfl)
theorem dX13_value_186 : decode cX13_value 186 = .ok (.isub, 1) := dk_100 (dk_at dksX13_value_5 14 rfl rfl)
theorem dX13_value_187 : decode cX13_value 187 = .ok (.ireturn, 1) := dk_172 (dk_at dksX13_value_5 15 rfl rfl)
theorem dX13_value_188 : decode cX13_value 188 = .ok (.iload_n 1, 1) := dk_27 (dk_at dksX13_value_5 16 rfl rfl)
theorem dX13_value_189 : decode cX13_value 189 = .ok (.iload_n 2, 1) := dk_28 (dk_at dksX13_value_5 17 rfl rfl)
theorem dX13_value_190 : decode cX13_value 190 = .ok (.imul, 1) := dk_104 (dk_at dksX13_value_5 18 rfl rfl)
theorem dX13_value_191 : decode cX13_value 191 = .ok (.ireturn, 1) := dk_172 (dk_at dksX13_value_5 19 rfl rfl)
theorem dX13_value_192 : decode cX13_value 192 = .ok (.iload_n 2, 1) := dk_28 (dk_at dksX13_value_5 20 rfl rfl)
theorem dX13_value_193 : decode cX13_value 193 = .ok (.ifCond .ne 7, 3) := dk_154 0 7 (dk_at dksX13_value_5 21 rfl rfl)
theorem dX13_value_196 : decode cX13_value 196 = .ok (.iconst 0, 1) := dk_3 (dk_at dksX13_value_6 0 rfl rfl)
theorem dX13_value_197 : decode cX13_value 197 = .ok (.goto 6, 3) := dk_167 0 6 (dk_at dksX13_value_6 1 rfl rfl)
theorem dX13_value_200 : decode cX13_value 200 = .ok (.iload_n 1, 1) := dk_27 (dk_at dksX13_value_6 4 rfl rfl)
theorem dX13_value_201 : decode cX13_value 201 = .ok (.iload_n 2, 1) := dk_28 (dk_at dksX13_value_6 5 rfl rfl)
theorem dX13_value_202 : decode cX13_value 202 = .ok (.idiv, 1) := dk_108 (dk_at dksX13_value_6 6 rfl rfl)
theorem dX13_value_203 : decode cX13_value 203 = .ok (.ireturn, 1) := dk_172 (dk_at dksX13_value_6 7 rfl rfl)
theorem dX13_value_204 : decode cX13_value 204 = .ok (.iload_n 2, 1) := dk_28 (dk_at dksX13_value_6 8 rfl rfl)
theorem dX13_value_205 : decode cX13_value 205 = .ok (.ifCond .ne 7, 3) := dk_154 0 7 (dk_at dksX13_value_6 9 rfl rfl)
theorem dX13_value_208 : decode cX13_value 208 = .ok (.iconst 0, 1) := dk_3 (dk_at dksX13_value_6 12 rfl rfl)
theorem dX13_value_209 : decode cX13_value 209 = .ok (.goto 6, 3) := dk_167 0 6 (dk_at dksX13_value_6 13 rfl rfl)
theorem dX13_value_212 : decode cX13_value 212 = .ok (.iload_n 1, 1) := dk_27 (dk_at dksX13_value_6 16 rfl rfl)
theorem dX13_value_213 : decode cX13_value 213 = .ok (.iload_n 2, 1) := dk_28 (dk_at dksX13_value_6 17 rfl rfl)
theorem dX13_value_214 : decode cX13_value 214 = .ok (.irem, 1) := dk_112 (dk_at dksX13_value_6 18 rfl rfl)
theorem dX13_value_215 : decode cX13_value 215 = .ok (.ireturn, 1) := dk_172 (dk_at dksX13_value_6 19 rfl rfl)
theorem q119 : (Jvm.Cond.initialized "NameRests$Both") ∈ lw_all := lw_g (lw_at lw_m1 17 rfl) rfl
theorem q631 : (Jvm.Cond.instantiable "NameRests$Both" (3 : Nat)) ∈ lw_all := lw_g (lw_at lw_m3 49 rfl) rfl
theorem q633 : (Jvm.Cond.instanceMethod ({ cls := "NameRests$Both", name := "<init>", desc := "(ILNameRests$Term;LNameRests$Term;)V" } : Jvm.MethodName)) ∈ lw_all := lw_g (lw_at lw_m3 51 rfl) rfl
theorem q634 : (Jvm.Cond.code ({ cls := "NameRests$Both", name := "<init>", desc := "(ILNameRests$Term;LNameRests$Term;)V" } : Jvm.MethodName) prog_5_method_1_code (4 : Nat) (Option.none : Option Jvm.ClassFile.FieldType)) ∈ lw_all := lw_g (lw_at lw_m3 52 rfl) rfl
theorem q635 : (Jvm.Cond.methodLinkNest "NameRests$Both" (1 : Nat) ({ cls := "NameRests$Term", name := "<init>", desc := "()V" } : Jvm.MethodName) "NameRests") ∈ lw_tbl := lw_at lw_m3 53 rfl
theorem q636 : (Jvm.Cond.fieldLink "NameRests$Both" (7 : Nat) "NameRests$Both" "sign" "I") ∈ lw_all := lw_g (lw_at lw_m3 54 rfl) rfl
theorem q637 : (Jvm.Cond.fieldLink "NameRests$Both" (13 : Nat) "NameRests$Both" "left" "LNameRests$Term;") ∈ lw_all := lw_g (lw_at lw_m3 55 rfl) rfl
theorem q638 : (Jvm.Cond.fieldLink "NameRests$Both" (17 : Nat) "NameRests$Both" "right" "LNameRests$Term;") ∈ lw_all := lw_g (lw_at lw_m3 56 rfl) rfl
theorem q639 : (Jvm.Cond.laysFinal "NameRests$Both" "NameRests$Both" "sign" "I") ∈ lw_all := lw_g (lw_at lw_m3 57 rfl) rfl
theorem q640 : (Jvm.Cond.soleField "NameRests$Both" "sign") ∈ lw_all := lw_g (lw_at lw_m3 58 rfl) rfl
theorem q641 : (Jvm.Cond.laysFinal "NameRests$Both" "NameRests$Both" "left" "LNameRests$Term;") ∈ lw_all := lw_g (lw_at lw_m3 59 rfl) rfl
theorem q642 : (Jvm.Cond.soleField "NameRests$Both" "left") ∈ lw_all := lw_g (lw_at lw_m3 60 rfl) rfl
theorem q643 : (Jvm.Cond.laysFinal "NameRests$Both" "NameRests$Both" "right" "LNameRests$Term;") ∈ lw_all := lw_g (lw_at lw_m3 61 rfl) rfl
theorem q644 : (Jvm.Cond.soleField "NameRests$Both" "right") ∈ lw_all := lw_g (lw_at lw_m3 62 rfl) rfl
theorem q645 : (Jvm.Cond.superclass "NameRests$Both" "NameRests$Term") ∈ lw_all := lw_g (lw_at lw_m3 63 rfl) rfl
theorem q699 : (Jvm.Cond.selects "NameRests$Both" ({ cls := "NameRests$Term", name := "value", desc := "()I" } : Jvm.MethodName) ({ cls := "NameRests$Both", name := "value", desc := "()I" } : Jvm.MethodName)) ∈ lw_all := lw_g (lw_at lw_m3 117 rfl) rfl
theorem q700 : (Jvm.Cond.instanceMethod ({ cls := "NameRests$Both", name := "value", desc := "()I" } : Jvm.MethodName)) ∈ lw_all := lw_g (lw_at lw_m3 118 rfl) rfl
theorem q701 : (Jvm.Cond.code ({ cls := "NameRests$Both", name := "value", desc := "()I" } : Jvm.MethodName) prog_5_method_2_code (3 : Nat) (Option.some Jvm.ClassFile.FieldType.int)) ∈ lw_all := lw_g (lw_at lw_m3 119 rfl) rfl
theorem q702 : (Jvm.Cond.methodLink "NameRests$Both" (20 : Nat) ({ cls := "NameRests$Term", name := "value", desc := "()I" } : Jvm.MethodName)) ∈ lw_all := lw_g (lw_at lw_m3 120 rfl) rfl
theorem q711 : (Jvm.Cond.methodLinkNest "NameRests$Both" (24 : Nat) ({ cls := "NameRests", name := "bit", desc := "(Z)I" } : Jvm.MethodName) "NameRests") ∈ lw_tbl := lw_at lw_m3 129 rfl
theorem q1855 : (Jvm.Cond.castable "NameRests$Both" "java/lang/Object") ∈ lw_tbl := lw_at lw_m8 73 rfl
theorem in_X13 : ∀ w ∈ wsX130, w ∈ lw_all := lw_in wsX130 [639, 641, 643] (by decide +kernel) (by decide +kernel)

/-! NameRests$Body -/
set_option maxRecDepth 100000
def RX14 : String := "NameRests$Body"
def TX14 : u_T := fun k => match k with
  | 0 => ("NameRests$Body", "number", "I", true)
  | _ => ("NameRests$Body", "this$0", "LNameRests;", true)
def tyX14 : Nat → FieldType := fun k => match k with
  | 0 => .int
  | _ => .object "NameRests"
abbrev wsX140 : List Cond := u_ws RX14 TX14 2
theorem nmX14 : ∀ a, a < 2 → ∀ b, b < 2 → a ≠ b → (TX14 a).2.1 ≠ (TX14 b).2.1 := by decide +kernel
theorem tyX14_ok : ∀ k, k < 2 → parseFieldDescriptor (TX14 k).2.2.1 = some (tyX14 k) := by decide +kernel
abbrev cX14_init : ByteArray := prog_4_method_1_code
def yX14_init : MethodName := ⟨RX14, "<init>", "(LNameRests;I)V"⟩
def dkwX14_init_0 : List UInt8 := [42, 43, 181, 0, 3, 42, 183, 0, 9, 42, 28, 181, 0, 15, 177]
abbrev dktX14_init_0 : List UInt8 := dkwX14_init_0 ++ []
theorem dksX14_init_0 : cX14_init.data.toList.drop 0 = dktX14_init_0 := by decide +kernel
theorem dX14_init_0 : decode cX14_init 0 = .ok (.aload_n 0, 1) := dk_42 (dk_at dksX14_init_0 0 rfl rfl)
theorem dX14_init_1 : decode cX14_init 1 = .ok (.aload_n 1, 1) := dk_43 (dk_at dksX14_init_0 1 rfl rfl)
theorem dX14_init_2 : decode cX14_init 2 = .ok (.putfield 3, 3) := dk_181 0 3 (dk_at dksX14_init_0 2 rfl rfl)
theorem dX14_init_5 : decode cX14_init 5 = .ok (.aload_n 0, 1) := dk_42 (dk_at dksX14_init_0 5 rfl rfl)
theorem dX14_init_6 : decode cX14_init 6 = .ok (.invokespecial 9, 3) := dk_183 0 9 (dk_at dksX14_init_0 6 rfl rfl)
theorem dX14_init_9 : decode cX14_init 9 = .ok (.aload_n 0, 1) := dk_42 (dk_at dksX14_init_0 9 rfl rfl)
theorem dX14_init_10 : decode cX14_init 10 = .ok (.iload_n 2, 1) := dk_28 (dk_at dksX14_init_0 10 rfl rfl)
theorem dX14_init_11 : decode cX14_init 11 = .ok (.putfield 15, 3) := dk_181 0 15 (dk_at dksX14_init_0 11 rfl rfl)
theorem dX14_init_14 : decode cX14_init 14 = .ok (.return_, 1) := dk_177 (dk_at dksX14_init_0 14 rfl rfl)
abbrev cX14_begins : ByteArray := prog_4_method_5_code
def yX14_begins : MethodName := ⟨RX14, "begins", "(I)V"⟩
def dkwX14_begins_1 : List UInt8 := [180, 0, 19, 27, 79, 42, 180, 0, 3, 89, 180, 0, 19, 4, 96, 181, 0, 19, 177]
abbrev dktX14_begins_1 : List UInt8 := dkwX14_begins_1 ++ []
def dkwX14_begins_0 : List UInt8 := [42, 180, 0, 3, 180, 0, 19, 16, 24, 162, 0, 19, 42, 180, 0, 3, 180, 0, 22, 42, 180, 0, 3]
abbrev dktX14_begins_0 : List UInt8 := dkwX14_begins_0 ++ dktX14_begins_1
theorem dksX14_begins_0 : cX14_begins.data.toList.drop 0 = dktX14_begins_0 := by decide +kernel
theorem dksX14_begins_1 : cX14_begins.data.toList.drop 23 = dktX14_begins_1 := dk_seg dksX14_begins_0 23 rfl rfl
theorem dX14_begins_0 : decode cX14_begins 0 = .ok (.aload_n 0, 1) := dk_42 (dk_at dksX14_begins_0 0 rfl rfl)
theorem dX14_begins_1 : decode cX14_begins 1 = .ok (.getfield 3, 3) := dk_180 0 3 (dk_at dksX14_begins_0 1 rfl rfl)
theorem dX14_begins_4 : decode cX14_begins 4 = .ok (.getfield 19, 3) := dk_180 0 19 (dk_at dksX14_begins_0 4 rfl rfl)
theorem dX14_begins_7 : decode cX14_begins 7 = .ok (.bipush 24, 2) := dk_16 24 (dk_at dksX14_begins_0 7 rfl rfl)
theorem dX14_begins_9 : decode cX14_begins 9 = .ok (.if_icmp .ge 19, 3) := dk_162 0 19 (dk_at dksX14_begins_0 9 rfl rfl)
theorem dX14_begins_12 : decode cX14_begins 12 = .ok (.aload_n 0, 1) := dk_42 (dk_at dksX14_begins_0 12 rfl rfl)
theorem dX14_begins_13 : decode cX14_begins 13 = .ok (.getfield 3, 3) := dk_180 0 3 (dk_at dksX14_begins_0 13 rfl rfl)
theorem dX14_begins_16 : decode cX14_begins 16 = .ok (.getfield 22, 3) := dk_180 0 22 (dk_at dksX14_begins_0 16 rfl rfl)
theorem dX14_begins_19 : decode cX14_begins 19 = .ok (.aload_n 0, 1) := dk_42 (dk_at dksX14_begins_0 19 rfl rfl)
theorem dX14_begins_20 : decode cX14_begins 20 = .ok (.getfield 3, 3) := dk_180 0 3 (dk_at dksX14_begins_0 20 rfl rfl)
theorem dX14_begins_23 : decode cX14_begins 23 = .ok (.getfield 19, 3) := dk_180 0 19 (dk_at dksX14_begins_1 0 rfl rfl)
theorem dX14_begins_26 : decode cX14_begins 26 = .ok (.iload_n 1, 1) := dk_27 (dk_at dksX14_begins_1 3 rfl rfl)
theorem dX14_begins_27 : decode cX14_begins 27 = .ok (.iastore, 1) := dk_79 (dk_at dksX14_begins_1 4 rfl rfl)
theorem dX14_begins_28 : decode cX14_begins 28 = .ok (.aload_n 0, 1) := dk_42 (dk_at dksX14_begins_1 5 rfl rfl)
theorem dX14_begins_29 : decode cX14_begins 29 = .ok (.getfield 3, 3) := dk_180 0 3 (dk_at dksX14_begins_1 6 rfl rfl)
theorem dX14_begins_32 : decode cX14_begins 32 = .ok (.dup, 1) := dk_89 (dk_at dksX14_begins_1 9 rfl rfl)
theorem dX14_begins_33 : decode cX14_begins 33 = .ok (.getfield 19, 3) := dk_180 0 19 (dk_at dksX14_begins_1 10 rfl rfl)
theorem dX14_begins_36 : decode cX14_begins 36 = .ok (.iconst 1, 1) := dk_4 (dk_at dksX14_begins_1 13 rfl rfl)
theorem dX14_begins_37 : decode cX14_begins 37 = .ok (.iadd, 1) := dk_96 (dk_at dksX14_begins_1 14 rfl rfl)
theorem dX14_begins_38 : decode cX14_begins 38 = .ok (.putfield 19, 3) := dk_181 0 19 (dk_at dksX14_begins_1 15 rfl rfl)
theorem dX14_begins_41 : decode cX14_begins 41 = .ok (.return_, 1) := dk_177 (dk_at dksX14_begins_1 18 rfl rfl)
abbrev cX14_number : ByteArray := prog_4_method_4_code
def yX14_number : MethodName := ⟨RX14, "number", "()I"⟩
theorem dX14_number_0 : decode cX14_number 0 = .ok (.aload_n 0, 1) := by decide +kernel
theorem dX14_number_1 : decode cX14_number 1 = .ok (.getfield 15, 3) := by decide +kernel
theorem dX14_number_4 : decode cX14_number 4 = .ok (.ireturn, 1) := by decide +kernel
abbrev cX14_knows : ByteArray := prog_4_method_7_code
def yX14_knows : MethodName := ⟨RX14, "knows", "(I)I"⟩
def dkwX14_knows_0 : List UInt8 := [42, 16, 11, 182, 0, 26, 27, 42, 180, 0, 15, 130, 172]
abbrev dktX14_knows_0 : List UInt8 := dkwX14_knows_0 ++ []
theorem dksX14_knows_0 : cX14_knows.data.toList.drop 0 = dktX14_knows_0 := by decide +kernel
theorem dX14_knows_0 : decode cX14_knows 0 = .ok (.aload_n 0, 1) := dk_42 (dk_at dksX14_knows_0 0 rfl rfl)
theorem dX14_knows_1 : decode cX14_knows 1 = .ok (.bipush 11, 2) := dk_16 11 (dk_at dksX14_knows_0 1 rfl rfl)
theorem dX14_knows_3 : decode cX14_knows 3 = .ok (.invokevirtual 26, 3) := dk_182 0 26 (dk_at dksX14_knows_0 3 rfl rfl)
theorem dX14_knows_6 : decode cX14_knows 6 = .ok (.iload_n 1, 1) := dk_27 (dk_at dksX14_knows_0 6 rfl rfl)
theorem dX14_knows_7 : decode cX14_knows 7 = .ok (.aload_n 0, 1) := dk_42 (dk_at dksX14_knows_0 7 rfl rfl)
theorem dX14_knows_8 : decode cX14_knows 8 = .ok (.getfield 15, 3) := dk_180 0 15 (dk_at dksX14_knows_0 8 rfl rfl)
theorem dX14_knows_11 : decode cX14_knows 11 = .ok (.ixor, 1) := dk_130 (dk_at dksX14_knows_0 11 rfl rfl)
theorem dX14_knows_12 : decode cX14_knows 12 = .ok (.ireturn, 1) := dk_172 (dk_at dksX14_knows_0 12 rfl rfl)
abbrev cX14_holds : ByteArray := prog_4_method_6_code
def yX14_holds : MethodName := ⟨RX14, "holds", "(I)I"⟩
def dkwX14_holds_0 : List UInt8 := [42, 16, 10, 182, 0, 26, 42, 27, 182, 0, 30, 5, 104, 172]
abbrev dktX14_holds_0 : List UInt8 := dkwX14_holds_0 ++ []
theorem dksX14_holds_0 : cX14_holds.data.toList.drop 0 = dktX14_holds_0 := by decide +kernel
theorem dX14_holds_0 : decode cX14_holds 0 = .ok (.aload_n 0, 1) := dk_42 (dk_at dksX14_holds_0 0 rfl rfl)
theorem dX14_holds_1 : decode cX14_holds 1 = .ok (.bipush 10, 2) := dk_16 10 (dk_at dksX14_holds_0 1 rfl rfl)
theorem dX14_holds_3 : decode cX14_holds 3 = .ok (.invokevirtual 26, 3) := dk_182 0 26 (dk_at dksX14_holds_0 3 rfl rfl)
theorem dX14_holds_6 : decode cX14_holds 6 = .ok (.aload_n 0, 1) := dk_42 (dk_at dksX14_holds_0 6 rfl rfl)
theorem dX14_holds_7 : decode cX14_holds 7 = .ok (.iload_n 1, 1) := dk_27 (dk_at dksX14_holds_0 7 rfl rfl)
theorem dX14_holds_8 : decode cX14_holds 8 = .ok (.invokevirtual 30, 3) := dk_182 0 30 (dk_at dksX14_holds_0 8 rfl rfl)
theorem dX14_holds_11 : decode cX14_holds 11 = .ok (.iconst 2, 1) := dk_5 (dk_at dksX14_holds_0 11 rfl rfl)
theorem dX14_holds_12 : decode cX14_holds 12 = .ok (.imul, 1) := dk_104 (dk_at dksX14_holds_0 12 rfl rfl)
theorem dX14_holds_13 : decode cX14_holds 13 = .ok (.ireturn, 1) := dk_172 (dk_at dksX14_holds_0 13 rfl rfl)
abbrev cX14_isUnder : ByteArray := prog_4_method_3_code
def yX14_isUnder : MethodName := ⟨RX14, "isUnder", "(I)Z"⟩
def dkwX14_isUnder_0 : List UInt8 := [27, 154, 0, 7, 4, 167, 0, 4, 3, 172]
abbrev dktX14_isUnder_0 : List UInt8 := dkwX14_isUnder_0 ++ []
theorem dksX14_isUnder_0 : cX14_isUnder.data.toList.drop 0 = dktX14_isUnder_0 := by decide +kernel
theorem dX14_isUnder_0 : decode cX14_isUnder 0 = .ok (.iload_n 1, 1) := dk_27 (dk_at dksX14_isUnder_0 0 rfl rfl)
theorem dX14_isUnder_1 : decode cX14_isUnder 1 = .ok (.ifCond .ne 7, 3) := dk_154 0 7 (dk_at dksX14_isUnder_0 1 rfl rfl)
theorem dX14_isUnder_4 : decode cX14_isUnder 4 = .ok (.iconst 1, 1) := dk_4 (dk_at dksX14_isUnder_0 4 rfl rfl)
theorem dX14_isUnder_5 : decode cX14_isUnder 5 = .ok (.goto 4, 3) := dk_167 0 4 (dk_at dksX14_isUnder_0 5 rfl rfl)
theorem dX14_isUnder_8 : decode cX14_isUnder 8 = .ok (.iconst 0, 1) := dk_3 (dk_at dksX14_isUnder_0 8 rfl rfl)
theorem dX14_isUnder_9 : decode cX14_isUnder 9 = .ok (.ireturn, 1) := dk_172 (dk_at dksX14_isUnder_0 9 rfl rfl)
abbrev cX14_kind : ByteArray := prog_4_method_2_code
def yX14_kind : MethodName := ⟨RX14, "kind", "()I"⟩
theorem dX14_kind_0 : decode cX14_kind 0 = .ok (.iconst 0, 1) := by decide +kernel
theorem dX14_kind_1 : decode cX14_kind 1 = .ok (.ireturn, 1) := by decide +kernel
theorem q121 : (Jvm.Cond.initialized "NameRests$Body") ∈ lw_all := lw_g (lw_at lw_m1 19 rfl) rfl
theorem q293 : (Jvm.Cond.fieldLinkNest "NameRests$Body" (22 : Nat) "NameRests" "trace" "[I" "NameRests") ∈ lw_tbl := lw_at lw_m1 191 rfl
theorem q295 : (Jvm.Cond.fieldLinkNest "NameRests$Body" (19 : Nat) "NameRests" "ran" "I" "NameRests") ∈ lw_tbl := lw_at lw_m1 193 rfl
theorem q821 : (Jvm.Cond.instanceMethod ({ cls := "NameRests$Body", name := "<init>", desc := "(LNameRests;I)V" } : Jvm.MethodName)) ∈ lw_all := lw_g (lw_at lw_m3 239 rfl) rfl
theorem q822 : (Jvm.Cond.code ({ cls := "NameRests$Body", name := "<init>", desc := "(LNameRests;I)V" } : Jvm.MethodName) prog_4_method_1_code (3 : Nat) (Option.none : Option Jvm.ClassFile.FieldType)) ∈ lw_all := lw_g (lw_at lw_m4 0 rfl) rfl
theorem q823 : (Jvm.Cond.methodLink "NameRests$Body" (9 : Nat) ({ cls := "java/lang/Object", name := "<init>", desc := "()V" } : Jvm.MethodName)) ∈ lw_all := lw_g (lw_at lw_m4 1 rfl) rfl
theorem q825 : (Jvm.Cond.fieldLink "NameRests$Body" (15 : Nat) "NameRests$Body" "number" "I") ∈ lw_all := lw_g (lw_at lw_m4 3 rfl) rfl
theorem q826 : (Jvm.Cond.fieldLink "NameRests$Body" (3 : Nat) "NameRests$Body" "this$0" "LNameRests;") ∈ lw_all := lw_g (lw_at lw_m4 4 rfl) rfl
theorem q830 : (Jvm.Cond.soleField "NameRests$Body" "number") ∈ lw_all := lw_g (lw_at lw_m4 8 rfl) rfl
theorem q832 : (Jvm.Cond.soleField "NameRests$Body" "this$0") ∈ lw_all := lw_g (lw_at lw_m4 10 rfl) rfl
theorem q911 : (Jvm.Cond.instantiable "NameRests$Body" (2 : Nat)) ∈ lw_all := lw_g (lw_at lw_m4 89 rfl) rfl
theorem q913 : (Jvm.Cond.laysFinal "NameRests$Body" "NameRests$Body" "number" "I") ∈ lw_all := lw_g (lw_at lw_m4 91 rfl) rfl
theorem q914 : (Jvm.Cond.laysFinal "NameRests$Body" "NameRests$Body" "this$0" "LNameRests;") ∈ lw_all := lw_g (lw_at lw_m4 92 rfl) rfl
theorem q915 : (Jvm.Cond.superclass "NameRests$Body" "java/lang/Object") ∈ lw_all := lw_g (lw_at lw_m4 93 rfl) rfl
theorem q931 : (Jvm.Cond.declares ({ cls := "NameRests$Body", name := "begins", desc := "(I)V" } : Jvm.MethodName)) ∈ lw_tbl := lw_at lw_m4 109 rfl
theorem q934 : (Jvm.Cond.instanceMethod ({ cls := "NameRests$Body", name := "begins", desc := "(I)V" } : Jvm.MethodName)) ∈ lw_all := lw_g (lw_at lw_m4 112 rfl) rfl
theorem q935 : (Jvm.Cond.code ({ cls := "NameRests$Body", name := "begins", desc := "(I)V" } : Jvm.MethodName) prog_4_method_5_code (2 : Nat) (Option.none : Option Jvm.ClassFile.FieldType)) ∈ lw_all := lw_g (lw_at lw_m4 113 rfl) rfl
theorem q945 : (Jvm.Cond.publicMethod ({ cls := "NameRests$Body", name := "begins", desc := "(I)V" } : Jvm.MethodName)) ∈ lw_tbl := lw_at lw_m4 123 rfl
theorem q949 : (Jvm.Cond.castable "NameRests$Body" "NameRests$Gives") ∈ lw_tbl := lw_at lw_m4 127 rfl
theorem q950 : (Jvm.Cond.selects "NameRests$Body" ({ cls := "NameRests$Gives", name := "begins", desc := "(I)V" } : Jvm.MethodName) ({ cls := "NameRests$Body", name := "begins", desc := "(I)V" } : Jvm.MethodName)) ∈ lw_all := lw_g (lw_at lw_m4 128 rfl) rfl
theorem q951 : (Jvm.Cond.unhidden "NameRests$Body" "begins" "(I)V") ∈ lw_tbl := lw_at lw_m4 129 rfl
theorem q973 : (Jvm.Cond.instanceMethod ({ cls := "NameRests$Body", name := "number", desc := "()I" } : Jvm.MethodName)) ∈ lw_all := lw_g (lw_at lw_m4 151 rfl) rfl
theorem q974 : (Jvm.Cond.publicMethod ({ cls := "NameRests$Body", name := "number", desc := "()I" } : Jvm.MethodName)) ∈ lw_tbl := lw_at lw_m4 152 rfl
theorem q975 : (Jvm.Cond.code ({ cls := "NameRests$Body", name := "number", desc := "()I" } : Jvm.MethodName) prog_4_method_4_code (1 : Nat) (Option.some Jvm.ClassFile.FieldType.int)) ∈ lw_all := lw_g (lw_at lw_m4 153 rfl) rfl
theorem q978 : (Jvm.Cond.selects "NameRests$Body" ({ cls := "NameRests$Gives", name := "number", desc := "()I" } : Jvm.MethodName) ({ cls := "NameRests$Body", name := "number", desc := "()I" } : Jvm.MethodName)) ∈ lw_all := lw_g (lw_at lw_m4 156 rfl) rfl
theorem q979 : (Jvm.Cond.unhidden "NameRests$Body" "number" "()I") ∈ lw_tbl := lw_at lw_m4 157 rfl
theorem q990 : (Jvm.Cond.unhidden "NameRests$Body" "gives" "(I)I") ∈ lw_tbl := lw_at lw_m4 168 rfl
theorem q1010 : (Jvm.Cond.instanceMethod ({ cls := "NameRests$Body", name := "holds", desc := "(I)I" } : Jvm.MethodName)) ∈ lw_all := lw_g (lw_at lw_m4 188 rfl) rfl
theorem q1011 : (Jvm.Cond.selects "NameRests$Body" ({ cls := "NameRests$Body", name := "holds", desc := "(I)I" } : Jvm.MethodName) ({ cls := "NameRests$Body", name := "holds", desc := "(I)I" } : Jvm.MethodName)) ∈ lw_all := lw_g (lw_at lw_m4 189 rfl) rfl
theorem q1012 : (Jvm.Cond.sameMethod "NameRests$Body" "NameRests$Body" "holds" "(I)I") ∈ lw_all := lw_g (lw_at lw_m4 190 rfl) rfl
theorem q1036 : (Jvm.Cond.declares ({ cls := "NameRests$Body", name := "holds", desc := "(I)I" } : Jvm.MethodName)) ∈ lw_tbl := lw_at lw_m4 214 rfl
theorem q1039 : (Jvm.Cond.declares ({ cls := "NameRests$Body", name := "knows", desc := "(I)I" } : Jvm.MethodName)) ∈ lw_tbl := lw_at lw_m4 217 rfl
theorem q1041 : (Jvm.Cond.instanceMethod ({ cls := "NameRests$Body", name := "knows", desc := "(I)I" } : Jvm.MethodName)) ∈ lw_all := lw_g (lw_at lw_m4 219 rfl) rfl
theorem q1042 : (Jvm.Cond.code ({ cls := "NameRests$Body", name := "knows", desc := "(I)I" } : Jvm.MethodName) prog_4_method_7_code (2 : Nat) (Option.some Jvm.ClassFile.FieldType.int)) ∈ lw_all := lw_g (lw_at lw_m4 220 rfl) rfl
theorem q1043 : (Jvm.Cond.methodLink "NameRests$Body" (26 : Nat) ({ cls := "NameRests$Body", name := "begins", desc := "(I)V" } : Jvm.MethodName)) ∈ lw_all := lw_g (lw_at lw_m4 221 rfl) rfl
theorem q1047 : (Jvm.Cond.code ({ cls := "NameRests$Body", name := "holds", desc := "(I)I" } : Jvm.MethodName) prog_4_method_6_code (2 : Nat) (Option.some Jvm.ClassFile.FieldType.int)) ∈ lw_all := lw_g (lw_at lw_m4 225 rfl) rfl
theorem q1073 : (Jvm.Cond.castable "NameRests$Body" "NameRests$Tells") ∈ lw_tbl := lw_at lw_m5 11 rfl
theorem q1074 : (Jvm.Cond.selects "NameRests$Body" ({ cls := "NameRests$Tells", name := "begins", desc := "(I)V" } : Jvm.MethodName) ({ cls := "NameRests$Body", name := "begins", desc := "(I)V" } : Jvm.MethodName)) ∈ lw_all := lw_g (lw_at lw_m5 12 rfl) rfl
theorem q1094 : (Jvm.Cond.publicMethod ({ cls := "NameRests$Body", name := "holds", desc := "(I)I" } : Jvm.MethodName)) ∈ lw_tbl := lw_at lw_m5 32 rfl
theorem q1095 : (Jvm.Cond.selects "NameRests$Body" ({ cls := "NameRests$Tells", name := "holds", desc := "(I)I" } : Jvm.MethodName) ({ cls := "NameRests$Body", name := "holds", desc := "(I)I" } : Jvm.MethodName)) ∈ lw_all := lw_g (lw_at lw_m5 33 rfl) rfl
theorem q1096 : (Jvm.Cond.unhidden "NameRests$Body" "holds" "(I)I") ∈ lw_tbl := lw_at lw_m5 34 rfl
theorem q1118 : (Jvm.Cond.publicMethod ({ cls := "NameRests$Body", name := "knows", desc := "(I)I" } : Jvm.MethodName)) ∈ lw_tbl := lw_at lw_m5 56 rfl
theorem q1119 : (Jvm.Cond.selects "NameRests$Body" ({ cls := "NameRests$Tells", name := "knows", desc := "(I)I" } : Jvm.MethodName) ({ cls := "NameRests$Body", name := "knows", desc := "(I)I" } : Jvm.MethodName)) ∈ lw_all := lw_g (lw_at lw_m5 57 rfl) rfl
theorem q1120 : (Jvm.Cond.unhidden "NameRests$Body" "knows" "(I)I") ∈ lw_tbl := lw_at lw_m5 58 rfl
theorem q1138 : (Jvm.Cond.unhidden "NameRests$Body" "tells" "(I)I") ∈ lw_tbl := lw_at lw_m5 76 rfl
theorem q1193 : (Jvm.Cond.instanceMethod ({ cls := "NameRests$Body", name := "isUnder", desc := "(I)Z" } : Jvm.MethodName)) ∈ lw_all := lw_g (lw_at lw_m5 131 rfl) rfl
theorem q1194 : (Jvm.Cond.selects "NameRests$Body" ({ cls := "NameRests$Body", name := "isUnder", desc := "(I)Z" } : Jvm.MethodName) ({ cls := "NameRests$Body", name := "isUnder", desc := "(I)Z" } : Jvm.MethodName)) ∈ lw_all := lw_g (lw_at lw_m5 132 rfl) rfl
theorem q1195 : (Jvm.Cond.sameMethod "NameRests$Body" "NameRests$Body" "isUnder" "(I)Z") ∈ lw_all := lw_g (lw_at lw_m5 133 rfl) rfl
theorem q1224 : (Jvm.Cond.code ({ cls := "NameRests$Body", name := "isUnder", desc := "(I)Z" } : Jvm.MethodName) prog_4_method_3_code (2 : Nat) (Option.some Jvm.ClassFile.FieldType.boolean)) ∈ lw_all := lw_g (lw_at lw_m5 162 rfl) rfl
theorem q1226 : (Jvm.Cond.instanceMethod ({ cls := "NameRests$Body", name := "kind", desc := "()I" } : Jvm.MethodName)) ∈ lw_all := lw_g (lw_at lw_m5 164 rfl) rfl
theorem q1227 : (Jvm.Cond.selects "NameRests$Body" ({ cls := "NameRests$Body", name := "kind", desc := "()I" } : Jvm.MethodName) ({ cls := "NameRests$Body", name := "kind", desc := "()I" } : Jvm.MethodName)) ∈ lw_all := lw_g (lw_at lw_m5 165 rfl) rfl
theorem q1228 : (Jvm.Cond.sameMethod "NameRests$Body" "NameRests$Body" "kind" "()I") ∈ lw_all := lw_g (lw_at lw_m5 166 rfl) rfl
theorem q1250 : (Jvm.Cond.code ({ cls := "NameRests$Body", name := "kind", desc := "()I" } : Jvm.MethodName) prog_4_method_2_code (1 : Nat) (Option.some Jvm.ClassFile.FieldType.int)) ∈ lw_all := lw_g (lw_at lw_m5 188 rfl) rfl
theorem q1813 : (Jvm.Cond.sameMethod "NameRests$Body" "NameRests$Body" "begins" "(I)V") ∈ lw_all := lw_g (lw_at lw_m8 31 rfl) rfl
theorem q1816 : (Jvm.Cond.selects "NameRests$Body" ({ cls := "NameRests$Body", name := "begins", desc := "(I)V" } : Jvm.MethodName) ({ cls := "NameRests$Body", name := "begins", desc := "(I)V" } : Jvm.MethodName)) ∈ lw_all := lw_g (lw_at lw_m8 34 rfl) rfl
theorem q1822 : (Jvm.Cond.sameMethod "NameRests$Body" "NameRests$Body" "knows" "(I)I") ∈ lw_all := lw_g (lw_at lw_m8 40 rfl) rfl
theorem q1826 : (Jvm.Cond.selects "NameRests$Body" ({ cls := "NameRests$Body", name := "knows", desc := "(I)I" } : Jvm.MethodName) ({ cls := "NameRests$Body", name := "knows", desc := "(I)I" } : Jvm.MethodName)) ∈ lw_all := lw_g (lw_at lw_m8 44 rfl) rfl
theorem q1863 : (Jvm.Cond.castable "NameRests$Body" "java/lang/Object") ∈ lw_tbl := lw_at lw_m8 81 rfl
theorem in_X14 : ∀ w ∈ wsX140, w ∈ lw_all := lw_in wsX140 [913, 914] (by decide +kernel) (by decide +kernel)

/-! NameRests$First -/
set_option maxRecDepth 100000
def RX15 : String := "NameRests$First"
def TX15 : u_T := fun k => match k with
  | 0 => ("NameRests$Body", "number", "I", true)
  | 1 => ("NameRests$Body", "this$0", "LNameRests;", true)
  | _ => ("NameRests$First", "this$0", "LNameRests;", true)
def tyX15 : Nat → FieldType := fun k => match k with
  | 0 => .int
  | 1 => .object "NameRests"
  | _ => .object "NameRests"
abbrev wsX150 : List Cond := u_ws RX15 TX15 3
-- two fields of one name: no nmX15
theorem tyX15_ok : ∀ k, k < 3 → parseFieldDescriptor (TX15 k).2.2.1 = some (tyX15 k) := by decide +kernel
abbrev cX15_init : ByteArray := prog_9_method_1_code
def yX15_init : MethodName := ⟨RX15, "<init>", "(LNameRests;I)V"⟩
def dkwX15_init_0 : List UInt8 := [42, 43, 181, 0, 3, 42, 43, 28, 183, 0, 9, 177]
abbrev dktX15_init_0 : List UInt8 := dkwX15_init_0 ++ []
theorem dksX15_init_0 : cX15_init.data.toList.drop 0 = dktX15_init_0 := by decide +kernel
theorem dX15_init_0 : decode cX15_init 0 = .ok (.aload_n 0, 1) := dk_42 (dk_at dksX15_init_0 0 rfl rfl)
theorem dX15_init_1 : decode cX15_init 1 = .ok (.aload_n 1, 1) := dk_43 (dk_at dksX15_init_0 1 rfl rfl)
theorem dX15_init_2 : decode cX15_init 2 = .ok (.putfield 3, 3) := dk_181 0 3 (dk_at dksX15_init_0 2 rfl rfl)
theorem dX15_init_5 : decode cX15_init 5 = .ok (.aload_n 0, 1) := dk_42 (dk_at dksX15_init_0 5 rfl rfl)
theorem dX15_init_6 : decode cX15_init 6 = .ok (.aload_n 1, 1) := dk_43 (dk_at dksX15_init_0 6 rfl rfl)
theorem dX15_init_7 : decode cX15_init 7 = .ok (.iload_n 2, 1) := dk_28 (dk_at dksX15_init_0 7 rfl rfl)
theorem dX15_init_8 : decode cX15_init 8 = .ok (.invokespecial 9, 3) := dk_183 0 9 (dk_at dksX15_init_0 8 rfl rfl)
theorem dX15_init_11 : decode cX15_init 11 = .ok (.return_, 1) := dk_177 (dk_at dksX15_init_0 11 rfl rfl)
abbrev cX15_gives : ByteArray := prog_9_method_4_code
def yX15_gives : MethodName := ⟨RX15, "gives", "(I)I"⟩
def dkwX15_gives_0 : List UInt8 := [42, 16, 20, 182, 0, 19, 42, 27, 183, 0, 23, 6, 96, 172]
abbrev dktX15_gives_0 : List UInt8 := dkwX15_gives_0 ++ []
theorem dksX15_gives_0 : cX15_gives.data.toList.drop 0 = dktX15_gives_0 := by decide +kernel
theorem dX15_gives_0 : decode cX15_gives 0 = .ok (.aload_n 0, 1) := dk_42 (dk_at dksX15_gives_0 0 rfl rfl)
theorem dX15_gives_1 : decode cX15_gives 1 = .ok (.bipush 20, 2) := dk_16 20 (dk_at dksX15_gives_0 1 rfl rfl)
theorem dX15_gives_3 : decode cX15_gives 3 = .ok (.invokevirtual 19, 3) := dk_182 0 19 (dk_at dksX15_gives_0 3 rfl rfl)
theorem dX15_gives_6 : decode cX15_gives 6 = .ok (.aload_n 0, 1) := dk_42 (dk_at dksX15_gives_0 6 rfl rfl)
theorem dX15_gives_7 : decode cX15_gives 7 = .ok (.iload_n 1, 1) := dk_27 (dk_at dksX15_gives_0 7 rfl rfl)
theorem dX15_gives_8 : decode cX15_gives 8 = .ok (.invokespecial 23, 3) := dk_183 0 23 (dk_at dksX15_gives_0 8 rfl rfl)
theorem dX15_gives_11 : decode cX15_gives 11 = .ok (.iconst 3, 1) := dk_6 (dk_at dksX15_gives_0 11 rfl rfl)
theorem dX15_gives_12 : decode cX15_gives 12 = .ok (.iadd, 1) := dk_96 (dk_at dksX15_gives_0 12 rfl rfl)
theorem dX15_gives_13 : decode cX15_gives 13 = .ok (.ireturn, 1) := dk_172 (dk_at dksX15_gives_0 13 rfl rfl)
abbrev cX15_isUnder : ByteArray := prog_9_method_3_code
def yX15_isUnder : MethodName := ⟨RX15, "isUnder", "(I)Z"⟩
def dkwX15_isUnder_0 : List UInt8 := [27, 4, 159, 0, 11, 42, 27, 183, 0, 15, 153, 0, 7, 4, 167, 0, 4, 3, 172]
abbrev dktX15_isUnder_0 : List UInt8 := dkwX15_isUnder_0 ++ []
theorem dksX15_isUnder_0 : cX15_isUnder.data.toList.drop 0 = dktX15_isUnder_0 := by decide +kernel
theorem dX15_isUnder_0 : decode cX15_isUnder 0 = .ok (.iload_n 1, 1) := dk_27 (dk_at dksX15_isUnder_0 0 rfl rfl)
theorem dX15_isUnder_1 : decode cX15_isUnder 1 = .ok (.iconst 1, 1) := dk_4 (dk_at dksX15_isUnder_0 1 rfl rfl)
theorem dX15_isUnder_2 : decode cX15_isUnder 2 = .ok (.if_icmp .eq 11, 3) := dk_159 0 11 (dk_at dksX15_isUnder_0 2 rfl rfl)
theorem dX15_isUnder_5 : decode cX15_isUnder 5 = .ok (.aload_n 0, 1) := dk_42 (dk_at dksX15_isUnder_0 5 rfl rfl)
theorem dX15_isUnder_6 : decode cX15_isUnder 6 = .ok (.iload_n 1, 1) := dk_27 (dk_at dksX15_isUnder_0 6 rfl rfl)
theorem dX15_isUnder_7 : decode cX15_isUnder 7 = .ok (.invokespecial 15, 3) := dk_183 0 15 (dk_at dksX15_isUnder_0 7 rfl rfl)
theorem dX15_isUnder_10 : decode cX15_isUnder 10 = .ok (.ifCond .eq 7, 3) := dk_153 0 7 (dk_at dksX15_isUnder_0 10 rfl rfl)
theorem dX15_isUnder_13 : decode cX15_isUnder 13 = .ok (.iconst 1, 1) := dk_4 (dk_at dksX15_isUnder_0 13 rfl rfl)
theorem dX15_isUnder_14 : decode cX15_isUnder 14 = .ok (.goto 4, 3) := dk_167 0 4 (dk_at dksX15_isUnder_0 14 rfl rfl)
theorem dX15_isUnder_17 : decode cX15_isUnder 17 = .ok (.iconst 0, 1) := dk_3 (dk_at dksX15_isUnder_0 17 rfl rfl)
theorem dX15_isUnder_18 : decode cX15_isUnder 18 = .ok (.ireturn, 1) := dk_172 (dk_at dksX15_isUnder_0 18 rfl rfl)
abbrev cX15_kind : ByteArray := prog_9_method_2_code
def yX15_kind : MethodName := ⟨RX15, "kind", "()I"⟩
theorem dX15_kind_0 : decode cX15_kind 0 = .ok (.iconst 1, 1) := by decide +kernel
theorem dX15_kind_1 : decode cX15_kind 1 = .ok (.ireturn, 1) := by decide +kernel
theorem q122 : (Jvm.Cond.initialized "NameRests$First") ∈ lw_all := lw_g (lw_at lw_m1 20 rfl) rfl
theorem q816 : (Jvm.Cond.instantiable "NameRests$First" (3 : Nat)) ∈ lw_all := lw_g (lw_at lw_m3 234 rfl) rfl
theorem q818 : (Jvm.Cond.instanceMethod ({ cls := "NameRests$First", name := "<init>", desc := "(LNameRests;I)V" } : Jvm.MethodName)) ∈ lw_all := lw_g (lw_at lw_m3 236 rfl) rfl
theorem q819 : (Jvm.Cond.code ({ cls := "NameRests$First", name := "<init>", desc := "(LNameRests;I)V" } : Jvm.MethodName) prog_9_method_1_code (3 : Nat) (Option.none : Option Jvm.ClassFile.FieldType)) ∈ lw_all := lw_g (lw_at lw_m3 237 rfl) rfl
theorem q820 : (Jvm.Cond.methodLink "NameRests$First" (9 : Nat) ({ cls := "NameRests$Body", name := "<init>", desc := "(LNameRests;I)V" } : Jvm.MethodName)) ∈ lw_all := lw_g (lw_at lw_m3 238 rfl) rfl
theorem q824 : (Jvm.Cond.fieldLink "NameRests$First" (3 : Nat) "NameRests$First" "this$0" "LNameRests;") ∈ lw_all := lw_g (lw_at lw_m4 2 rfl) rfl
theorem q827 : (Jvm.Cond.laysFinal "NameRests$First" "NameRests$First" "this$0" "LNameRests;") ∈ lw_all := lw_g (lw_at lw_m4 5 rfl) rfl
theorem q828 : (Jvm.Cond.soleField "NameRests$First" "this$0") ∈ lw_all := lw_g (lw_at lw_m4 6 rfl) rfl
theorem q829 : (Jvm.Cond.laysFinal "NameRests$First" "NameRests$Body" "number" "I") ∈ lw_all := lw_g (lw_at lw_m4 7 rfl) rfl
theorem q831 : (Jvm.Cond.laysFinal "NameRests$First" "NameRests$Body" "this$0" "LNameRests;") ∈ lw_all := lw_g (lw_at lw_m4 9 rfl) rfl
theorem q833 : (Jvm.Cond.superclass "NameRests$First" "NameRests$Body") ∈ lw_all := lw_g (lw_at lw_m4 11 rfl) rfl
theorem q927 : (Jvm.Cond.instanceMethod ({ cls := "NameRests$First", name := "gives", desc := "(I)I" } : Jvm.MethodName)) ∈ lw_all := lw_g (lw_at lw_m4 105 rfl) rfl
theorem q928 : (Jvm.Cond.code ({ cls := "NameRests$First", name := "gives", desc := "(I)I" } : Jvm.MethodName) prog_9_method_4_code (2 : Nat) (Option.some Jvm.ClassFile.FieldType.int)) ∈ lw_all := lw_g (lw_at lw_m4 106 rfl) rfl
theorem q929 : (Jvm.Cond.methodLink "NameRests$First" (19 : Nat) ({ cls := "NameRests$First", name := "begins", desc := "(I)V" } : Jvm.MethodName)) ∈ lw_all := lw_g (lw_at lw_m4 107 rfl) rfl
theorem q930 : (Jvm.Cond.sameMethod "NameRests$First" "NameRests$Body" "begins" "(I)V") ∈ lw_all := lw_g (lw_at lw_m4 108 rfl) rfl
theorem q933 : (Jvm.Cond.selects "NameRests$First" ({ cls := "NameRests$First", name := "begins", desc := "(I)V" } : Jvm.MethodName) ({ cls := "NameRests$Body", name := "begins", desc := "(I)V" } : Jvm.MethodName)) ∈ lw_all := lw_g (lw_at lw_m4 111 rfl) rfl
theorem q952 : (Jvm.Cond.castable "NameRests$First" "NameRests$Gives") ∈ lw_tbl := lw_at lw_m4 130 rfl
theorem q953 : (Jvm.Cond.selects "NameRests$First" ({ cls := "NameRests$Gives", name := "begins", desc := "(I)V" } : Jvm.MethodName) ({ cls := "NameRests$Body", name := "begins", desc := "(I)V" } : Jvm.MethodName)) ∈ lw_all := lw_g (lw_at lw_m4 131 rfl) rfl
theorem q954 : (Jvm.Cond.unhidden "NameRests$First" "begins" "(I)V") ∈ lw_tbl := lw_at lw_m4 132 rfl
theorem q980 : (Jvm.Cond.selects "NameRests$First" ({ cls := "NameRests$Gives", name := "number", desc := "()I" } : Jvm.MethodName) ({ cls := "NameRests$Body", name := "number", desc := "()I" } : Jvm.MethodName)) ∈ lw_all := lw_g (lw_at lw_m4 158 rfl) rfl
theorem q981 : (Jvm.Cond.unhidden "NameRests$First" "number" "()I") ∈ lw_tbl := lw_at lw_m4 159 rfl
theorem q991 : (Jvm.Cond.selects "NameRests$First" ({ cls := "NameRests$Gives", name := "gives", desc := "(I)I" } : Jvm.MethodName) ({ cls := "NameRests$First", name := "gives", desc := "(I)I" } : Jvm.MethodName)) ∈ lw_all := lw_g (lw_at lw_m4 169 rfl) rfl
theorem q1030 : (Jvm.Cond.selects "NameRests$First" ({ cls := "NameRests$Body", name := "holds", desc := "(I)I" } : Jvm.MethodName) ({ cls := "NameRests$Body", name := "holds", desc := "(I)I" } : Jvm.MethodName)) ∈ lw_all := lw_g (lw_at lw_m4 208 rfl) rfl
theorem q1075 : (Jvm.Cond.castable "NameRests$First" "NameRests$Tells") ∈ lw_tbl := lw_at lw_m5 13 rfl
theorem q1076 : (Jvm.Cond.selects "NameRests$First" ({ cls := "NameRests$Tells", name := "begins", desc := "(I)V" } : Jvm.MethodName) ({ cls := "NameRests$Body", name := "begins", desc := "(I)V" } : Jvm.MethodName)) ∈ lw_all := lw_g (lw_at lw_m5 14 rfl) rfl
theorem q1097 : (Jvm.Cond.selects "NameRests$First" ({ cls := "NameRests$Tells", name := "holds", desc := "(I)I" } : Jvm.MethodName) ({ cls := "NameRests$Body", name := "holds", desc := "(I)I" } : Jvm.MethodName)) ∈ lw_all := lw_g (lw_at lw_m5 35 rfl) rfl
theorem q1098 : (Jvm.Cond.unhidden "NameRests$First" "holds" "(I)I") ∈ lw_tbl := lw_at lw_m5 36 rfl
theorem q1121 : (Jvm.Cond.selects "NameRests$First" ({ cls := "NameRests$Tells", name := "knows", desc := "(I)I" } : Jvm.MethodName) ({ cls := "NameRests$Body", name := "knows", desc := "(I)I" } : Jvm.MethodName)) ∈ lw_all := lw_g (lw_at lw_m5 59 rfl) rfl
theorem q1122 : (Jvm.Cond.unhidden "NameRests$First" "knows" "(I)I") ∈ lw_tbl := lw_at lw_m5 60 rfl
theorem q1139 : (Jvm.Cond.unhidden "NameRests$First" "tells" "(I)I") ∈ lw_tbl := lw_at lw_m5 77 rfl
theorem q1210 : (Jvm.Cond.instanceMethod ({ cls := "NameRests$First", name := "isUnder", desc := "(I)Z" } : Jvm.MethodName)) ∈ lw_all := lw_g (lw_at lw_m5 148 rfl) rfl
theorem q1211 : (Jvm.Cond.code ({ cls := "NameRests$First", name := "isUnder", desc := "(I)Z" } : Jvm.MethodName) prog_9_method_3_code (2 : Nat) (Option.some Jvm.ClassFile.FieldType.boolean)) ∈ lw_all := lw_g (lw_at lw_m5 149 rfl) rfl
theorem q1212 : (Jvm.Cond.methodLink "NameRests$First" (15 : Nat) ({ cls := "NameRests$Body", name := "isUnder", desc := "(I)Z" } : Jvm.MethodName)) ∈ lw_all := lw_g (lw_at lw_m5 150 rfl) rfl
theorem q1213 : (Jvm.Cond.selects "NameRests$First" ({ cls := "NameRests$Body", name := "isUnder", desc := "(I)Z" } : Jvm.MethodName) ({ cls := "NameRests$First", name := "isUnder", desc := "(I)Z" } : Jvm.MethodName)) ∈ lw_all := lw_g (lw_at lw_m5 151 rfl) rfl
theorem q1235 : (Jvm.Cond.selects "NameRests$First" ({ cls := "NameRests$Body", name := "kind", desc := "()I" } : Jvm.MethodName) ({ cls := "NameRests$First", name := "kind", desc := "()I" } : Jvm.MethodName)) ∈ lw_all := lw_g (lw_at lw_m5 173 rfl) rfl
theorem q1236 : (Jvm.Cond.instanceMethod ({ cls := "NameRests$First", name := "kind", desc := "()I" } : Jvm.MethodName)) ∈ lw_all := lw_g (lw_at lw_m5 174 rfl) rfl
theorem q1237 : (Jvm.Cond.code ({ cls := "NameRests$First", name := "kind", desc := "()I" } : Jvm.MethodName) prog_9_method_2_code (1 : Nat) (Option.some Jvm.ClassFile.FieldType.int)) ∈ lw_all := lw_g (lw_at lw_m5 175 rfl) rfl
theorem q1817 : (Jvm.Cond.selects "NameRests$First" ({ cls := "NameRests$Body", name := "begins", desc := "(I)V" } : Jvm.MethodName) ({ cls := "NameRests$Body", name := "begins", desc := "(I)V" } : Jvm.MethodName)) ∈ lw_all := lw_g (lw_at lw_m8 35 rfl) rfl
theorem q1827 : (Jvm.Cond.selects "NameRests$First" ({ cls := "NameRests$Body", name := "knows", desc := "(I)I" } : Jvm.MethodName) ({ cls := "NameRests$Body", name := "knows", desc := "(I)I" } : Jvm.MethodName)) ∈ lw_all := lw_g (lw_at lw_m8 45 rfl) rfl
theorem q1834 : (Jvm.Cond.sameMethod "NameRests$First" "NameRests$First" "isUnder" "(I)Z") ∈ lw_all := lw_g (lw_at lw_m8 52 rfl) rfl
theorem q1838 : (Jvm.Cond.castable "NameRests$First" "NameRests$Body") ∈ lw_tbl := lw_at lw_m8 56 rfl
theorem q1856 : (Jvm.Cond.castable "NameRests$First" "java/lang/Object") ∈ lw_tbl := lw_at lw_m8 74 rfl
theorem in_X15 : ∀ w ∈ wsX150, w ∈ lw_all := lw_in wsX150 [829, 831, 827] (by decide +kernel) (by decide +kernel)

/-! NameRests$Soon -/
set_option maxRecDepth 100000
def RX16 : String := "NameRests$Soon"
def TX16 : u_T := fun k => match k with
  | 0 => ("NameRests$Body", "number", "I", true)
  | 1 => ("NameRests$Body", "this$0", "LNameRests;", true)
  | _ => ("NameRests$Soon", "this$0", "LNameRests;", true)
def tyX16 : Nat → FieldType := fun k => match k with
  | 0 => .int
  | 1 => .object "NameRests"
  | _ => .object "NameRests"
abbrev wsX160 : List Cond := u_ws RX16 TX16 3
-- two fields of one name: no nmX16
theorem tyX16_ok : ∀ k, k < 3 → parseFieldDescriptor (TX16 k).2.2.1 = some (tyX16 k) := by decide +kernel
abbrev cX16_init : ByteArray := prog_18_method_1_code
def yX16_init : MethodName := ⟨RX16, "<init>", "(LNameRests;I)V"⟩
def dkwX16_init_0 : List UInt8 := [42, 43, 181, 0, 3, 42, 43, 28, 183, 0, 9, 177]
abbrev dktX16_init_0 : List UInt8 := dkwX16_init_0 ++ []
theorem dksX16_init_0 : cX16_init.data.toList.drop 0 = dktX16_init_0 := by decide +kernel
theorem dX16_init_0 : decode cX16_init 0 = .ok (.aload_n 0, 1) := dk_42 (dk_at dksX16_init_0 0 rfl rfl)
theorem dX16_init_1 : decode cX16_init 1 = .ok (.aload_n 1, 1) := dk_43 (dk_at dksX16_init_0 1 rfl rfl)
theorem dX16_init_2 : decode cX16_init 2 = .ok (.putfield 3, 3) := dk_181 0 3 (dk_at dksX16_init_0 2 rfl rfl)
theorem dX16_init_5 : decode cX16_init 5 = .ok (.aload_n 0, 1) := dk_42 (dk_at dksX16_init_0 5 rfl rfl)
theorem dX16_init_6 : decode cX16_init 6 = .ok (.aload_n 1, 1) := dk_43 (dk_at dksX16_init_0 6 rfl rfl)
theorem dX16_init_7 : decode cX16_init 7 = .ok (.iload_n 2, 1) := dk_28 (dk_at dksX16_init_0 7 rfl rfl)
theorem dX16_init_8 : decode cX16_init 8 = .ok (.invokespecial 9, 3) := dk_183 0 9 (dk_at dksX16_init_0 8 rfl rfl)
theorem dX16_init_11 : decode cX16_init 11 = .ok (.return_, 1) := dk_177 (dk_at dksX16_init_0 11 rfl rfl)
abbrev cX16_holds : ByteArray := prog_18_method_4_code
def yX16_holds : MethodName := ⟨RX16, "holds", "(I)I"⟩
def dkwX16_holds_0 : List UInt8 := [42, 16, 30, 182, 0, 19, 42, 27, 183, 0, 23, 116, 172]
abbrev dktX16_holds_0 : List UInt8 := dkwX16_holds_0 ++ []
theorem dksX16_holds_0 : cX16_holds.data.toList.drop 0 = dktX16_holds_0 := by decide +kernel
theorem dX16_holds_0 : decode cX16_holds 0 = .ok (.aload_n 0, 1) := dk_42 (dk_at dksX16_holds_0 0 rfl rfl)
theorem dX16_holds_1 : decode cX16_holds 1 = .ok (.bipush 30, 2) := dk_16 30 (dk_at dksX16_holds_0 1 rfl rfl)
theorem dX16_holds_3 : decode cX16_holds 3 = .ok (.invokevirtual 19, 3) := dk_182 0 19 (dk_at dksX16_holds_0 3 rfl rfl)
theorem dX16_holds_6 : decode cX16_holds 6 = .ok (.aload_n 0, 1) := dk_42 (dk_at dksX16_holds_0 6 rfl rfl)
theorem dX16_holds_7 : decode cX16_holds 7 = .ok (.iload_n 1, 1) := dk_27 (dk_at dksX16_holds_0 7 rfl rfl)
theorem dX16_holds_8 : decode cX16_holds 8 = .ok (.invokespecial 23, 3) := dk_183 0 23 (dk_at dksX16_holds_0 8 rfl rfl)
theorem dX16_holds_11 : decode cX16_holds 11 = .ok (.ineg, 1) := dk_116 (dk_at dksX16_holds_0 11 rfl rfl)
theorem dX16_holds_12 : decode cX16_holds 12 = .ok (.ireturn, 1) := dk_172 (dk_at dksX16_holds_0 12 rfl rfl)
abbrev cX16_isUnder : ByteArray := prog_18_method_3_code
def yX16_isUnder : MethodName := ⟨RX16, "isUnder", "(I)Z"⟩
def dkwX16_isUnder_0 : List UInt8 := [27, 5, 159, 0, 11, 42, 27, 183, 0, 15, 153, 0, 7, 4, 167, 0, 4, 3, 172]
abbrev dktX16_isUnder_0 : List UInt8 := dkwX16_isUnder_0 ++ []
theorem dksX16_isUnder_0 : cX16_isUnder.data.toList.drop 0 = dktX16_isUnder_0 := by decide +kernel
theorem dX16_isUnder_0 : decode cX16_isUnder 0 = .ok (.iload_n 1, 1) := dk_27 (dk_at dksX16_isUnder_0 0 rfl rfl)
theorem dX16_isUnder_1 : decode cX16_isUnder 1 = .ok (.iconst 2, 1) := dk_5 (dk_at dksX16_isUnder_0 1 rfl rfl)
theorem dX16_isUnder_2 : decode cX16_isUnder 2 = .ok (.if_icmp .eq 11, 3) := dk_159 0 11 (dk_at dksX16_isUnder_0 2 rfl rfl)
theorem dX16_isUnder_5 : decode cX16_isUnder 5 = .ok (.aload_n 0, 1) := dk_42 (dk_at dksX16_isUnder_0 5 rfl rfl)
theorem dX16_isUnder_6 : decode cX16_isUnder 6 = .ok (.iload_n 1, 1) := dk_27 (dk_at dksX16_isUnder_0 6 rfl rfl)
theorem dX16_isUnder_7 : decode cX16_isUnder 7 = .ok (.invokespecial 15, 3) := dk_183 0 15 (dk_at dksX16_isUnder_0 7 rfl rfl)
theorem dX16_isUnder_10 : decode cX16_isUnder 10 = .ok (.ifCond .eq 7, 3) := dk_153 0 7 (dk_at dksX16_isUnder_0 10 rfl rfl)
theorem dX16_isUnder_13 : decode cX16_isUnder 13 = .ok (.iconst 1, 1) := dk_4 (dk_at dksX16_isUnder_0 13 rfl rfl)
theorem dX16_isUnder_14 : decode cX16_isUnder 14 = .ok (.goto 4, 3) := dk_167 0 4 (dk_at dksX16_isUnder_0 14 rfl rfl)
theorem dX16_isUnder_17 : decode cX16_isUnder 17 = .ok (.iconst 0, 1) := dk_3 (dk_at dksX16_isUnder_0 17 rfl rfl)
theorem dX16_isUnder_18 : decode cX16_isUnder 18 = .ok (.ireturn, 1) := dk_172 (dk_at dksX16_isUnder_0 18 rfl rfl)
abbrev cX16_kind : ByteArray := prog_18_method_2_code
def yX16_kind : MethodName := ⟨RX16, "kind", "()I"⟩
theorem dX16_kind_0 : decode cX16_kind 0 = .ok (.iconst 2, 1) := by decide +kernel
theorem dX16_kind_1 : decode cX16_kind 1 = .ok (.ireturn, 1) := by decide +kernel
theorem q123 : (Jvm.Cond.initialized "NameRests$Soon") ∈ lw_all := lw_g (lw_at lw_m1 21 rfl) rfl
theorem q835 : (Jvm.Cond.instantiable "NameRests$Soon" (3 : Nat)) ∈ lw_all := lw_g (lw_at lw_m4 13 rfl) rfl
theorem q837 : (Jvm.Cond.instanceMethod ({ cls := "NameRests$Soon", name := "<init>", desc := "(LNameRests;I)V" } : Jvm.MethodName)) ∈ lw_all := lw_g (lw_at lw_m4 15 rfl) rfl
theorem q838 : (Jvm.Cond.code ({ cls := "NameRests$Soon", name := "<init>", desc := "(LNameRests;I)V" } : Jvm.MethodName) prog_18_method_1_code (3 : Nat) (Option.none : Option Jvm.ClassFile.FieldType)) ∈ lw_all := lw_g (lw_at lw_m4 16 rfl) rfl
theorem q839 : (Jvm.Cond.methodLink "NameRests$Soon" (9 : Nat) ({ cls := "NameRests$Body", name := "<init>", desc := "(LNameRests;I)V" } : Jvm.MethodName)) ∈ lw_all := lw_g (lw_at lw_m4 17 rfl) rfl
theorem q840 : (Jvm.Cond.fieldLink "NameRests$Soon" (3 : Nat) "NameRests$Soon" "this$0" "LNameRests;") ∈ lw_all := lw_g (lw_at lw_m4 18 rfl) rfl
theorem q841 : (Jvm.Cond.laysFinal "NameRests$Soon" "NameRests$Soon" "this$0" "LNameRests;") ∈ lw_all := lw_g (lw_at lw_m4 19 rfl) rfl
theorem q842 : (Jvm.Cond.soleField "NameRests$Soon" "this$0") ∈ lw_all := lw_g (lw_at lw_m4 20 rfl) rfl
theorem q843 : (Jvm.Cond.laysFinal "NameRests$Soon" "NameRests$Body" "number" "I") ∈ lw_all := lw_g (lw_at lw_m4 21 rfl) rfl
theorem q844 : (Jvm.Cond.laysFinal "NameRests$Soon" "NameRests$Body" "this$0" "LNameRests;") ∈ lw_all := lw_g (lw_at lw_m4 22 rfl) rfl
theorem q845 : (Jvm.Cond.superclass "NameRests$Soon" "NameRests$Body") ∈ lw_all := lw_g (lw_at lw_m4 23 rfl) rfl
theorem q958 : (Jvm.Cond.castable "NameRests$Soon" "NameRests$Gives") ∈ lw_tbl := lw_at lw_m4 136 rfl
theorem q959 : (Jvm.Cond.selects "NameRests$Soon" ({ cls := "NameRests$Gives", name := "begins", desc := "(I)V" } : Jvm.MethodName) ({ cls := "NameRests$Body", name := "begins", desc := "(I)V" } : Jvm.MethodName)) ∈ lw_all := lw_g (lw_at lw_m4 137 rfl) rfl
theorem q960 : (Jvm.Cond.unhidden "NameRests$Soon" "begins" "(I)V") ∈ lw_tbl := lw_at lw_m4 138 rfl
theorem q984 : (Jvm.Cond.selects "NameRests$Soon" ({ cls := "NameRests$Gives", name := "number", desc := "()I" } : Jvm.MethodName) ({ cls := "NameRests$Body", name := "number", desc := "()I" } : Jvm.MethodName)) ∈ lw_all := lw_g (lw_at lw_m4 162 rfl) rfl
theorem q985 : (Jvm.Cond.unhidden "NameRests$Soon" "number" "()I") ∈ lw_tbl := lw_at lw_m4 163 rfl
theorem q1005 : (Jvm.Cond.unhidden "NameRests$Soon" "gives" "(I)I") ∈ lw_tbl := lw_at lw_m4 183 rfl
theorem q1021 : (Jvm.Cond.instanceMethod ({ cls := "NameRests$Soon", name := "holds", desc := "(I)I" } : Jvm.MethodName)) ∈ lw_all := lw_g (lw_at lw_m4 199 rfl) rfl
theorem q1022 : (Jvm.Cond.code ({ cls := "NameRests$Soon", name := "holds", desc := "(I)I" } : Jvm.MethodName) prog_18_method_4_code (2 : Nat) (Option.some Jvm.ClassFile.FieldType.int)) ∈ lw_all := lw_g (lw_at lw_m4 200 rfl) rfl
theorem q1023 : (Jvm.Cond.methodLink "NameRests$Soon" (19 : Nat) ({ cls := "NameRests$Soon", name := "begins", desc := "(I)V" } : Jvm.MethodName)) ∈ lw_all := lw_g (lw_at lw_m4 201 rfl) rfl
theorem q1024 : (Jvm.Cond.sameMethod "NameRests$Soon" "NameRests$Body" "begins" "(I)V") ∈ lw_all := lw_g (lw_at lw_m4 202 rfl) rfl
theorem q1026 : (Jvm.Cond.selects "NameRests$Soon" ({ cls := "NameRests$Soon", name := "begins", desc := "(I)V" } : Jvm.MethodName) ({ cls := "NameRests$Body", name := "begins", desc := "(I)V" } : Jvm.MethodName)) ∈ lw_all := lw_g (lw_at lw_m4 204 rfl) rfl
theorem q1028 : (Jvm.Cond.methodLink "NameRests$Soon" (23 : Nat) ({ cls := "NameRests$Body", name := "holds", desc := "(I)I" } : Jvm.MethodName)) ∈ lw_all := lw_g (lw_at lw_m4 206 rfl) rfl
theorem q1044 : (Jvm.Cond.selects "NameRests$Soon" ({ cls := "NameRests$Body", name := "holds", desc := "(I)I" } : Jvm.MethodName) ({ cls := "NameRests$Soon", name := "holds", desc := "(I)I" } : Jvm.MethodName)) ∈ lw_all := lw_g (lw_at lw_m4 222 rfl) rfl
theorem q1058 : (Jvm.Cond.sameMethod "NameRests$Soon" "NameRests$Body" "knows" "(I)I") ∈ lw_all := lw_g (lw_at lw_m4 236 rfl) rfl
theorem q1079 : (Jvm.Cond.castable "NameRests$Soon" "NameRests$Tells") ∈ lw_tbl := lw_at lw_m5 17 rfl
theorem q1080 : (Jvm.Cond.selects "NameRests$Soon" ({ cls := "NameRests$Tells", name := "begins", desc := "(I)V" } : Jvm.MethodName) ({ cls := "NameRests$Body", name := "begins", desc := "(I)V" } : Jvm.MethodName)) ∈ lw_all := lw_g (lw_at lw_m5 18 rfl) rfl
theorem q1102 : (Jvm.Cond.selects "NameRests$Soon" ({ cls := "NameRests$Tells", name := "holds", desc := "(I)I" } : Jvm.MethodName) ({ cls := "NameRests$Soon", name := "holds", desc := "(I)I" } : Jvm.MethodName)) ∈ lw_all := lw_g (lw_at lw_m5 40 rfl) rfl
theorem q1103 : (Jvm.Cond.unhidden "NameRests$Soon" "holds" "(I)I") ∈ lw_tbl := lw_at lw_m5 41 rfl
theorem q1104 : (Jvm.Cond.publicMethod ({ cls := "NameRests$Soon", name := "holds", desc := "(I)I" } : Jvm.MethodName)) ∈ lw_tbl := lw_at lw_m5 42 rfl
theorem q1125 : (Jvm.Cond.selects "NameRests$Soon" ({ cls := "NameRests$Tells", name := "knows", desc := "(I)I" } : Jvm.MethodName) ({ cls := "NameRests$Body", name := "knows", desc := "(I)I" } : Jvm.MethodName)) ∈ lw_all := lw_g (lw_at lw_m5 63 rfl) rfl
theorem q1126 : (Jvm.Cond.unhidden "NameRests$Soon" "knows" "(I)I") ∈ lw_tbl := lw_at lw_m5 64 rfl
theorem q1141 : (Jvm.Cond.unhidden "NameRests$Soon" "tells" "(I)I") ∈ lw_tbl := lw_at lw_m5 79 rfl
theorem q1203 : (Jvm.Cond.instanceMethod ({ cls := "NameRests$Soon", name := "isUnder", desc := "(I)Z" } : Jvm.MethodName)) ∈ lw_all := lw_g (lw_at lw_m5 141 rfl) rfl
theorem q1204 : (Jvm.Cond.code ({ cls := "NameRests$Soon", name := "isUnder", desc := "(I)Z" } : Jvm.MethodName) prog_18_method_3_code (2 : Nat) (Option.some Jvm.ClassFile.FieldType.boolean)) ∈ lw_all := lw_g (lw_at lw_m5 142 rfl) rfl
theorem q1205 : (Jvm.Cond.methodLink "NameRests$Soon" (15 : Nat) ({ cls := "NameRests$Body", name := "isUnder", desc := "(I)Z" } : Jvm.MethodName)) ∈ lw_all := lw_g (lw_at lw_m5 143 rfl) rfl
theorem q1221 : (Jvm.Cond.selects "NameRests$Soon" ({ cls := "NameRests$Body", name := "isUnder", desc := "(I)Z" } : Jvm.MethodName) ({ cls := "NameRests$Soon", name := "isUnder", desc := "(I)Z" } : Jvm.MethodName)) ∈ lw_all := lw_g (lw_at lw_m5 159 rfl) rfl
theorem q1241 : (Jvm.Cond.selects "NameRests$Soon" ({ cls := "NameRests$Body", name := "kind", desc := "()I" } : Jvm.MethodName) ({ cls := "NameRests$Soon", name := "kind", desc := "()I" } : Jvm.MethodName)) ∈ lw_all := lw_g (lw_at lw_m5 179 rfl) rfl
theorem q1242 : (Jvm.Cond.instanceMethod ({ cls := "NameRests$Soon", name := "kind", desc := "()I" } : Jvm.MethodName)) ∈ lw_all := lw_g (lw_at lw_m5 180 rfl) rfl
theorem q1243 : (Jvm.Cond.code ({ cls := "NameRests$Soon", name := "kind", desc := "()I" } : Jvm.MethodName) prog_18_method_2_code (1 : Nat) (Option.some Jvm.ClassFile.FieldType.int)) ∈ lw_all := lw_g (lw_at lw_m5 181 rfl) rfl
theorem q1812 : (Jvm.Cond.sameMethod "NameRests$Soon" "NameRests$Soon" "holds" "(I)I") ∈ lw_all := lw_g (lw_at lw_m8 30 rfl) rfl
theorem q1819 : (Jvm.Cond.selects "NameRests$Soon" ({ cls := "NameRests$Body", name := "begins", desc := "(I)V" } : Jvm.MethodName) ({ cls := "NameRests$Body", name := "begins", desc := "(I)V" } : Jvm.MethodName)) ∈ lw_all := lw_g (lw_at lw_m8 37 rfl) rfl
theorem q1829 : (Jvm.Cond.selects "NameRests$Soon" ({ cls := "NameRests$Body", name := "knows", desc := "(I)I" } : Jvm.MethodName) ({ cls := "NameRests$Body", name := "knows", desc := "(I)I" } : Jvm.MethodName)) ∈ lw_all := lw_g (lw_at lw_m8 47 rfl) rfl
theorem q1833 : (Jvm.Cond.sameMethod "NameRests$Soon" "NameRests$Soon" "isUnder" "(I)Z") ∈ lw_all := lw_g (lw_at lw_m8 51 rfl) rfl
theorem q1840 : (Jvm.Cond.castable "NameRests$Soon" "NameRests$Body") ∈ lw_tbl := lw_at lw_m8 58 rfl
theorem q1857 : (Jvm.Cond.castable "NameRests$Soon" "java/lang/Object") ∈ lw_tbl := lw_at lw_m8 75 rfl
theorem in_X16 : ∀ w ∈ wsX160, w ∈ lw_all := lw_in wsX160 [843, 844, 841] (by decide +kernel) (by decide +kernel)

/-! NameRests$Wish -/
set_option maxRecDepth 100000
def RX17 : String := "NameRests$Wish"
def TX17 : u_T := fun k => match k with
  | 0 => ("NameRests$Body", "number", "I", true)
  | 1 => ("NameRests$Body", "this$0", "LNameRests;", true)
  | 2 => ("NameRests$Soon", "this$0", "LNameRests;", true)
  | _ => ("NameRests$Wish", "this$0", "LNameRests;", true)
def tyX17 : Nat → FieldType := fun k => match k with
  | 0 => .int
  | 1 => .object "NameRests"
  | 2 => .object "NameRests"
  | _ => .object "NameRests"
abbrev wsX170 : List Cond := u_ws RX17 TX17 4
-- two fields of one name: no nmX17
theorem tyX17_ok : ∀ k, k < 4 → parseFieldDescriptor (TX17 k).2.2.1 = some (tyX17 k) := by decide +kernel
abbrev cX17_init : ByteArray := prog_23_method_1_code
def yX17_init : MethodName := ⟨RX17, "<init>", "(LNameRests;I)V"⟩
def dkwX17_init_0 : List UInt8 := [42, 43, 181, 0, 3, 42, 43, 28, 183, 0, 9, 177]
abbrev dktX17_init_0 : List UInt8 := dkwX17_init_0 ++ []
theorem dksX17_init_0 : cX17_init.data.toList.drop 0 = dktX17_init_0 := by decide +kernel
theorem dX17_init_0 : decode cX17_init 0 = .ok (.aload_n 0, 1) := dk_42 (dk_at dksX17_init_0 0 rfl rfl)
theorem dX17_init_1 : decode cX17_init 1 = .ok (.aload_n 1, 1) := dk_43 (dk_at dksX17_init_0 1 rfl rfl)
theorem dX17_init_2 : decode cX17_init 2 = .ok (.putfield 3, 3) := dk_181 0 3 (dk_at dksX17_init_0 2 rfl rfl)
theorem dX17_init_5 : decode cX17_init 5 = .ok (.aload_n 0, 1) := dk_42 (dk_at dksX17_init_0 5 rfl rfl)
theorem dX17_init_6 : decode cX17_init 6 = .ok (.aload_n 1, 1) := dk_43 (dk_at dksX17_init_0 6 rfl rfl)
theorem dX17_init_7 : decode cX17_init 7 = .ok (.iload_n 2, 1) := dk_28 (dk_at dksX17_init_0 7 rfl rfl)
theorem dX17_init_8 : decode cX17_init 8 = .ok (.invokespecial 9, 3) := dk_183 0 9 (dk_at dksX17_init_0 8 rfl rfl)
theorem dX17_init_11 : decode cX17_init 11 = .ok (.return_, 1) := dk_177 (dk_at dksX17_init_0 11 rfl rfl)
abbrev cX17_holds : ByteArray := prog_23_method_5_code
def yX17_holds : MethodName := ⟨RX17, "holds", "(I)I"⟩
def dkwX17_holds_0 : List UInt8 := [42, 16, 41, 182, 0, 19, 42, 27, 4, 96, 183, 0, 27, 172]
abbrev dktX17_holds_0 : List UInt8 := dkwX17_holds_0 ++ []
theorem dksX17_holds_0 : cX17_holds.data.toList.drop 0 = dktX17_holds_0 := by decide +kernel
theorem dX17_holds_0 : decode cX17_holds 0 = .ok (.aload_n 0, 1) := dk_42 (dk_at dksX17_holds_0 0 rfl rfl)
theorem dX17_holds_1 : decode cX17_holds 1 = .ok (.bipush 41, 2) := dk_16 41 (dk_at dksX17_holds_0 1 rfl rfl)
theorem dX17_holds_3 : decode cX17_holds 3 = .ok (.invokevirtual 19, 3) := dk_182 0 19 (dk_at dksX17_holds_0 3 rfl rfl)
theorem dX17_holds_6 : decode cX17_holds 6 = .ok (.aload_n 0, 1) := dk_42 (dk_at dksX17_holds_0 6 rfl rfl)
theorem dX17_holds_7 : decode cX17_holds 7 = .ok (.iload_n 1, 1) := dk_27 (dk_at dksX17_holds_0 7 rfl rfl)
theorem dX17_holds_8 : decode cX17_holds 8 = .ok (.iconst 1, 1) := dk_4 (dk_at dksX17_holds_0 8 rfl rfl)
theorem dX17_holds_9 : decode cX17_holds 9 = .ok (.iadd, 1) := dk_96 (dk_at dksX17_holds_0 9 rfl rfl)
theorem dX17_holds_10 : decode cX17_holds 10 = .ok (.invokespecial 27, 3) := dk_183 0 27 (dk_at dksX17_holds_0 10 rfl rfl)
theorem dX17_holds_13 : decode cX17_holds 13 = .ok (.ireturn, 1) := dk_172 (dk_at dksX17_holds_0 13 rfl rfl)
abbrev cX17_knows : ByteArray := prog_23_method_4_code
def yX17_knows : MethodName := ⟨RX17, "knows", "(I)I"⟩
def dkwX17_knows_0 : List UInt8 := [42, 16, 40, 182, 0, 19, 42, 27, 183, 0, 23, 6, 104, 172]
abbrev dktX17_knows_0 : List UInt8 := dkwX17_knows_0 ++ []
theorem dksX17_knows_0 : cX17_knows.data.toList.drop 0 = dktX17_knows_0 := by decide +kernel
theorem dX17_knows_0 : decode cX17_knows 0 = .ok (.aload_n 0, 1) := dk_42 (dk_at dksX17_knows_0 0 rfl rfl)
theorem dX17_knows_1 : decode cX17_knows 1 = .ok (.bipush 40, 2) := dk_16 40 (dk_at dksX17_knows_0 1 rfl rfl)
theorem dX17_knows_3 : decode cX17_knows 3 = .ok (.invokevirtual 19, 3) := dk_182 0 19 (dk_at dksX17_knows_0 3 rfl rfl)
theorem dX17_knows_6 : decode cX17_knows 6 = .ok (.aload_n 0, 1) := dk_42 (dk_at dksX17_knows_0 6 rfl rfl)
theorem dX17_knows_7 : decode cX17_knows 7 = .ok (.iload_n 1, 1) := dk_27 (dk_at dksX17_knows_0 7 rfl rfl)
theorem dX17_knows_8 : decode cX17_knows 8 = .ok (.invokespecial 23, 3) := dk_183 0 23 (dk_at dksX17_knows_0 8 rfl rfl)
theorem dX17_knows_11 : decode cX17_knows 11 = .ok (.iconst 3, 1) := dk_6 (dk_at dksX17_knows_0 11 rfl rfl)
theorem dX17_knows_12 : decode cX17_knows 12 = .ok (.imul, 1) := dk_104 (dk_at dksX17_knows_0 12 rfl rfl)
theorem dX17_knows_13 : decode cX17_knows 13 = .ok (.ireturn, 1) := dk_172 (dk_at dksX17_knows_0 13 rfl rfl)
abbrev cX17_isUnder : ByteArray := prog_23_method_3_code
def yX17_isUnder : MethodName := ⟨RX17, "isUnder", "(I)Z"⟩
def dkwX17_isUnder_0 : List UInt8 := [27, 6, 159, 0, 11, 42, 27, 183, 0, 15, 153, 0, 7, 4, 167, 0, 4, 3, 172]
abbrev dktX17_isUnder_0 : List UInt8 := dkwX17_isUnder_0 ++ []
theorem dksX17_isUnder_0 : cX17_isUnder.data.toList.drop 0 = dktX17_isUnder_0 := by decide +kernel
theorem dX17_isUnder_0 : decode cX17_isUnder 0 = .ok (.iload_n 1, 1) := dk_27 (dk_at dksX17_isUnder_0 0 rfl rfl)
theorem dX17_isUnder_1 : decode cX17_isUnder 1 = .ok (.iconst 3, 1) := dk_6 (dk_at dksX17_isUnder_0 1 rfl rfl)
theorem dX17_isUnder_2 : decode cX17_isUnder 2 = .ok (.if_icmp .eq 11, 3) := dk_159 0 11 (dk_at dksX17_isUnder_0 2 rfl rfl)
theorem dX17_isUnder_5 : decode cX17_isUnder 5 = .ok (.aload_n 0, 1) := dk_42 (dk_at dksX17_isUnder_0 5 rfl rfl)
theorem dX17_isUnder_6 : decode cX17_isUnder 6 = .ok (.iload_n 1, 1) := dk_27 (dk_at dksX17_isUnder_0 6 rfl rfl)
theorem dX17_isUnder_7 : decode cX17_isUnder 7 = .ok (.invokespecial 15, 3) := dk_183 0 15 (dk_at dksX17_isUnder_0 7 rfl rfl)
theorem dX17_isUnder_10 : decode cX17_isUnder 10 = .ok (.ifCond .eq 7, 3) := dk_153 0 7 (dk_at dksX17_isUnder_0 10 rfl rfl)
theorem dX17_isUnder_13 : decode cX17_isUnder 13 = .ok (.iconst 1, 1) := dk_4 (dk_at dksX17_isUnder_0 13 rfl rfl)
theorem dX17_isUnder_14 : decode cX17_isUnder 14 = .ok (.goto 4, 3) := dk_167 0 4 (dk_at dksX17_isUnder_0 14 rfl rfl)
theorem dX17_isUnder_17 : decode cX17_isUnder 17 = .ok (.iconst 0, 1) := dk_3 (dk_at dksX17_isUnder_0 17 rfl rfl)
theorem dX17_isUnder_18 : decode cX17_isUnder 18 = .ok (.ireturn, 1) := dk_172 (dk_at dksX17_isUnder_0 18 rfl rfl)
abbrev cX17_kind : ByteArray := prog_23_method_2_code
def yX17_kind : MethodName := ⟨RX17, "kind", "()I"⟩
theorem dX17_kind_0 : decode cX17_kind 0 = .ok (.iconst 3, 1) := by decide +kernel
theorem dX17_kind_1 : decode cX17_kind 1 = .ok (.ireturn, 1) := by decide +kernel
theorem q124 : (Jvm.Cond.initialized "NameRests$Wish") ∈ lw_all := lw_g (lw_at lw_m1 22 rfl) rfl
theorem q847 : (Jvm.Cond.instantiable "NameRests$Wish" (4 : Nat)) ∈ lw_all := lw_g (lw_at lw_m4 25 rfl) rfl
theorem q849 : (Jvm.Cond.instanceMethod ({ cls := "NameRests$Wish", name := "<init>", desc := "(LNameRests;I)V" } : Jvm.MethodName)) ∈ lw_all := lw_g (lw_at lw_m4 27 rfl) rfl
theorem q850 : (Jvm.Cond.code ({ cls := "NameRests$Wish", name := "<init>", desc := "(LNameRests;I)V" } : Jvm.MethodName) prog_23_method_1_code (3 : Nat) (Option.none : Option Jvm.ClassFile.FieldType)) ∈ lw_all := lw_g (lw_at lw_m4 28 rfl) rfl
theorem q851 : (Jvm.Cond.methodLink "NameRests$Wish" (9 : Nat) ({ cls := "NameRests$Soon", name := "<init>", desc := "(LNameRests;I)V" } : Jvm.MethodName)) ∈ lw_all := lw_g (lw_at lw_m4 29 rfl) rfl
theorem q852 : (Jvm.Cond.fieldLink "NameRests$Wish" (3 : Nat) "NameRests$Wish" "this$0" "LNameRests;") ∈ lw_all := lw_g (lw_at lw_m4 30 rfl) rfl
theorem q853 : (Jvm.Cond.laysFinal "NameRests$Wish" "NameRests$Wish" "this$0" "LNameRests;") ∈ lw_all := lw_g (lw_at lw_m4 31 rfl) rfl
theorem q854 : (Jvm.Cond.soleField "NameRests$Wish" "this$0") ∈ lw_all := lw_g (lw_at lw_m4 32 rfl) rfl
theorem q855 : (Jvm.Cond.laysFinal "NameRests$Wish" "NameRests$Soon" "this$0" "LNameRests;") ∈ lw_all := lw_g (lw_at lw_m4 33 rfl) rfl
theorem q856 : (Jvm.Cond.laysFinal "NameRests$Wish" "NameRests$Body" "number" "I") ∈ lw_all := lw_g (lw_at lw_m4 34 rfl) rfl
theorem q857 : (Jvm.Cond.laysFinal "NameRests$Wish" "NameRests$Body" "this$0" "LNameRests;") ∈ lw_all := lw_g (lw_at lw_m4 35 rfl) rfl
theorem q858 : (Jvm.Cond.superclass "NameRests$Wish" "NameRests$Soon") ∈ lw_all := lw_g (lw_at lw_m4 36 rfl) rfl
theorem q964 : (Jvm.Cond.castable "NameRests$Wish" "NameRests$Gives") ∈ lw_tbl := lw_at lw_m4 142 rfl
theorem q965 : (Jvm.Cond.selects "NameRests$Wish" ({ cls := "NameRests$Gives", name := "begins", desc := "(I)V" } : Jvm.MethodName) ({ cls := "NameRests$Body", name := "begins", desc := "(I)V" } : Jvm.MethodName)) ∈ lw_all := lw_g (lw_at lw_m4 143 rfl) rfl
theorem q966 : (Jvm.Cond.unhidden "NameRests$Wish" "begins" "(I)V") ∈ lw_tbl := lw_at lw_m4 144 rfl
theorem q988 : (Jvm.Cond.selects "NameRests$Wish" ({ cls := "NameRests$Gives", name := "number", desc := "()I" } : Jvm.MethodName) ({ cls := "NameRests$Body", name := "number", desc := "()I" } : Jvm.MethodName)) ∈ lw_all := lw_g (lw_at lw_m4 166 rfl) rfl
theorem q989 : (Jvm.Cond.unhidden "NameRests$Wish" "number" "()I") ∈ lw_tbl := lw_at lw_m4 167 rfl
theorem q1007 : (Jvm.Cond.unhidden "NameRests$Wish" "gives" "(I)I") ∈ lw_tbl := lw_at lw_m4 185 rfl
theorem q1014 : (Jvm.Cond.instanceMethod ({ cls := "NameRests$Wish", name := "holds", desc := "(I)I" } : Jvm.MethodName)) ∈ lw_all := lw_g (lw_at lw_m4 192 rfl) rfl
theorem q1015 : (Jvm.Cond.code ({ cls := "NameRests$Wish", name := "holds", desc := "(I)I" } : Jvm.MethodName) prog_23_method_5_code (2 : Nat) (Option.some Jvm.ClassFile.FieldType.int)) ∈ lw_all := lw_g (lw_at lw_m4 193 rfl) rfl
theorem q1016 : (Jvm.Cond.methodLink "NameRests$Wish" (19 : Nat) ({ cls := "NameRests$Wish", name := "begins", desc := "(I)V" } : Jvm.MethodName)) ∈ lw_all := lw_g (lw_at lw_m4 194 rfl) rfl
theorem q1017 : (Jvm.Cond.sameMethod "NameRests$Wish" "NameRests$Body" "begins" "(I)V") ∈ lw_all := lw_g (lw_at lw_m4 195 rfl) rfl
theorem q1019 : (Jvm.Cond.selects "NameRests$Wish" ({ cls := "NameRests$Wish", name := "begins", desc := "(I)V" } : Jvm.MethodName) ({ cls := "NameRests$Body", name := "begins", desc := "(I)V" } : Jvm.MethodName)) ∈ lw_all := lw_g (lw_at lw_m4 197 rfl) rfl
theorem q1020 : (Jvm.Cond.methodLink "NameRests$Wish" (27 : Nat) ({ cls := "NameRests$Soon", name := "holds", desc := "(I)I" } : Jvm.MethodName)) ∈ lw_all := lw_g (lw_at lw_m4 198 rfl) rfl
theorem q1027 : (Jvm.Cond.selects "NameRests$Wish" ({ cls := "NameRests$Soon", name := "begins", desc := "(I)V" } : Jvm.MethodName) ({ cls := "NameRests$Body", name := "begins", desc := "(I)V" } : Jvm.MethodName)) ∈ lw_all := lw_g (lw_at lw_m4 205 rfl) rfl
theorem q1046 : (Jvm.Cond.selects "NameRests$Wish" ({ cls := "NameRests$Body", name := "holds", desc := "(I)I" } : Jvm.MethodName) ({ cls := "NameRests$Wish", name := "holds", desc := "(I)I" } : Jvm.MethodName)) ∈ lw_all := lw_g (lw_at lw_m4 224 rfl) rfl
theorem q1055 : (Jvm.Cond.instanceMethod ({ cls := "NameRests$Wish", name := "knows", desc := "(I)I" } : Jvm.MethodName)) ∈ lw_all := lw_g (lw_at lw_m4 233 rfl) rfl
theorem q1056 : (Jvm.Cond.code ({ cls := "NameRests$Wish", name := "knows", desc := "(I)I" } : Jvm.MethodName) prog_23_method_4_code (2 : Nat) (Option.some Jvm.ClassFile.FieldType.int)) ∈ lw_all := lw_g (lw_at lw_m4 234 rfl) rfl
theorem q1057 : (Jvm.Cond.methodLink "NameRests$Wish" (23 : Nat) ({ cls := "NameRests$Soon", name := "knows", desc := "(I)I" } : Jvm.MethodName)) ∈ lw_all := lw_g (lw_at lw_m4 235 rfl) rfl
theorem q1083 : (Jvm.Cond.castable "NameRests$Wish" "NameRests$Tells") ∈ lw_tbl := lw_at lw_m5 21 rfl
theorem q1084 : (Jvm.Cond.selects "NameRests$Wish" ({ cls := "NameRests$Tells", name := "begins", desc := "(I)V" } : Jvm.MethodName) ({ cls := "NameRests$Body", name := "begins", desc := "(I)V" } : Jvm.MethodName)) ∈ lw_all := lw_g (lw_at lw_m5 22 rfl) rfl
theorem q1091 : (Jvm.Cond.publicMethod ({ cls := "NameRests$Wish", name := "holds", desc := "(I)I" } : Jvm.MethodName)) ∈ lw_tbl := lw_at lw_m5 29 rfl
theorem q1107 : (Jvm.Cond.selects "NameRests$Wish" ({ cls := "NameRests$Tells", name := "holds", desc := "(I)I" } : Jvm.MethodName) ({ cls := "NameRests$Wish", name := "holds", desc := "(I)I" } : Jvm.MethodName)) ∈ lw_all := lw_g (lw_at lw_m5 45 rfl) rfl
theorem q1108 : (Jvm.Cond.unhidden "NameRests$Wish" "holds" "(I)I") ∈ lw_tbl := lw_at lw_m5 46 rfl
theorem q1129 : (Jvm.Cond.selects "NameRests$Wish" ({ cls := "NameRests$Tells", name := "knows", desc := "(I)I" } : Jvm.MethodName) ({ cls := "NameRests$Wish", name := "knows", desc := "(I)I" } : Jvm.MethodName)) ∈ lw_all := lw_g (lw_at lw_m5 67 rfl) rfl
theorem q1130 : (Jvm.Cond.unhidden "NameRests$Wish" "knows" "(I)I") ∈ lw_tbl := lw_at lw_m5 68 rfl
theorem q1131 : (Jvm.Cond.publicMethod ({ cls := "NameRests$Wish", name := "knows", desc := "(I)I" } : Jvm.MethodName)) ∈ lw_tbl := lw_at lw_m5 69 rfl
theorem q1143 : (Jvm.Cond.unhidden "NameRests$Wish" "tells" "(I)I") ∈ lw_tbl := lw_at lw_m5 81 rfl
theorem q1200 : (Jvm.Cond.instanceMethod ({ cls := "NameRests$Wish", name := "isUnder", desc := "(I)Z" } : Jvm.MethodName)) ∈ lw_all := lw_g (lw_at lw_m5 138 rfl) rfl
theorem q1201 : (Jvm.Cond.code ({ cls := "NameRests$Wish", name := "isUnder", desc := "(I)Z" } : Jvm.MethodName) prog_23_method_3_code (2 : Nat) (Option.some Jvm.ClassFile.FieldType.boolean)) ∈ lw_all := lw_g (lw_at lw_m5 139 rfl) rfl
theorem q1202 : (Jvm.Cond.methodLink "NameRests$Wish" (15 : Nat) ({ cls := "NameRests$Soon", name := "isUnder", desc := "(I)Z" } : Jvm.MethodName)) ∈ lw_all := lw_g (lw_at lw_m5 140 rfl) rfl
theorem q1223 : (Jvm.Cond.selects "NameRests$Wish" ({ cls := "NameRests$Body", name := "isUnder", desc := "(I)Z" } : Jvm.MethodName) ({ cls := "NameRests$Wish", name := "isUnder", desc := "(I)Z" } : Jvm.MethodName)) ∈ lw_all := lw_g (lw_at lw_m5 161 rfl) rfl
theorem q1247 : (Jvm.Cond.selects "NameRests$Wish" ({ cls := "NameRests$Body", name := "kind", desc := "()I" } : Jvm.MethodName) ({ cls := "NameRests$Wish", name := "kind", desc := "()I" } : Jvm.MethodName)) ∈ lw_all := lw_g (lw_at lw_m5 185 rfl) rfl
theorem q1248 : (Jvm.Cond.instanceMethod ({ cls := "NameRests$Wish", name := "kind", desc := "()I" } : Jvm.MethodName)) ∈ lw_all := lw_g (lw_at lw_m5 186 rfl) rfl
theorem q1249 : (Jvm.Cond.code ({ cls := "NameRests$Wish", name := "kind", desc := "()I" } : Jvm.MethodName) prog_23_method_2_code (1 : Nat) (Option.some Jvm.ClassFile.FieldType.int)) ∈ lw_all := lw_g (lw_at lw_m5 187 rfl) rfl
theorem q1821 : (Jvm.Cond.selects "NameRests$Wish" ({ cls := "NameRests$Body", name := "begins", desc := "(I)V" } : Jvm.MethodName) ({ cls := "NameRests$Body", name := "begins", desc := "(I)V" } : Jvm.MethodName)) ∈ lw_all := lw_g (lw_at lw_m8 39 rfl) rfl
theorem q1824 : (Jvm.Cond.sameMethod "NameRests$Wish" "NameRests$Wish" "knows" "(I)I") ∈ lw_all := lw_g (lw_at lw_m8 42 rfl) rfl
theorem q1831 : (Jvm.Cond.selects "NameRests$Wish" ({ cls := "NameRests$Body", name := "knows", desc := "(I)I" } : Jvm.MethodName) ({ cls := "NameRests$Wish", name := "knows", desc := "(I)I" } : Jvm.MethodName)) ∈ lw_all := lw_g (lw_at lw_m8 49 rfl) rfl
theorem q1832 : (Jvm.Cond.sameMethod "NameRests$Wish" "NameRests$Wish" "isUnder" "(I)Z") ∈ lw_all := lw_g (lw_at lw_m8 50 rfl) rfl
theorem q1842 : (Jvm.Cond.castable "NameRests$Wish" "NameRests$Body") ∈ lw_tbl := lw_at lw_m8 60 rfl
theorem q1858 : (Jvm.Cond.castable "NameRests$Wish" "java/lang/Object") ∈ lw_tbl := lw_at lw_m8 76 rfl
theorem in_X17 : ∀ w ∈ wsX170, w ∈ lw_all := lw_in wsX170 [856, 857, 855, 853] (by decide +kernel) (by decide +kernel)

/-! NameRests$Blind -/
set_option maxRecDepth 100000
def RX18 : String := "NameRests$Blind"
def TX18 : u_T := fun k => match k with
  | 0 => ("NameRests$Body", "number", "I", true)
  | 1 => ("NameRests$Body", "this$0", "LNameRests;", true)
  | 2 => ("NameRests$First", "this$0", "LNameRests;", true)
  | _ => ("NameRests$Blind", "this$0", "LNameRests;", true)
def tyX18 : Nat → FieldType := fun k => match k with
  | 0 => .int
  | 1 => .object "NameRests"
  | 2 => .object "NameRests"
  | _ => .object "NameRests"
abbrev wsX180 : List Cond := u_ws RX18 TX18 4
-- two fields of one name: no nmX18
theorem tyX18_ok : ∀ k, k < 4 → parseFieldDescriptor (TX18 k).2.2.1 = some (tyX18 k) := by decide +kernel
abbrev cX18_init : ByteArray := prog_3_method_1_code
def yX18_init : MethodName := ⟨RX18, "<init>", "(LNameRests;I)V"⟩
def dkwX18_init_0 : List UInt8 := [42, 43, 181, 0, 3, 42, 43, 28, 183, 0, 9, 177]
abbrev dktX18_init_0 : List UInt8 := dkwX18_init_0 ++ []
theorem dksX18_init_0 : cX18_init.data.toList.drop 0 = dktX18_init_0 := by decide +kernel
theorem dX18_init_0 : decode cX18_init 0 = .ok (.aload_n 0, 1) := dk_42 (dk_at dksX18_init_0 0 rfl rfl)
theorem dX18_init_1 : decode cX18_init 1 = .ok (.aload_n 1, 1) := dk_43 (dk_at dksX18_init_0 1 rfl rfl)
theorem dX18_init_2 : decode cX18_init 2 = .ok (.putfield 3, 3) := dk_181 0 3 (dk_at dksX18_init_0 2 rfl rfl)
theorem dX18_init_5 : decode cX18_init 5 = .ok (.aload_n 0, 1) := dk_42 (dk_at dksX18_init_0 5 rfl rfl)
theorem dX18_init_6 : decode cX18_init 6 = .ok (.aload_n 1, 1) := dk_43 (dk_at dksX18_init_0 6 rfl rfl)
theorem dX18_init_7 : decode cX18_init 7 = .ok (.iload_n 2, 1) := dk_28 (dk_at dksX18_init_0 7 rfl rfl)
theorem dX18_init_8 : decode cX18_init 8 = .ok (.invokespecial 9, 3) := dk_183 0 9 (dk_at dksX18_init_0 8 rfl rfl)
theorem dX18_init_11 : decode cX18_init 11 = .ok (.return_, 1) := dk_177 (dk_at dksX18_init_0 11 rfl rfl)
abbrev cX18_tells : ByteArray := prog_3_method_4_code
def yX18_tells : MethodName := ⟨RX18, "tells", "(I)I"⟩
def dkwX18_tells_0 : List UInt8 := [42, 16, 50, 182, 0, 19, 42, 27, 183, 0, 23, 8, 130, 172]
abbrev dktX18_tells_0 : List UInt8 := dkwX18_tells_0 ++ []
theorem dksX18_tells_0 : cX18_tells.data.toList.drop 0 = dktX18_tells_0 := by decide +kernel
theorem dX18_tells_0 : decode cX18_tells 0 = .ok (.aload_n 0, 1) := dk_42 (dk_at dksX18_tells_0 0 rfl rfl)
theorem dX18_tells_1 : decode cX18_tells 1 = .ok (.bipush 50, 2) := dk_16 50 (dk_at dksX18_tells_0 1 rfl rfl)
theorem dX18_tells_3 : decode cX18_tells 3 = .ok (.invokevirtual 19, 3) := dk_182 0 19 (dk_at dksX18_tells_0 3 rfl rfl)
theorem dX18_tells_6 : decode cX18_tells 6 = .ok (.aload_n 0, 1) := dk_42 (dk_at dksX18_tells_0 6 rfl rfl)
theorem dX18_tells_7 : decode cX18_tells 7 = .ok (.iload_n 1, 1) := dk_27 (dk_at dksX18_tells_0 7 rfl rfl)
theorem dX18_tells_8 : decode cX18_tells 8 = .ok (.invokespecial 23, 3) := dk_183 0 23 (dk_at dksX18_tells_0 8 rfl rfl)
theorem dX18_tells_11 : decode cX18_tells 11 = .ok (.iconst 5, 1) := dk_8 (dk_at dksX18_tells_0 11 rfl rfl)
theorem dX18_tells_12 : decode cX18_tells 12 = .ok (.ixor, 1) := dk_130 (dk_at dksX18_tells_0 12 rfl rfl)
theorem dX18_tells_13 : decode cX18_tells 13 = .ok (.ireturn, 1) := dk_172 (dk_at dksX18_tells_0 13 rfl rfl)
abbrev cX18_isUnder : ByteArray := prog_3_method_3_code
def yX18_isUnder : MethodName := ⟨RX18, "isUnder", "(I)Z"⟩
def dkwX18_isUnder_0 : List UInt8 := [27, 7, 159, 0, 11, 42, 27, 183, 0, 15, 153, 0, 7, 4, 167, 0, 4, 3, 172]
abbrev dktX18_isUnder_0 : List UInt8 := dkwX18_isUnder_0 ++ []
theorem dksX18_isUnder_0 : cX18_isUnder.data.toList.drop 0 = dktX18_isUnder_0 := by decide +kernel
theorem dX18_isUnder_0 : decode cX18_isUnder 0 = .ok (.iload_n 1, 1) := dk_27 (dk_at dksX18_isUnder_0 0 rfl rfl)
theorem dX18_isUnder_1 : decode cX18_isUnder 1 = .ok (.iconst 4, 1) := dk_7 (dk_at dksX18_isUnder_0 1 rfl rfl)
theorem dX18_isUnder_2 : decode cX18_isUnder 2 = .ok (.if_icmp .eq 11, 3) := dk_159 0 11 (dk_at dksX18_isUnder_0 2 rfl rfl)
theorem dX18_isUnder_5 : decode cX18_isUnder 5 = .ok (.aload_n 0, 1) := dk_42 (dk_at dksX18_isUnder_0 5 rfl rfl)
theorem dX18_isUnder_6 : decode cX18_isUnder 6 = .ok (.iload_n 1, 1) := dk_27 (dk_at dksX18_isUnder_0 6 rfl rfl)
theorem dX18_isUnder_7 : decode cX18_isUnder 7 = .ok (.invokespecial 15, 3) := dk_183 0 15 (dk_at dksX18_isUnder_0 7 rfl rfl)
theorem dX18_isUnder_10 : decode cX18_isUnder 10 = .ok (.ifCond .eq 7, 3) := dk_153 0 7 (dk_at dksX18_isUnder_0 10 rfl rfl)
theorem dX18_isUnder_13 : decode cX18_isUnder 13 = .ok (.iconst 1, 1) := dk_4 (dk_at dksX18_isUnder_0 13 rfl rfl)
theorem dX18_isUnder_14 : decode cX18_isUnder 14 = .ok (.goto 4, 3) := dk_167 0 4 (dk_at dksX18_isUnder_0 14 rfl rfl)
theorem dX18_isUnder_17 : decode cX18_isUnder 17 = .ok (.iconst 0, 1) := dk_3 (dk_at dksX18_isUnder_0 17 rfl rfl)
theorem dX18_isUnder_18 : decode cX18_isUnder 18 = .ok (.ireturn, 1) := dk_172 (dk_at dksX18_isUnder_0 18 rfl rfl)
abbrev cX18_kind : ByteArray := prog_3_method_2_code
def yX18_kind : MethodName := ⟨RX18, "kind", "()I"⟩
theorem dX18_kind_0 : decode cX18_kind 0 = .ok (.iconst 4, 1) := by decide +kernel
theorem dX18_kind_1 : decode cX18_kind 1 = .ok (.ireturn, 1) := by decide +kernel
theorem q125 : (Jvm.Cond.initialized "NameRests$Blind") ∈ lw_all := lw_g (lw_at lw_m1 23 rfl) rfl
theorem q860 : (Jvm.Cond.instantiable "NameRests$Blind" (4 : Nat)) ∈ lw_all := lw_g (lw_at lw_m4 38 rfl) rfl
theorem q862 : (Jvm.Cond.instanceMethod ({ cls := "NameRests$Blind", name := "<init>", desc := "(LNameRests;I)V" } : Jvm.MethodName)) ∈ lw_all := lw_g (lw_at lw_m4 40 rfl) rfl
theorem q863 : (Jvm.Cond.code ({ cls := "NameRests$Blind", name := "<init>", desc := "(LNameRests;I)V" } : Jvm.MethodName) prog_3_method_1_code (3 : Nat) (Option.none : Option Jvm.ClassFile.FieldType)) ∈ lw_all := lw_g (lw_at lw_m4 41 rfl) rfl
theorem q864 : (Jvm.Cond.methodLink "NameRests$Blind" (9 : Nat) ({ cls := "NameRests$First", name := "<init>", desc := "(LNameRests;I)V" } : Jvm.MethodName)) ∈ lw_all := lw_g (lw_at lw_m4 42 rfl) rfl
theorem q865 : (Jvm.Cond.fieldLink "NameRests$Blind" (3 : Nat) "NameRests$Blind" "this$0" "LNameRests;") ∈ lw_all := lw_g (lw_at lw_m4 43 rfl) rfl
theorem q866 : (Jvm.Cond.laysFinal "NameRests$Blind" "NameRests$Blind" "this$0" "LNameRests;") ∈ lw_all := lw_g (lw_at lw_m4 44 rfl) rfl
theorem q867 : (Jvm.Cond.soleField "NameRests$Blind" "this$0") ∈ lw_all := lw_g (lw_at lw_m4 45 rfl) rfl
theorem q868 : (Jvm.Cond.laysFinal "NameRests$Blind" "NameRests$First" "this$0" "LNameRests;") ∈ lw_all := lw_g (lw_at lw_m4 46 rfl) rfl
theorem q869 : (Jvm.Cond.laysFinal "NameRests$Blind" "NameRests$Body" "number" "I") ∈ lw_all := lw_g (lw_at lw_m4 47 rfl) rfl
theorem q870 : (Jvm.Cond.laysFinal "NameRests$Blind" "NameRests$Body" "this$0" "LNameRests;") ∈ lw_all := lw_g (lw_at lw_m4 48 rfl) rfl
theorem q871 : (Jvm.Cond.superclass "NameRests$Blind" "NameRests$First") ∈ lw_all := lw_g (lw_at lw_m4 49 rfl) rfl
theorem q926 : (Jvm.Cond.selects "NameRests$Blind" ({ cls := "NameRests$Gives", name := "gives", desc := "(I)I" } : Jvm.MethodName) ({ cls := "NameRests$First", name := "gives", desc := "(I)I" } : Jvm.MethodName)) ∈ lw_all := lw_g (lw_at lw_m4 104 rfl) rfl
theorem q932 : (Jvm.Cond.selects "NameRests$Blind" ({ cls := "NameRests$First", name := "begins", desc := "(I)V" } : Jvm.MethodName) ({ cls := "NameRests$Body", name := "begins", desc := "(I)V" } : Jvm.MethodName)) ∈ lw_all := lw_g (lw_at lw_m4 110 rfl) rfl
theorem q946 : (Jvm.Cond.castable "NameRests$Blind" "NameRests$Gives") ∈ lw_tbl := lw_at lw_m4 124 rfl
theorem q947 : (Jvm.Cond.selects "NameRests$Blind" ({ cls := "NameRests$Gives", name := "begins", desc := "(I)V" } : Jvm.MethodName) ({ cls := "NameRests$Body", name := "begins", desc := "(I)V" } : Jvm.MethodName)) ∈ lw_all := lw_g (lw_at lw_m4 125 rfl) rfl
theorem q948 : (Jvm.Cond.unhidden "NameRests$Blind" "begins" "(I)V") ∈ lw_tbl := lw_at lw_m4 126 rfl
theorem q976 : (Jvm.Cond.selects "NameRests$Blind" ({ cls := "NameRests$Gives", name := "number", desc := "()I" } : Jvm.MethodName) ({ cls := "NameRests$Body", name := "number", desc := "()I" } : Jvm.MethodName)) ∈ lw_all := lw_g (lw_at lw_m4 154 rfl) rfl
theorem q977 : (Jvm.Cond.unhidden "NameRests$Blind" "number" "()I") ∈ lw_tbl := lw_at lw_m4 155 rfl
theorem q1029 : (Jvm.Cond.selects "NameRests$Blind" ({ cls := "NameRests$Body", name := "holds", desc := "(I)I" } : Jvm.MethodName) ({ cls := "NameRests$Body", name := "holds", desc := "(I)I" } : Jvm.MethodName)) ∈ lw_all := lw_g (lw_at lw_m4 207 rfl) rfl
theorem q1071 : (Jvm.Cond.castable "NameRests$Blind" "NameRests$Tells") ∈ lw_tbl := lw_at lw_m5 9 rfl
theorem q1072 : (Jvm.Cond.selects "NameRests$Blind" ({ cls := "NameRests$Tells", name := "begins", desc := "(I)V" } : Jvm.MethodName) ({ cls := "NameRests$Body", name := "begins", desc := "(I)V" } : Jvm.MethodName)) ∈ lw_all := lw_g (lw_at lw_m5 10 rfl) rfl
theorem q1092 : (Jvm.Cond.selects "NameRests$Blind" ({ cls := "NameRests$Tells", name := "holds", desc := "(I)I" } : Jvm.MethodName) ({ cls := "NameRests$Body", name := "holds", desc := "(I)I" } : Jvm.MethodName)) ∈ lw_all := lw_g (lw_at lw_m5 30 rfl) rfl
theorem q1093 : (Jvm.Cond.unhidden "NameRests$Blind" "holds" "(I)I") ∈ lw_tbl := lw_at lw_m5 31 rfl
theorem q1116 : (Jvm.Cond.selects "NameRests$Blind" ({ cls := "NameRests$Tells", name := "knows", desc := "(I)I" } : Jvm.MethodName) ({ cls := "NameRests$Body", name := "knows", desc := "(I)I" } : Jvm.MethodName)) ∈ lw_all := lw_g (lw_at lw_m5 54 rfl) rfl
theorem q1117 : (Jvm.Cond.unhidden "NameRests$Blind" "knows" "(I)I") ∈ lw_tbl := lw_at lw_m5 55 rfl
theorem q1132 : (Jvm.Cond.selects "NameRests$Blind" ({ cls := "NameRests$Tells", name := "tells", desc := "(I)I" } : Jvm.MethodName) ({ cls := "NameRests$Blind", name := "tells", desc := "(I)I" } : Jvm.MethodName)) ∈ lw_all := lw_g (lw_at lw_m5 70 rfl) rfl
theorem q1133 : (Jvm.Cond.instanceMethod ({ cls := "NameRests$Blind", name := "tells", desc := "(I)I" } : Jvm.MethodName)) ∈ lw_all := lw_g (lw_at lw_m5 71 rfl) rfl
theorem q1134 : (Jvm.Cond.code ({ cls := "NameRests$Blind", name := "tells", desc := "(I)I" } : Jvm.MethodName) prog_3_method_4_code (2 : Nat) (Option.some Jvm.ClassFile.FieldType.int)) ∈ lw_all := lw_g (lw_at lw_m5 72 rfl) rfl
theorem q1135 : (Jvm.Cond.methodLink "NameRests$Blind" (19 : Nat) ({ cls := "NameRests$Blind", name := "begins", desc := "(I)V" } : Jvm.MethodName)) ∈ lw_all := lw_g (lw_at lw_m5 73 rfl) rfl
theorem q1136 : (Jvm.Cond.sameMethod "NameRests$Blind" "NameRests$Body" "begins" "(I)V") ∈ lw_all := lw_g (lw_at lw_m5 74 rfl) rfl
theorem q1137 : (Jvm.Cond.selects "NameRests$Blind" ({ cls := "NameRests$Blind", name := "begins", desc := "(I)V" } : Jvm.MethodName) ({ cls := "NameRests$Body", name := "begins", desc := "(I)V" } : Jvm.MethodName)) ∈ lw_all := lw_g (lw_at lw_m5 75 rfl) rfl
theorem q1206 : (Jvm.Cond.selects "NameRests$Blind" ({ cls := "NameRests$Body", name := "isUnder", desc := "(I)Z" } : Jvm.MethodName) ({ cls := "NameRests$Blind", name := "isUnder", desc := "(I)Z" } : Jvm.MethodName)) ∈ lw_all := lw_g (lw_at lw_m5 144 rfl) rfl
theorem q1207 : (Jvm.Cond.instanceMethod ({ cls := "NameRests$Blind", name := "isUnder", desc := "(I)Z" } : Jvm.MethodName)) ∈ lw_all := lw_g (lw_at lw_m5 145 rfl) rfl
theorem q1208 : (Jvm.Cond.code ({ cls := "NameRests$Blind", name := "isUnder", desc := "(I)Z" } : Jvm.MethodName) prog_3_method_3_code (2 : Nat) (Option.some Jvm.ClassFile.FieldType.boolean)) ∈ lw_all := lw_g (lw_at lw_m5 146 rfl) rfl
theorem q1209 : (Jvm.Cond.methodLink "NameRests$Blind" (15 : Nat) ({ cls := "NameRests$First", name := "isUnder", desc := "(I)Z" } : Jvm.MethodName)) ∈ lw_all := lw_g (lw_at lw_m5 147 rfl) rfl
theorem q1232 : (Jvm.Cond.selects "NameRests$Blind" ({ cls := "NameRests$Body", name := "kind", desc := "()I" } : Jvm.MethodName) ({ cls := "NameRests$Blind", name := "kind", desc := "()I" } : Jvm.MethodName)) ∈ lw_all := lw_g (lw_at lw_m5 170 rfl) rfl
theorem q1233 : (Jvm.Cond.instanceMethod ({ cls := "NameRests$Blind", name := "kind", desc := "()I" } : Jvm.MethodName)) ∈ lw_all := lw_g (lw_at lw_m5 171 rfl) rfl
theorem q1234 : (Jvm.Cond.code ({ cls := "NameRests$Blind", name := "kind", desc := "()I" } : Jvm.MethodName) prog_3_method_2_code (1 : Nat) (Option.some Jvm.ClassFile.FieldType.int)) ∈ lw_all := lw_g (lw_at lw_m5 172 rfl) rfl
theorem q1815 : (Jvm.Cond.selects "NameRests$Blind" ({ cls := "NameRests$Body", name := "begins", desc := "(I)V" } : Jvm.MethodName) ({ cls := "NameRests$Body", name := "begins", desc := "(I)V" } : Jvm.MethodName)) ∈ lw_all := lw_g (lw_at lw_m8 33 rfl) rfl
theorem q1825 : (Jvm.Cond.selects "NameRests$Blind" ({ cls := "NameRests$Body", name := "knows", desc := "(I)I" } : Jvm.MethodName) ({ cls := "NameRests$Body", name := "knows", desc := "(I)I" } : Jvm.MethodName)) ∈ lw_all := lw_g (lw_at lw_m8 43 rfl) rfl
theorem q1837 : (Jvm.Cond.castable "NameRests$Blind" "NameRests$Body") ∈ lw_tbl := lw_at lw_m8 55 rfl
theorem q1859 : (Jvm.Cond.castable "NameRests$Blind" "java/lang/Object") ∈ lw_tbl := lw_at lw_m8 77 rfl
theorem in_X18 : ∀ w ∈ wsX180, w ∈ lw_all := lw_in wsX180 [869, 870, 868, 866] (by decide +kernel) (by decide +kernel)

/-! NameRests$Best -/
set_option maxRecDepth 100000
def RX19 : String := "NameRests$Best"
def TX19 : u_T := fun k => match k with
  | 0 => ("NameRests$Body", "number", "I", true)
  | 1 => ("NameRests$Body", "this$0", "LNameRests;", true)
  | 2 => ("NameRests$Soon", "this$0", "LNameRests;", true)
  | 3 => ("NameRests$Wish", "this$0", "LNameRests;", true)
  | _ => ("NameRests$Best", "this$0", "LNameRests;", true)
def tyX19 : Nat → FieldType := fun k => match k with
  | 0 => .int
  | 1 => .object "NameRests"
  | 2 => .object "NameRests"
  | 3 => .object "NameRests"
  | _ => .object "NameRests"
abbrev wsX190 : List Cond := u_ws RX19 TX19 5
-- two fields of one name: no nmX19
theorem tyX19_ok : ∀ k, k < 5 → parseFieldDescriptor (TX19 k).2.2.1 = some (tyX19 k) := by decide +kernel
abbrev cX19_init : ByteArray := prog_2_method_1_code
def yX19_init : MethodName := ⟨RX19, "<init>", "(LNameRests;I)V"⟩
def dkwX19_init_0 : List UInt8 := [42, 43, 181, 0, 3, 42, 43, 28, 183, 0, 9, 177]
abbrev dktX19_init_0 : List UInt8 := dkwX19_init_0 ++ []
theorem dksX19_init_0 : cX19_init.data.toList.drop 0 = dktX19_init_0 := by decide +kernel
theorem dX19_init_0 : decode cX19_init 0 = .ok (.aload_n 0, 1) := dk_42 (dk_at dksX19_init_0 0 rfl rfl)
theorem dX19_init_1 : decode cX19_init 1 = .ok (.aload_n 1, 1) := dk_43 (dk_at dksX19_init_0 1 rfl rfl)
theorem dX19_init_2 : decode cX19_init 2 = .ok (.putfield 3, 3) := dk_181 0 3 (dk_at dksX19_init_0 2 rfl rfl)
theorem dX19_init_5 : decode cX19_init 5 = .ok (.aload_n 0, 1) := dk_42 (dk_at dksX19_init_0 5 rfl rfl)
theorem dX19_init_6 : decode cX19_init 6 = .ok (.aload_n 1, 1) := dk_43 (dk_at dksX19_init_0 6 rfl rfl)
theorem dX19_init_7 : decode cX19_init 7 = .ok (.iload_n 2, 1) := dk_28 (dk_at dksX19_init_0 7 rfl rfl)
theorem dX19_init_8 : decode cX19_init 8 = .ok (.invokespecial 9, 3) := dk_183 0 9 (dk_at dksX19_init_0 8 rfl rfl)
theorem dX19_init_11 : decode cX19_init 11 = .ok (.return_, 1) := dk_177 (dk_at dksX19_init_0 11 rfl rfl)
abbrev cX19_knows : ByteArray := prog_2_method_4_code
def yX19_knows : MethodName := ⟨RX19, "knows", "(I)I"⟩
def dkwX19_knows_0 : List UInt8 := [42, 16, 60, 182, 0, 19, 42, 27, 183, 0, 23, 61, 28, 42, 5, 182, 0, 27, 100, 172]
abbrev dktX19_knows_0 : List UInt8 := dkwX19_knows_0 ++ []
theorem dksX19_knows_0 : cX19_knows.data.toList.drop 0 = dktX19_knows_0 := by decide +kernel
theorem dX19_knows_0 : decode cX19_knows 0 = .ok (.aload_n 0, 1) := dk_42 (dk_at dksX19_knows_0 0 rfl rfl)
theorem dX19_knows_1 : decode cX19_knows 1 = .ok (.bipush 60, 2) := dk_16 60 (dk_at dksX19_knows_0 1 rfl rfl)
theorem dX19_knows_3 : decode cX19_knows 3 = .ok (.invokevirtual 19, 3) := dk_182 0 19 (dk_at dksX19_knows_0 3 rfl rfl)
theorem dX19_knows_6 : decode cX19_knows 6 = .ok (.aload_n 0, 1) := dk_42 (dk_at dksX19_knows_0 6 rfl rfl)
theorem dX19_knows_7 : decode cX19_knows 7 = .ok (.iload_n 1, 1) := dk_27 (dk_at dksX19_knows_0 7 rfl rfl)
theorem dX19_knows_8 : decode cX19_knows 8 = .ok (.invokespecial 23, 3) := dk_183 0 23 (dk_at dksX19_knows_0 8 rfl rfl)
theorem dX19_knows_11 : decode cX19_knows 11 = .ok (.istore_n 2, 1) := dk_61 (dk_at dksX19_knows_0 11 rfl rfl)
theorem dX19_knows_12 : decode cX19_knows 12 = .ok (.iload_n 2, 1) := dk_28 (dk_at dksX19_knows_0 12 rfl rfl)
theorem dX19_knows_13 : decode cX19_knows 13 = .ok (.aload_n 0, 1) := dk_42 (dk_at dksX19_knows_0 13 rfl rfl)
theorem dX19_knows_14 : decode cX19_knows 14 = .ok (.iconst 2, 1) := dk_5 (dk_at dksX19_knows_0 14 rfl rfl)
theorem dX19_knows_15 : decode cX19_knows 15 = .ok (.invokevirtual 27, 3) := dk_182 0 27 (dk_at dksX19_knows_0 15 rfl rfl)
theorem dX19_knows_18 : decode cX19_knows 18 = .ok (.isub, 1) := dk_100 (dk_at dksX19_knows_0 18 rfl rfl)
theorem dX19_knows_19 : decode cX19_knows 19 = .ok (.ireturn, 1) := dk_172 (dk_at dksX19_knows_0 19 rfl rfl)
abbrev cX19_tells : ByteArray := prog_2_method_5_code
def yX19_tells : MethodName := ⟨RX19, "tells", "(I)I"⟩
def dkwX19_tells_0 : List UInt8 := [42, 16, 61, 182, 0, 19, 42, 27, 183, 0, 30, 4, 96, 172]
abbrev dktX19_tells_0 : List UInt8 := dkwX19_tells_0 ++ []
theorem dksX19_tells_0 : cX19_tells.data.toList.drop 0 = dktX19_tells_0 := by decide +kernel
theorem dX19_tells_0 : decode cX19_tells 0 = .ok (.aload_n 0, 1) := dk_42 (dk_at dksX19_tells_0 0 rfl rfl)
theorem dX19_tells_1 : decode cX19_tells 1 = .ok (.bipush 61, 2) := dk_16 61 (dk_at dksX19_tells_0 1 rfl rfl)
theorem dX19_tells_3 : decode cX19_tells 3 = .ok (.invokevirtual 19, 3) := dk_182 0 19 (dk_at dksX19_tells_0 3 rfl rfl)
theorem dX19_tells_6 : decode cX19_tells 6 = .ok (.aload_n 0, 1) := dk_42 (dk_at dksX19_tells_0 6 rfl rfl)
theorem dX19_tells_7 : decode cX19_tells 7 = .ok (.iload_n 1, 1) := dk_27 (dk_at dksX19_tells_0 7 rfl rfl)
theorem dX19_tells_8 : decode cX19_tells 8 = .ok (.invokespecial 30, 3) := dk_183 0 30 (dk_at dksX19_tells_0 8 rfl rfl)
theorem dX19_tells_11 : decode cX19_tells 11 = .ok (.iconst 1, 1) := dk_4 (dk_at dksX19_tells_0 11 rfl rfl)
theorem dX19_tells_12 : decode cX19_tells 12 = .ok (.iadd, 1) := dk_96 (dk_at dksX19_tells_0 12 rfl rfl)
theorem dX19_tells_13 : decode cX19_tells 13 = .ok (.ireturn, 1) := dk_172 (dk_at dksX19_tells_0 13 rfl rfl)
abbrev cX19_isUnder : ByteArray := prog_2_method_3_code
def yX19_isUnder : MethodName := ⟨RX19, "isUnder", "(I)Z"⟩
def dkwX19_isUnder_0 : List UInt8 := [27, 8, 159, 0, 11, 42, 27, 183, 0, 15, 153, 0, 7, 4, 167, 0, 4, 3, 172]
abbrev dktX19_isUnder_0 : List UInt8 := dkwX19_isUnder_0 ++ []
theorem dksX19_isUnder_0 : cX19_isUnder.data.toList.drop 0 = dktX19_isUnder_0 := by decide +kernel
theorem dX19_isUnder_0 : decode cX19_isUnder 0 = .ok (.iload_n 1, 1) := dk_27 (dk_at dksX19_isUnder_0 0 rfl rfl)
theorem dX19_isUnder_1 : decode cX19_isUnder 1 = .ok (.iconst 5, 1) := dk_8 (dk_at dksX19_isUnder_0 1 rfl rfl)
theorem dX19_isUnder_2 : decode cX19_isUnder 2 = .ok (.if_icmp .eq 11, 3) := dk_159 0 11 (dk_at dksX19_isUnder_0 2 rfl rfl)
theorem dX19_isUnder_5 : decode cX19_isUnder 5 = .ok (.aload_n 0, 1) := dk_42 (dk_at dksX19_isUnder_0 5 rfl rfl)
theorem dX19_isUnder_6 : decode cX19_isUnder 6 = .ok (.iload_n 1, 1) := dk_27 (dk_at dksX19_isUnder_0 6 rfl rfl)
theorem dX19_isUnder_7 : decode cX19_isUnder 7 = .ok (.invokespecial 15, 3) := dk_183 0 15 (dk_at dksX19_isUnder_0 7 rfl rfl)
theorem dX19_isUnder_10 : decode cX19_isUnder 10 = .ok (.ifCond .eq 7, 3) := dk_153 0 7 (dk_at dksX19_isUnder_0 10 rfl rfl)
theorem dX19_isUnder_13 : decode cX19_isUnder 13 = .ok (.iconst 1, 1) := dk_4 (dk_at dksX19_isUnder_0 13 rfl rfl)
theorem dX19_isUnder_14 : decode cX19_isUnder 14 = .ok (.goto 4, 3) := dk_167 0 4 (dk_at dksX19_isUnder_0 14 rfl rfl)
theorem dX19_isUnder_17 : decode cX19_isUnder 17 = .ok (.iconst 0, 1) := dk_3 (dk_at dksX19_isUnder_0 17 rfl rfl)
theorem dX19_isUnder_18 : decode cX19_isUnder 18 = .ok (.ireturn, 1) := dk_172 (dk_at dksX19_isUnder_0 18 rfl rfl)
abbrev cX19_kind : ByteArray := prog_2_method_2_code
def yX19_kind : MethodName := ⟨RX19, "kind", "()I"⟩
theorem dX19_kind_0 : decode cX19_kind 0 = .ok (.iconst 5, 1) := by decide +kernel
theorem dX19_kind_1 : decode cX19_kind 1 = .ok (.ireturn, 1) := by decide +kernel
theorem q126 : (Jvm.Cond.initialized "NameRests$Best") ∈ lw_all := lw_g (lw_at lw_m1 24 rfl) rfl
theorem q873 : (Jvm.Cond.instantiable "NameRests$Best" (5 : Nat)) ∈ lw_all := lw_g (lw_at lw_m4 51 rfl) rfl
theorem q875 : (Jvm.Cond.instanceMethod ({ cls := "NameRests$Best", name := "<init>", desc := "(LNameRests;I)V" } : Jvm.MethodName)) ∈ lw_all := lw_g (lw_at lw_m4 53 rfl) rfl
theorem q876 : (Jvm.Cond.code ({ cls := "NameRests$Best", name := "<init>", desc := "(LNameRests;I)V" } : Jvm.MethodName) prog_2_method_1_code (3 : Nat) (Option.none : Option Jvm.ClassFile.FieldType)) ∈ lw_all := lw_g (lw_at lw_m4 54 rfl) rfl
theorem q877 : (Jvm.Cond.methodLink "NameRests$Best" (9 : Nat) ({ cls := "NameRests$Wish", name := "<init>", desc := "(LNameRests;I)V" } : Jvm.MethodName)) ∈ lw_all := lw_g (lw_at lw_m4 55 rfl) rfl
theorem q878 : (Jvm.Cond.fieldLink "NameRests$Best" (3 : Nat) "NameRests$Best" "this$0" "LNameRests;") ∈ lw_all := lw_g (lw_at lw_m4 56 rfl) rfl
theorem q879 : (Jvm.Cond.laysFinal "NameRests$Best" "NameRests$Best" "this$0" "LNameRests;") ∈ lw_all := lw_g (lw_at lw_m4 57 rfl) rfl
theorem q880 : (Jvm.Cond.soleField "NameRests$Best" "this$0") ∈ lw_all := lw_g (lw_at lw_m4 58 rfl) rfl
theorem q881 : (Jvm.Cond.laysFinal "NameRests$Best" "NameRests$Wish" "this$0" "LNameRests;") ∈ lw_all := lw_g (lw_at lw_m4 59 rfl) rfl
theorem q882 : (Jvm.Cond.laysFinal "NameRests$Best" "NameRests$Soon" "this$0" "LNameRests;") ∈ lw_all := lw_g (lw_at lw_m4 60 rfl) rfl
theorem q883 : (Jvm.Cond.laysFinal "NameRests$Best" "NameRests$Body" "number" "I") ∈ lw_all := lw_g (lw_at lw_m4 61 rfl) rfl
theorem q884 : (Jvm.Cond.laysFinal "NameRests$Best" "NameRests$Body" "this$0" "LNameRests;") ∈ lw_all := lw_g (lw_at lw_m4 62 rfl) rfl
theorem q885 : (Jvm.Cond.superclass "NameRests$Best" "NameRests$Wish") ∈ lw_all := lw_g (lw_at lw_m4 63 rfl) rfl
theorem q925 : (Jvm.Cond.unhidden "NameRests$Best" "gives" "(I)I") ∈ lw_tbl := lw_at lw_m4 103 rfl
theorem q942 : (Jvm.Cond.castable "NameRests$Best" "NameRests$Gives") ∈ lw_tbl := lw_at lw_m4 120 rfl
theorem q943 : (Jvm.Cond.selects "NameRests$Best" ({ cls := "NameRests$Gives", name := "begins", desc := "(I)V" } : Jvm.MethodName) ({ cls := "NameRests$Body", name := "begins", desc := "(I)V" } : Jvm.MethodName)) ∈ lw_all := lw_g (lw_at lw_m4 121 rfl) rfl
theorem q944 : (Jvm.Cond.unhidden "NameRests$Best" "begins" "(I)V") ∈ lw_tbl := lw_at lw_m4 122 rfl
theorem q971 : (Jvm.Cond.selects "NameRests$Best" ({ cls := "NameRests$Gives", name := "number", desc := "()I" } : Jvm.MethodName) ({ cls := "NameRests$Body", name := "number", desc := "()I" } : Jvm.MethodName)) ∈ lw_all := lw_g (lw_at lw_m4 149 rfl) rfl
theorem q972 : (Jvm.Cond.unhidden "NameRests$Best" "number" "()I") ∈ lw_tbl := lw_at lw_m4 150 rfl
theorem q1013 : (Jvm.Cond.selects "NameRests$Best" ({ cls := "NameRests$Body", name := "holds", desc := "(I)I" } : Jvm.MethodName) ({ cls := "NameRests$Wish", name := "holds", desc := "(I)I" } : Jvm.MethodName)) ∈ lw_all := lw_g (lw_at lw_m4 191 rfl) rfl
theorem q1018 : (Jvm.Cond.selects "NameRests$Best" ({ cls := "NameRests$Wish", name := "begins", desc := "(I)V" } : Jvm.MethodName) ({ cls := "NameRests$Body", name := "begins", desc := "(I)V" } : Jvm.MethodName)) ∈ lw_all := lw_g (lw_at lw_m4 196 rfl) rfl
theorem q1025 : (Jvm.Cond.selects "NameRests$Best" ({ cls := "NameRests$Soon", name := "begins", desc := "(I)V" } : Jvm.MethodName) ({ cls := "NameRests$Body", name := "begins", desc := "(I)V" } : Jvm.MethodName)) ∈ lw_all := lw_g (lw_at lw_m4 203 rfl) rfl
theorem q1049 : (Jvm.Cond.instanceMethod ({ cls := "NameRests$Best", name := "knows", desc := "(I)I" } : Jvm.MethodName)) ∈ lw_all := lw_g (lw_at lw_m4 227 rfl) rfl
theorem q1050 : (Jvm.Cond.code ({ cls := "NameRests$Best", name := "knows", desc := "(I)I" } : Jvm.MethodName) prog_2_method_4_code (3 : Nat) (Option.some Jvm.ClassFile.FieldType.int)) ∈ lw_all := lw_g (lw_at lw_m4 228 rfl) rfl
theorem q1051 : (Jvm.Cond.methodLink "NameRests$Best" (19 : Nat) ({ cls := "NameRests$Best", name := "begins", desc := "(I)V" } : Jvm.MethodName)) ∈ lw_all := lw_g (lw_at lw_m4 229 rfl) rfl
theorem q1052 : (Jvm.Cond.sameMethod "NameRests$Best" "NameRests$Body" "begins" "(I)V") ∈ lw_all := lw_g (lw_at lw_m4 230 rfl) rfl
theorem q1053 : (Jvm.Cond.selects "NameRests$Best" ({ cls := "NameRests$Best", name := "begins", desc := "(I)V" } : Jvm.MethodName) ({ cls := "NameRests$Body", name := "begins", desc := "(I)V" } : Jvm.MethodName)) ∈ lw_all := lw_g (lw_at lw_m4 231 rfl) rfl
theorem q1054 : (Jvm.Cond.methodLink "NameRests$Best" (23 : Nat) ({ cls := "NameRests$Wish", name := "knows", desc := "(I)I" } : Jvm.MethodName)) ∈ lw_all := lw_g (lw_at lw_m4 232 rfl) rfl
theorem q1060 : (Jvm.Cond.selects "NameRests$Best" ({ cls := "NameRests$Tells", name := "tells", desc := "(I)I" } : Jvm.MethodName) ({ cls := "NameRests$Best", name := "tells", desc := "(I)I" } : Jvm.MethodName)) ∈ lw_all := lw_g (lw_at lw_m4 238 rfl) rfl
theorem q1061 : (Jvm.Cond.instanceMethod ({ cls := "NameRests$Best", name := "tells", desc := "(I)I" } : Jvm.MethodName)) ∈ lw_all := lw_g (lw_at lw_m4 239 rfl) rfl
theorem q1062 : (Jvm.Cond.code ({ cls := "NameRests$Best", name := "tells", desc := "(I)I" } : Jvm.MethodName) prog_2_method_5_code (2 : Nat) (Option.some Jvm.ClassFile.FieldType.int)) ∈ lw_all := lw_g (lw_at lw_m5 0 rfl) rfl
theorem q1069 : (Jvm.Cond.castable "NameRests$Best" "NameRests$Tells") ∈ lw_tbl := lw_at lw_m5 7 rfl
theorem q1070 : (Jvm.Cond.selects "NameRests$Best" ({ cls := "NameRests$Tells", name := "begins", desc := "(I)V" } : Jvm.MethodName) ({ cls := "NameRests$Body", name := "begins", desc := "(I)V" } : Jvm.MethodName)) ∈ lw_all := lw_g (lw_at lw_m5 8 rfl) rfl
theorem q1089 : (Jvm.Cond.selects "NameRests$Best" ({ cls := "NameRests$Tells", name := "holds", desc := "(I)I" } : Jvm.MethodName) ({ cls := "NameRests$Wish", name := "holds", desc := "(I)I" } : Jvm.MethodName)) ∈ lw_all := lw_g (lw_at lw_m5 27 rfl) rfl
theorem q1090 : (Jvm.Cond.unhidden "NameRests$Best" "holds" "(I)I") ∈ lw_tbl := lw_at lw_m5 28 rfl
theorem q1113 : (Jvm.Cond.selects "NameRests$Best" ({ cls := "NameRests$Tells", name := "knows", desc := "(I)I" } : Jvm.MethodName) ({ cls := "NameRests$Best", name := "knows", desc := "(I)I" } : Jvm.MethodName)) ∈ lw_all := lw_g (lw_at lw_m5 51 rfl) rfl
theorem q1114 : (Jvm.Cond.unhidden "NameRests$Best" "knows" "(I)I") ∈ lw_tbl := lw_at lw_m5 52 rfl
theorem q1115 : (Jvm.Cond.publicMethod ({ cls := "NameRests$Best", name := "knows", desc := "(I)I" } : Jvm.MethodName)) ∈ lw_tbl := lw_at lw_m5 53 rfl
theorem q1196 : (Jvm.Cond.selects "NameRests$Best" ({ cls := "NameRests$Body", name := "isUnder", desc := "(I)Z" } : Jvm.MethodName) ({ cls := "NameRests$Best", name := "isUnder", desc := "(I)Z" } : Jvm.MethodName)) ∈ lw_all := lw_g (lw_at lw_m5 134 rfl) rfl
theorem q1197 : (Jvm.Cond.instanceMethod ({ cls := "NameRests$Best", name := "isUnder", desc := "(I)Z" } : Jvm.MethodName)) ∈ lw_all := lw_g (lw_at lw_m5 135 rfl) rfl
theorem q1198 : (Jvm.Cond.code ({ cls := "NameRests$Best", name := "isUnder", desc := "(I)Z" } : Jvm.MethodName) prog_2_method_3_code (2 : Nat) (Option.some Jvm.ClassFile.FieldType.boolean)) ∈ lw_all := lw_g (lw_at lw_m5 136 rfl) rfl
theorem q1199 : (Jvm.Cond.methodLink "NameRests$Best" (15 : Nat) ({ cls := "NameRests$Wish", name := "isUnder", desc := "(I)Z" } : Jvm.MethodName)) ∈ lw_all := lw_g (lw_at lw_m5 137 rfl) rfl
theorem q1229 : (Jvm.Cond.selects "NameRests$Best" ({ cls := "NameRests$Body", name := "kind", desc := "()I" } : Jvm.MethodName) ({ cls := "NameRests$Best", name := "kind", desc := "()I" } : Jvm.MethodName)) ∈ lw_all := lw_g (lw_at lw_m5 167 rfl) rfl
theorem q1230 : (Jvm.Cond.instanceMethod ({ cls := "NameRests$Best", name := "kind", desc := "()I" } : Jvm.MethodName)) ∈ lw_all := lw_g (lw_at lw_m5 168 rfl) rfl
theorem q1231 : (Jvm.Cond.code ({ cls := "NameRests$Best", name := "kind", desc := "()I" } : Jvm.MethodName) prog_2_method_2_code (1 : Nat) (Option.some Jvm.ClassFile.FieldType.int)) ∈ lw_all := lw_g (lw_at lw_m5 169 rfl) rfl
theorem q1814 : (Jvm.Cond.selects "NameRests$Best" ({ cls := "NameRests$Body", name := "begins", desc := "(I)V" } : Jvm.MethodName) ({ cls := "NameRests$Body", name := "begins", desc := "(I)V" } : Jvm.MethodName)) ∈ lw_all := lw_g (lw_at lw_m8 32 rfl) rfl
theorem q1823 : (Jvm.Cond.selects "NameRests$Best" ({ cls := "NameRests$Body", name := "knows", desc := "(I)I" } : Jvm.MethodName) ({ cls := "NameRests$Best", name := "knows", desc := "(I)I" } : Jvm.MethodName)) ∈ lw_all := lw_g (lw_at lw_m8 41 rfl) rfl
theorem q1836 : (Jvm.Cond.castable "NameRests$Best" "NameRests$Body") ∈ lw_tbl := lw_at lw_m8 54 rfl
theorem q1860 : (Jvm.Cond.castable "NameRests$Best" "java/lang/Object") ∈ lw_tbl := lw_at lw_m8 78 rfl
theorem in_X19 : ∀ w ∈ wsX190, w ∈ lw_all := lw_in wsX190 [883, 884, 882, 881, 879] (by decide +kernel) (by decide +kernel)

/-! NameRests$Told -/
set_option maxRecDepth 100000
def RX20 : String := "NameRests$Told"
def TX20 : u_T := fun k => match k with
  | 0 => ("NameRests$Body", "number", "I", true)
  | 1 => ("NameRests$Body", "this$0", "LNameRests;", true)
  | _ => ("NameRests$Told", "this$0", "LNameRests;", true)
def tyX20 : Nat → FieldType := fun k => match k with
  | 0 => .int
  | 1 => .object "NameRests"
  | _ => .object "NameRests"
abbrev wsX200 : List Cond := u_ws RX20 TX20 3
-- two fields of one name: no nmX20
theorem tyX20_ok : ∀ k, k < 3 → parseFieldDescriptor (TX20 k).2.2.1 = some (tyX20 k) := by decide +kernel
abbrev cX20_init : ByteArray := prog_21_method_1_code
def yX20_init : MethodName := ⟨RX20, "<init>", "(LNameRests;I)V"⟩
def dkwX20_init_0 : List UInt8 := [42, 43, 181, 0, 3, 42, 43, 28, 183, 0, 9, 177]
abbrev dktX20_init_0 : List UInt8 := dkwX20_init_0 ++ []
theorem dksX20_init_0 : cX20_init.data.toList.drop 0 = dktX20_init_0 := by decide +kernel
theorem dX20_init_0 : decode cX20_init 0 = .ok (.aload_n 0, 1) := dk_42 (dk_at dksX20_init_0 0 rfl rfl)
theorem dX20_init_1 : decode cX20_init 1 = .ok (.aload_n 1, 1) := dk_43 (dk_at dksX20_init_0 1 rfl rfl)
theorem dX20_init_2 : decode cX20_init 2 = .ok (.putfield 3, 3) := dk_181 0 3 (dk_at dksX20_init_0 2 rfl rfl)
theorem dX20_init_5 : decode cX20_init 5 = .ok (.aload_n 0, 1) := dk_42 (dk_at dksX20_init_0 5 rfl rfl)
theorem dX20_init_6 : decode cX20_init 6 = .ok (.aload_n 1, 1) := dk_43 (dk_at dksX20_init_0 6 rfl rfl)
theorem dX20_init_7 : decode cX20_init 7 = .ok (.iload_n 2, 1) := dk_28 (dk_at dksX20_init_0 7 rfl rfl)
theorem dX20_init_8 : decode cX20_init 8 = .ok (.invokespecial 9, 3) := dk_183 0 9 (dk_at dksX20_init_0 8 rfl rfl)
theorem dX20_init_11 : decode cX20_init 11 = .ok (.return_, 1) := dk_177 (dk_at dksX20_init_0 11 rfl rfl)
abbrev cX20_gives : ByteArray := prog_21_method_4_code
def yX20_gives : MethodName := ⟨RX20, "gives", "(I)I"⟩
def dkwX20_gives_0 : List UInt8 := [42, 16, 70, 182, 0, 19, 42, 27, 183, 0, 23, 5, 104, 172]
abbrev dktX20_gives_0 : List UInt8 := dkwX20_gives_0 ++ []
theorem dksX20_gives_0 : cX20_gives.data.toList.drop 0 = dktX20_gives_0 := by decide +kernel
theorem dX20_gives_0 : decode cX20_gives 0 = .ok (.aload_n 0, 1) := dk_42 (dk_at dksX20_gives_0 0 rfl rfl)
theorem dX20_gives_1 : decode cX20_gives 1 = .ok (.bipush 70, 2) := dk_16 70 (dk_at dksX20_gives_0 1 rfl rfl)
theorem dX20_gives_3 : decode cX20_gives 3 = .ok (.invokevirtual 19, 3) := dk_182 0 19 (dk_at dksX20_gives_0 3 rfl rfl)
theorem dX20_gives_6 : decode cX20_gives 6 = .ok (.aload_n 0, 1) := dk_42 (dk_at dksX20_gives_0 6 rfl rfl)
theorem dX20_gives_7 : decode cX20_gives 7 = .ok (.iload_n 1, 1) := dk_27 (dk_at dksX20_gives_0 7 rfl rfl)
theorem dX20_gives_8 : decode cX20_gives 8 = .ok (.invokespecial 23, 3) := dk_183 0 23 (dk_at dksX20_gives_0 8 rfl rfl)
theorem dX20_gives_11 : decode cX20_gives 11 = .ok (.iconst 2, 1) := dk_5 (dk_at dksX20_gives_0 11 rfl rfl)
theorem dX20_gives_12 : decode cX20_gives 12 = .ok (.imul, 1) := dk_104 (dk_at dksX20_gives_0 12 rfl rfl)
theorem dX20_gives_13 : decode cX20_gives 13 = .ok (.ireturn, 1) := dk_172 (dk_at dksX20_gives_0 13 rfl rfl)
abbrev cX20_isUnder : ByteArray := prog_21_method_3_code
def yX20_isUnder : MethodName := ⟨RX20, "isUnder", "(I)Z"⟩
def dkwX20_isUnder_0 : List UInt8 := [27, 16, 6, 159, 0, 11, 42, 27, 183, 0, 15, 153, 0, 7, 4, 167, 0, 4, 3, 172]
abbrev dktX20_isUnder_0 : List UInt8 := dkwX20_isUnder_0 ++ []
theorem dksX20_isUnder_0 : cX20_isUnder.data.toList.drop 0 = dktX20_isUnder_0 := by decide +kernel
theorem dX20_isUnder_0 : decode cX20_isUnder 0 = .ok (.iload_n 1, 1) := dk_27 (dk_at dksX20_isUnder_0 0 rfl rfl)
theorem dX20_isUnder_1 : decode cX20_isUnder 1 = .ok (.bipush 6, 2) := dk_16 6 (dk_at dksX20_isUnder_0 1 rfl rfl)
theorem dX20_isUnder_3 : decode cX20_isUnder 3 = .ok (.if_icmp .eq 11, 3) := dk_159 0 11 (dk_at dksX20_isUnder_0 3 rfl rfl)
theorem dX20_isUnder_6 : decode cX20_isUnder 6 = .ok (.aload_n 0, 1) := dk_42 (dk_at dksX20_isUnder_0 6 rfl rfl)
theorem dX20_isUnder_7 : decode cX20_isUnder 7 = .ok (.iload_n 1, 1) := dk_27 (dk_at dksX20_isUnder_0 7 rfl rfl)
theorem dX20_isUnder_8 : decode cX20_isUnder 8 = .ok (.invokespecial 15, 3) := dk_183 0 15 (dk_at dksX20_isUnder_0 8 rfl rfl)
theorem dX20_isUnder_11 : decode cX20_isUnder 11 = .ok (.ifCond .eq 7, 3) := dk_153 0 7 (dk_at dksX20_isUnder_0 11 rfl rfl)
theorem dX20_isUnder_14 : decode cX20_isUnder 14 = .ok (.iconst 1, 1) := dk_4 (dk_at dksX20_isUnder_0 14 rfl rfl)
theorem dX20_isUnder_15 : decode cX20_isUnder 15 = .ok (.goto 4, 3) := dk_167 0 4 (dk_at dksX20_isUnder_0 15 rfl rfl)
theorem dX20_isUnder_18 : decode cX20_isUnder 18 = .ok (.iconst 0, 1) := dk_3 (dk_at dksX20_isUnder_0 18 rfl rfl)
theorem dX20_isUnder_19 : decode cX20_isUnder 19 = .ok (.ireturn, 1) := dk_172 (dk_at dksX20_isUnder_0 19 rfl rfl)
abbrev cX20_kind : ByteArray := prog_21_method_2_code
def yX20_kind : MethodName := ⟨RX20, "kind", "()I"⟩
theorem dX20_kind_0 : decode cX20_kind 0 = .ok (.bipush 6, 2) := by decide +kernel
theorem dX20_kind_2 : decode cX20_kind 2 = .ok (.ireturn, 1) := by decide +kernel
theorem q127 : (Jvm.Cond.initialized "NameRests$Told") ∈ lw_all := lw_g (lw_at lw_m1 25 rfl) rfl
theorem q887 : (Jvm.Cond.instantiable "NameRests$Told" (3 : Nat)) ∈ lw_all := lw_g (lw_at lw_m4 65 rfl) rfl
theorem q889 : (Jvm.Cond.instanceMethod ({ cls := "NameRests$Told", name := "<init>", desc := "(LNameRests;I)V" } : Jvm.MethodName)) ∈ lw_all := lw_g (lw_at lw_m4 67 rfl) rfl
theorem q890 : (Jvm.Cond.code ({ cls := "NameRests$Told", name := "<init>", desc := "(LNameRests;I)V" } : Jvm.MethodName) prog_21_method_1_code (3 : Nat) (Option.none : Option Jvm.ClassFile.FieldType)) ∈ lw_all := lw_g (lw_at lw_m4 68 rfl) rfl
theorem q891 : (Jvm.Cond.methodLink "NameRests$Told" (9 : Nat) ({ cls := "NameRests$Body", name := "<init>", desc := "(LNameRests;I)V" } : Jvm.MethodName)) ∈ lw_all := lw_g (lw_at lw_m4 69 rfl) rfl
theorem q892 : (Jvm.Cond.fieldLink "NameRests$Told" (3 : Nat) "NameRests$Told" "this$0" "LNameRests;") ∈ lw_all := lw_g (lw_at lw_m4 70 rfl) rfl
theorem q893 : (Jvm.Cond.laysFinal "NameRests$Told" "NameRests$Told" "this$0" "LNameRests;") ∈ lw_all := lw_g (lw_at lw_m4 71 rfl) rfl
theorem q894 : (Jvm.Cond.soleField "NameRests$Told" "this$0") ∈ lw_all := lw_g (lw_at lw_m4 72 rfl) rfl
theorem q895 : (Jvm.Cond.laysFinal "NameRests$Told" "NameRests$Body" "number" "I") ∈ lw_all := lw_g (lw_at lw_m4 73 rfl) rfl
theorem q896 : (Jvm.Cond.laysFinal "NameRests$Told" "NameRests$Body" "this$0" "LNameRests;") ∈ lw_all := lw_g (lw_at lw_m4 74 rfl) rfl
theorem q897 : (Jvm.Cond.superclass "NameRests$Told" "NameRests$Body") ∈ lw_all := lw_g (lw_at lw_m4 75 rfl) rfl
theorem q961 : (Jvm.Cond.castable "NameRests$Told" "NameRests$Gives") ∈ lw_tbl := lw_at lw_m4 139 rfl
theorem q962 : (Jvm.Cond.selects "NameRests$Told" ({ cls := "NameRests$Gives", name := "begins", desc := "(I)V" } : Jvm.MethodName) ({ cls := "NameRests$Body", name := "begins", desc := "(I)V" } : Jvm.MethodName)) ∈ lw_all := lw_g (lw_at lw_m4 140 rfl) rfl
theorem q963 : (Jvm.Cond.unhidden "NameRests$Told" "begins" "(I)V") ∈ lw_tbl := lw_at lw_m4 141 rfl
theorem q986 : (Jvm.Cond.selects "NameRests$Told" ({ cls := "NameRests$Gives", name := "number", desc := "()I" } : Jvm.MethodName) ({ cls := "NameRests$Body", name := "number", desc := "()I" } : Jvm.MethodName)) ∈ lw_all := lw_g (lw_at lw_m4 164 rfl) rfl
theorem q987 : (Jvm.Cond.unhidden "NameRests$Told" "number" "()I") ∈ lw_tbl := lw_at lw_m4 165 rfl
theorem q999 : (Jvm.Cond.instanceMethod ({ cls := "NameRests$Told", name := "gives", desc := "(I)I" } : Jvm.MethodName)) ∈ lw_all := lw_g (lw_at lw_m4 177 rfl) rfl
theorem q1000 : (Jvm.Cond.code ({ cls := "NameRests$Told", name := "gives", desc := "(I)I" } : Jvm.MethodName) prog_21_method_4_code (2 : Nat) (Option.some Jvm.ClassFile.FieldType.int)) ∈ lw_all := lw_g (lw_at lw_m4 178 rfl) rfl
theorem q1001 : (Jvm.Cond.methodLink "NameRests$Told" (19 : Nat) ({ cls := "NameRests$Told", name := "begins", desc := "(I)V" } : Jvm.MethodName)) ∈ lw_all := lw_g (lw_at lw_m4 179 rfl) rfl
theorem q1002 : (Jvm.Cond.sameMethod "NameRests$Told" "NameRests$Body" "begins" "(I)V") ∈ lw_all := lw_g (lw_at lw_m4 180 rfl) rfl
theorem q1004 : (Jvm.Cond.selects "NameRests$Told" ({ cls := "NameRests$Told", name := "begins", desc := "(I)V" } : Jvm.MethodName) ({ cls := "NameRests$Body", name := "begins", desc := "(I)V" } : Jvm.MethodName)) ∈ lw_all := lw_g (lw_at lw_m4 182 rfl) rfl
theorem q1006 : (Jvm.Cond.selects "NameRests$Told" ({ cls := "NameRests$Gives", name := "gives", desc := "(I)I" } : Jvm.MethodName) ({ cls := "NameRests$Told", name := "gives", desc := "(I)I" } : Jvm.MethodName)) ∈ lw_all := lw_g (lw_at lw_m4 184 rfl) rfl
theorem q1035 : (Jvm.Cond.sameMethod "NameRests$Told" "NameRests$Body" "holds" "(I)I") ∈ lw_all := lw_g (lw_at lw_m4 213 rfl) rfl
theorem q1045 : (Jvm.Cond.selects "NameRests$Told" ({ cls := "NameRests$Body", name := "holds", desc := "(I)I" } : Jvm.MethodName) ({ cls := "NameRests$Body", name := "holds", desc := "(I)I" } : Jvm.MethodName)) ∈ lw_all := lw_g (lw_at lw_m4 223 rfl) rfl
theorem q1081 : (Jvm.Cond.castable "NameRests$Told" "NameRests$Tells") ∈ lw_tbl := lw_at lw_m5 19 rfl
theorem q1082 : (Jvm.Cond.selects "NameRests$Told" ({ cls := "NameRests$Tells", name := "begins", desc := "(I)V" } : Jvm.MethodName) ({ cls := "NameRests$Body", name := "begins", desc := "(I)V" } : Jvm.MethodName)) ∈ lw_all := lw_g (lw_at lw_m5 20 rfl) rfl
theorem q1105 : (Jvm.Cond.selects "NameRests$Told" ({ cls := "NameRests$Tells", name := "holds", desc := "(I)I" } : Jvm.MethodName) ({ cls := "NameRests$Body", name := "holds", desc := "(I)I" } : Jvm.MethodName)) ∈ lw_all := lw_g (lw_at lw_m5 43 rfl) rfl
theorem q1106 : (Jvm.Cond.unhidden "NameRests$Told" "holds" "(I)I") ∈ lw_tbl := lw_at lw_m5 44 rfl
theorem q1127 : (Jvm.Cond.selects "NameRests$Told" ({ cls := "NameRests$Tells", name := "knows", desc := "(I)I" } : Jvm.MethodName) ({ cls := "NameRests$Body", name := "knows", desc := "(I)I" } : Jvm.MethodName)) ∈ lw_all := lw_g (lw_at lw_m5 65 rfl) rfl
theorem q1128 : (Jvm.Cond.unhidden "NameRests$Told" "knows" "(I)I") ∈ lw_tbl := lw_at lw_m5 66 rfl
theorem q1142 : (Jvm.Cond.unhidden "NameRests$Told" "tells" "(I)I") ∈ lw_tbl := lw_at lw_m5 80 rfl
theorem q1218 : (Jvm.Cond.instanceMethod ({ cls := "NameRests$Told", name := "isUnder", desc := "(I)Z" } : Jvm.MethodName)) ∈ lw_all := lw_g (lw_at lw_m5 156 rfl) rfl
theorem q1219 : (Jvm.Cond.code ({ cls := "NameRests$Told", name := "isUnder", desc := "(I)Z" } : Jvm.MethodName) prog_21_method_3_code (2 : Nat) (Option.some Jvm.ClassFile.FieldType.boolean)) ∈ lw_all := lw_g (lw_at lw_m5 157 rfl) rfl
theorem q1220 : (Jvm.Cond.methodLink "NameRests$Told" (15 : Nat) ({ cls := "NameRests$Body", name := "isUnder", desc := "(I)Z" } : Jvm.MethodName)) ∈ lw_all := lw_g (lw_at lw_m5 158 rfl) rfl
theorem q1222 : (Jvm.Cond.selects "NameRests$Told" ({ cls := "NameRests$Body", name := "isUnder", desc := "(I)Z" } : Jvm.MethodName) ({ cls := "NameRests$Told", name := "isUnder", desc := "(I)Z" } : Jvm.MethodName)) ∈ lw_all := lw_g (lw_at lw_m5 160 rfl) rfl
theorem q1244 : (Jvm.Cond.selects "NameRests$Told" ({ cls := "NameRests$Body", name := "kind", desc := "()I" } : Jvm.MethodName) ({ cls := "NameRests$Told", name := "kind", desc := "()I" } : Jvm.MethodName)) ∈ lw_all := lw_g (lw_at lw_m5 182 rfl) rfl
theorem q1245 : (Jvm.Cond.instanceMethod ({ cls := "NameRests$Told", name := "kind", desc := "()I" } : Jvm.MethodName)) ∈ lw_all := lw_g (lw_at lw_m5 183 rfl) rfl
theorem q1246 : (Jvm.Cond.code ({ cls := "NameRests$Told", name := "kind", desc := "()I" } : Jvm.MethodName) prog_21_method_2_code (1 : Nat) (Option.some Jvm.ClassFile.FieldType.int)) ∈ lw_all := lw_g (lw_at lw_m5 184 rfl) rfl
theorem q1811 : (Jvm.Cond.sameMethod "NameRests$Told" "NameRests$Told" "gives" "(I)I") ∈ lw_all := lw_g (lw_at lw_m8 29 rfl) rfl
theorem q1820 : (Jvm.Cond.selects "NameRests$Told" ({ cls := "NameRests$Body", name := "begins", desc := "(I)V" } : Jvm.MethodName) ({ cls := "NameRests$Body", name := "begins", desc := "(I)V" } : Jvm.MethodName)) ∈ lw_all := lw_g (lw_at lw_m8 38 rfl) rfl
theorem q1830 : (Jvm.Cond.selects "NameRests$Told" ({ cls := "NameRests$Body", name := "knows", desc := "(I)I" } : Jvm.MethodName) ({ cls := "NameRests$Body", name := "knows", desc := "(I)I" } : Jvm.MethodName)) ∈ lw_all := lw_g (lw_at lw_m8 48 rfl) rfl
theorem q1835 : (Jvm.Cond.sameMethod "NameRests$Told" "NameRests$Told" "isUnder" "(I)Z") ∈ lw_all := lw_g (lw_at lw_m8 53 rfl) rfl
theorem q1841 : (Jvm.Cond.castable "NameRests$Told" "NameRests$Body") ∈ lw_tbl := lw_at lw_m8 59 rfl
theorem q1861 : (Jvm.Cond.castable "NameRests$Told" "java/lang/Object") ∈ lw_tbl := lw_at lw_m8 79 rfl
theorem in_X20 : ∀ w ∈ wsX200, w ∈ lw_all := lw_in wsX200 [895, 896, 893] (by decide +kernel) (by decide +kernel)

/-! NameRests$Hermit -/
set_option maxRecDepth 100000
def RX21 : String := "NameRests$Hermit"
def TX21 : u_T := fun k => match k with
  | 0 => ("NameRests$Body", "number", "I", true)
  | 1 => ("NameRests$Body", "this$0", "LNameRests;", true)
  | 2 => ("NameRests$Told", "this$0", "LNameRests;", true)
  | _ => ("NameRests$Hermit", "this$0", "LNameRests;", true)
def tyX21 : Nat → FieldType := fun k => match k with
  | 0 => .int
  | 1 => .object "NameRests"
  | 2 => .object "NameRests"
  | _ => .object "NameRests"
abbrev wsX210 : List Cond := u_ws RX21 TX21 4
-- two fields of one name: no nmX21
theorem tyX21_ok : ∀ k, k < 4 → parseFieldDescriptor (TX21 k).2.2.1 = some (tyX21 k) := by decide +kernel
abbrev cX21_init : ByteArray := prog_12_method_1_code
def yX21_init : MethodName := ⟨RX21, "<init>", "(LNameRests;I)V"⟩
def dkwX21_init_0 : List UInt8 := [42, 43, 181, 0, 3, 42, 43, 28, 183, 0, 9, 177]
abbrev dktX21_init_0 : List UInt8 := dkwX21_init_0 ++ []
theorem dksX21_init_0 : cX21_init.data.toList.drop 0 = dktX21_init_0 := by decide +kernel
theorem dX21_init_0 : decode cX21_init 0 = .ok (.aload_n 0, 1) := dk_42 (dk_at dksX21_init_0 0 rfl rfl)
theorem dX21_init_1 : decode cX21_init 1 = .ok (.aload_n 1, 1) := dk_43 (dk_at dksX21_init_0 1 rfl rfl)
theorem dX21_init_2 : decode cX21_init 2 = .ok (.putfield 3, 3) := dk_181 0 3 (dk_at dksX21_init_0 2 rfl rfl)
theorem dX21_init_5 : decode cX21_init 5 = .ok (.aload_n 0, 1) := dk_42 (dk_at dksX21_init_0 5 rfl rfl)
theorem dX21_init_6 : decode cX21_init 6 = .ok (.aload_n 1, 1) := dk_43 (dk_at dksX21_init_0 6 rfl rfl)
theorem dX21_init_7 : decode cX21_init 7 = .ok (.iload_n 2, 1) := dk_28 (dk_at dksX21_init_0 7 rfl rfl)
theorem dX21_init_8 : decode cX21_init 8 = .ok (.invokespecial 9, 3) := dk_183 0 9 (dk_at dksX21_init_0 8 rfl rfl)
theorem dX21_init_11 : decode cX21_init 11 = .ok (.return_, 1) := dk_177 (dk_at dksX21_init_0 11 rfl rfl)
abbrev cX21_gives : ByteArray := prog_12_method_5_code
def yX21_gives : MethodName := ⟨RX21, "gives", "(I)I"⟩
def dkwX21_gives_0 : List UInt8 := [42, 16, 81, 182, 0, 19, 42, 27, 183, 0, 30, 4, 100, 172]
abbrev dktX21_gives_0 : List UInt8 := dkwX21_gives_0 ++ []
theorem dksX21_gives_0 : cX21_gives.data.toList.drop 0 = dktX21_gives_0 := by decide +kernel
theorem dX21_gives_0 : decode cX21_gives 0 = .ok (.aload_n 0, 1) := dk_42 (dk_at dksX21_gives_0 0 rfl rfl)
theorem dX21_gives_1 : decode cX21_gives 1 = .ok (.bipush 81, 2) := dk_16 81 (dk_at dksX21_gives_0 1 rfl rfl)
theorem dX21_gives_3 : decode cX21_gives 3 = .ok (.invokevirtual 19, 3) := dk_182 0 19 (dk_at dksX21_gives_0 3 rfl rfl)
theorem dX21_gives_6 : decode cX21_gives 6 = .ok (.aload_n 0, 1) := dk_42 (dk_at dksX21_gives_0 6 rfl rfl)
theorem dX21_gives_7 : decode cX21_gives 7 = .ok (.iload_n 1, 1) := dk_27 (dk_at dksX21_gives_0 7 rfl rfl)
theorem dX21_gives_8 : decode cX21_gives 8 = .ok (.invokespecial 30, 3) := dk_183 0 30 (dk_at dksX21_gives_0 8 rfl rfl)
theorem dX21_gives_11 : decode cX21_gives 11 = .ok (.iconst 1, 1) := dk_4 (dk_at dksX21_gives_0 11 rfl rfl)
theorem dX21_gives_12 : decode cX21_gives 12 = .ok (.isub, 1) := dk_100 (dk_at dksX21_gives_0 12 rfl rfl)
theorem dX21_gives_13 : decode cX21_gives 13 = .ok (.ireturn, 1) := dk_172 (dk_at dksX21_gives_0 13 rfl rfl)
abbrev cX21_holds : ByteArray := prog_12_method_4_code
def yX21_holds : MethodName := ⟨RX21, "holds", "(I)I"⟩
def dkwX21_holds_0 : List UInt8 := [42, 16, 80, 182, 0, 19, 42, 27, 183, 0, 23, 61, 28, 42, 5, 182, 0, 27, 96, 172]
abbrev dktX21_holds_0 : List UInt8 := dkwX21_holds_0 ++ []
theorem dksX21_holds_0 : cX21_holds.data.toList.drop 0 = dktX21_holds_0 := by decide +kernel
theorem dX21_holds_0 : decode cX21_holds 0 = .ok (.aload_n 0, 1) := dk_42 (dk_at dksX21_holds_0 0 rfl rfl)
theorem dX21_holds_1 : decode cX21_holds 1 = .ok (.bipush 80, 2) := dk_16 80 (dk_at dksX21_holds_0 1 rfl rfl)
theorem dX21_holds_3 : decode cX21_holds 3 = .ok (.invokevirtual 19, 3) := dk_182 0 19 (dk_at dksX21_holds_0 3 rfl rfl)
theorem dX21_holds_6 : decode cX21_holds 6 = .ok (.aload_n 0, 1) := dk_42 (dk_at dksX21_holds_0 6 rfl rfl)
theorem dX21_holds_7 : decode cX21_holds 7 = .ok (.iload_n 1, 1) := dk_27 (dk_at dksX21_holds_0 7 rfl rfl)
theorem dX21_holds_8 : decode cX21_holds 8 = .ok (.invokespecial 23, 3) := dk_183 0 23 (dk_at dksX21_holds_0 8 rfl rfl)
theorem dX21_holds_11 : decode cX21_holds 11 = .ok (.istore_n 2, 1) := dk_61 (dk_at dksX21_holds_0 11 rfl rfl)
theorem dX21_holds_12 : decode cX21_holds 12 = .ok (.iload_n 2, 1) := dk_28 (dk_at dksX21_holds_0 12 rfl rfl)
theorem dX21_holds_13 : decode cX21_holds 13 = .ok (.aload_n 0, 1) := dk_42 (dk_at dksX21_holds_0 13 rfl rfl)
theorem dX21_holds_14 : decode cX21_holds 14 = .ok (.iconst 2, 1) := dk_5 (dk_at dksX21_holds_0 14 rfl rfl)
theorem dX21_holds_15 : decode cX21_holds 15 = .ok (.invokevirtual 27, 3) := dk_182 0 27 (dk_at dksX21_holds_0 15 rfl rfl)
theorem dX21_holds_18 : decode cX21_holds 18 = .ok (.iadd, 1) := dk_96 (dk_at dksX21_holds_0 18 rfl rfl)
theorem dX21_holds_19 : decode cX21_holds 19 = .ok (.ireturn, 1) := dk_172 (dk_at dksX21_holds_0 19 rfl rfl)
abbrev cX21_isUnder : ByteArray := prog_12_method_3_code
def yX21_isUnder : MethodName := ⟨RX21, "isUnder", "(I)Z"⟩
def dkwX21_isUnder_0 : List UInt8 := [27, 16, 7, 159, 0, 11, 42, 27, 183, 0, 15, 153, 0, 7, 4, 167, 0, 4, 3, 172]
abbrev dktX21_isUnder_0 : List UInt8 := dkwX21_isUnder_0 ++ []
theorem dksX21_isUnder_0 : cX21_isUnder.data.toList.drop 0 = dktX21_isUnder_0 := by decide +kernel
theorem dX21_isUnder_0 : decode cX21_isUnder 0 = .ok (.iload_n 1, 1) := dk_27 (dk_at dksX21_isUnder_0 0 rfl rfl)
theorem dX21_isUnder_1 : decode cX21_isUnder 1 = .ok (.bipush 7, 2) := dk_16 7 (dk_at dksX21_isUnder_0 1 rfl rfl)
theorem dX21_isUnder_3 : decode cX21_isUnder 3 = .ok (.if_icmp .eq 11, 3) := dk_159 0 11 (dk_at dksX21_isUnder_0 3 rfl rfl)
theorem dX21_isUnder_6 : decode cX21_isUnder 6 = .ok (.aload_n 0, 1) := dk_42 (dk_at dksX21_isUnder_0 6 rfl rfl)
theorem dX21_isUnder_7 : decode cX21_isUnder 7 = .ok (.iload_n 1, 1) := dk_27 (dk_at dksX21_isUnder_0 7 rfl rfl)
theorem dX21_isUnder_8 : decode cX21_isUnder 8 = .ok (.invokespecial 15, 3) := dk_183 0 15 (dk_at dksX21_isUnder_0 8 rfl rfl)
theorem dX21_isUnder_11 : decode cX21_isUnder 11 = .ok (.ifCond .eq 7, 3) := dk_153 0 7 (dk_at dksX21_isUnder_0 11 rfl rfl)
theorem dX21_isUnder_14 : decode cX21_isUnder 14 = .ok (.iconst 1, 1) := dk_4 (dk_at dksX21_isUnder_0 14 rfl rfl)
theorem dX21_isUnder_15 : decode cX21_isUnder 15 = .ok (.goto 4, 3) := dk_167 0 4 (dk_at dksX21_isUnder_0 15 rfl rfl)
theorem dX21_isUnder_18 : decode cX21_isUnder 18 = .ok (.iconst 0, 1) := dk_3 (dk_at dksX21_isUnder_0 18 rfl rfl)
theorem dX21_isUnder_19 : decode cX21_isUnder 19 = .ok (.ireturn, 1) := dk_172 (dk_at dksX21_isUnder_0 19 rfl rfl)
abbrev cX21_kind : ByteArray := prog_12_method_2_code
def yX21_kind : MethodName := ⟨RX21, "kind", "()I"⟩
theorem dX21_kind_0 : decode cX21_kind 0 = .ok (.bipush 7, 2) := by decide +kernel
theorem dX21_kind_2 : decode cX21_kind 2 = .ok (.ireturn, 1) := by decide +kernel
theorem q128 : (Jvm.Cond.initialized "NameRests$Hermit") ∈ lw_all := lw_g (lw_at lw_m1 26 rfl) rfl
theorem q899 : (Jvm.Cond.instantiable "NameRests$Hermit" (4 : Nat)) ∈ lw_all := lw_g (lw_at lw_m4 77 rfl) rfl
theorem q901 : (Jvm.Cond.instanceMethod ({ cls := "NameRests$Hermit", name := "<init>", desc := "(LNameRests;I)V" } : Jvm.MethodName)) ∈ lw_all := lw_g (lw_at lw_m4 79 rfl) rfl
theorem q902 : (Jvm.Cond.code ({ cls := "NameRests$Hermit", name := "<init>", desc := "(LNameRests;I)V" } : Jvm.MethodName) prog_12_method_1_code (3 : Nat) (Option.none : Option Jvm.ClassFile.FieldType)) ∈ lw_all := lw_g (lw_at lw_m4 80 rfl) rfl
theorem q903 : (Jvm.Cond.methodLink "NameRests$Hermit" (9 : Nat) ({ cls := "NameRests$Told", name := "<init>", desc := "(LNameRests;I)V" } : Jvm.MethodName)) ∈ lw_all := lw_g (lw_at lw_m4 81 rfl) rfl
theorem q904 : (Jvm.Cond.fieldLink "NameRests$Hermit" (3 : Nat) "NameRests$Hermit" "this$0" "LNameRests;") ∈ lw_all := lw_g (lw_at lw_m4 82 rfl) rfl
theorem q905 : (Jvm.Cond.laysFinal "NameRests$Hermit" "NameRests$Hermit" "this$0" "LNameRests;") ∈ lw_all := lw_g (lw_at lw_m4 83 rfl) rfl
theorem q906 : (Jvm.Cond.soleField "NameRests$Hermit" "this$0") ∈ lw_all := lw_g (lw_at lw_m4 84 rfl) rfl
theorem q907 : (Jvm.Cond.laysFinal "NameRests$Hermit" "NameRests$Told" "this$0" "LNameRests;") ∈ lw_all := lw_g (lw_at lw_m4 85 rfl) rfl
theorem q908 : (Jvm.Cond.laysFinal "NameRests$Hermit" "NameRests$Body" "number" "I") ∈ lw_all := lw_g (lw_at lw_m4 86 rfl) rfl
theorem q909 : (Jvm.Cond.laysFinal "NameRests$Hermit" "NameRests$Body" "this$0" "LNameRests;") ∈ lw_all := lw_g (lw_at lw_m4 87 rfl) rfl
theorem q910 : (Jvm.Cond.superclass "NameRests$Hermit" "NameRests$Told") ∈ lw_all := lw_g (lw_at lw_m4 88 rfl) rfl
theorem q955 : (Jvm.Cond.castable "NameRests$Hermit" "NameRests$Gives") ∈ lw_tbl := lw_at lw_m4 133 rfl
theorem q956 : (Jvm.Cond.selects "NameRests$Hermit" ({ cls := "NameRests$Gives", name := "begins", desc := "(I)V" } : Jvm.MethodName) ({ cls := "NameRests$Body", name := "begins", desc := "(I)V" } : Jvm.MethodName)) ∈ lw_all := lw_g (lw_at lw_m4 134 rfl) rfl
theorem q957 : (Jvm.Cond.unhidden "NameRests$Hermit" "begins" "(I)V") ∈ lw_tbl := lw_at lw_m4 135 rfl
theorem q982 : (Jvm.Cond.selects "NameRests$Hermit" ({ cls := "NameRests$Gives", name := "number", desc := "()I" } : Jvm.MethodName) ({ cls := "NameRests$Body", name := "number", desc := "()I" } : Jvm.MethodName)) ∈ lw_all := lw_g (lw_at lw_m4 160 rfl) rfl
theorem q983 : (Jvm.Cond.unhidden "NameRests$Hermit" "number" "()I") ∈ lw_tbl := lw_at lw_m4 161 rfl
theorem q992 : (Jvm.Cond.selects "NameRests$Hermit" ({ cls := "NameRests$Gives", name := "gives", desc := "(I)I" } : Jvm.MethodName) ({ cls := "NameRests$Hermit", name := "gives", desc := "(I)I" } : Jvm.MethodName)) ∈ lw_all := lw_g (lw_at lw_m4 170 rfl) rfl
theorem q993 : (Jvm.Cond.instanceMethod ({ cls := "NameRests$Hermit", name := "gives", desc := "(I)I" } : Jvm.MethodName)) ∈ lw_all := lw_g (lw_at lw_m4 171 rfl) rfl
theorem q994 : (Jvm.Cond.code ({ cls := "NameRests$Hermit", name := "gives", desc := "(I)I" } : Jvm.MethodName) prog_12_method_5_code (2 : Nat) (Option.some Jvm.ClassFile.FieldType.int)) ∈ lw_all := lw_g (lw_at lw_m4 172 rfl) rfl
theorem q995 : (Jvm.Cond.methodLink "NameRests$Hermit" (19 : Nat) ({ cls := "NameRests$Hermit", name := "begins", desc := "(I)V" } : Jvm.MethodName)) ∈ lw_all := lw_g (lw_at lw_m4 173 rfl) rfl
theorem q996 : (Jvm.Cond.sameMethod "NameRests$Hermit" "NameRests$Body" "begins" "(I)V") ∈ lw_all := lw_g (lw_at lw_m4 174 rfl) rfl
theorem q997 : (Jvm.Cond.selects "NameRests$Hermit" ({ cls := "NameRests$Hermit", name := "begins", desc := "(I)V" } : Jvm.MethodName) ({ cls := "NameRests$Body", name := "begins", desc := "(I)V" } : Jvm.MethodName)) ∈ lw_all := lw_g (lw_at lw_m4 175 rfl) rfl
theorem q998 : (Jvm.Cond.methodLink "NameRests$Hermit" (30 : Nat) ({ cls := "NameRests$Told", name := "gives", desc := "(I)I" } : Jvm.MethodName)) ∈ lw_all := lw_g (lw_at lw_m4 176 rfl) rfl
theorem q1003 : (Jvm.Cond.selects "NameRests$Hermit" ({ cls := "NameRests$Told", name := "begins", desc := "(I)V" } : Jvm.MethodName) ({ cls := "NameRests$Body", name := "begins", desc := "(I)V" } : Jvm.MethodName)) ∈ lw_all := lw_g (lw_at lw_m4 181 rfl) rfl
theorem q1031 : (Jvm.Cond.selects "NameRests$Hermit" ({ cls := "NameRests$Body", name := "holds", desc := "(I)I" } : Jvm.MethodName) ({ cls := "NameRests$Hermit", name := "holds", desc := "(I)I" } : Jvm.MethodName)) ∈ lw_all := lw_g (lw_at lw_m4 209 rfl) rfl
theorem q1032 : (Jvm.Cond.instanceMethod ({ cls := "NameRests$Hermit", name := "holds", desc := "(I)I" } : Jvm.MethodName)) ∈ lw_all := lw_g (lw_at lw_m4 210 rfl) rfl
theorem q1033 : (Jvm.Cond.code ({ cls := "NameRests$Hermit", name := "holds", desc := "(I)I" } : Jvm.MethodName) prog_12_method_4_code (3 : Nat) (Option.some Jvm.ClassFile.FieldType.int)) ∈ lw_all := lw_g (lw_at lw_m4 211 rfl) rfl
theorem q1034 : (Jvm.Cond.methodLink "NameRests$Hermit" (23 : Nat) ({ cls := "NameRests$Told", name := "holds", desc := "(I)I" } : Jvm.MethodName)) ∈ lw_all := lw_g (lw_at lw_m4 212 rfl) rfl
theorem q1037 : (Jvm.Cond.methodLink "NameRests$Hermit" (27 : Nat) ({ cls := "NameRests$Hermit", name := "knows", desc := "(I)I" } : Jvm.MethodName)) ∈ lw_all := lw_g (lw_at lw_m4 215 rfl) rfl
theorem q1038 : (Jvm.Cond.sameMethod "NameRests$Hermit" "NameRests$Body" "knows" "(I)I") ∈ lw_all := lw_g (lw_at lw_m4 216 rfl) rfl
theorem q1040 : (Jvm.Cond.selects "NameRests$Hermit" ({ cls := "NameRests$Hermit", name := "knows", desc := "(I)I" } : Jvm.MethodName) ({ cls := "NameRests$Body", name := "knows", desc := "(I)I" } : Jvm.MethodName)) ∈ lw_all := lw_g (lw_at lw_m4 218 rfl) rfl
theorem q1077 : (Jvm.Cond.castable "NameRests$Hermit" "NameRests$Tells") ∈ lw_tbl := lw_at lw_m5 15 rfl
theorem q1078 : (Jvm.Cond.selects "NameRests$Hermit" ({ cls := "NameRests$Tells", name := "begins", desc := "(I)V" } : Jvm.MethodName) ({ cls := "NameRests$Body", name := "begins", desc := "(I)V" } : Jvm.MethodName)) ∈ lw_all := lw_g (lw_at lw_m5 16 rfl) rfl
theorem q1099 : (Jvm.Cond.selects "NameRests$Hermit" ({ cls := "NameRests$Tells", name := "holds", desc := "(I)I" } : Jvm.MethodName) ({ cls := "NameRests$Hermit", name := "holds", desc := "(I)I" } : Jvm.MethodName)) ∈ lw_all := lw_g (lw_at lw_m5 37 rfl) rfl
theorem q1100 : (Jvm.Cond.unhidden "NameRests$Hermit" "holds" "(I)I") ∈ lw_tbl := lw_at lw_m5 38 rfl
theorem q1101 : (Jvm.Cond.publicMethod ({ cls := "NameRests$Hermit", name := "holds", desc := "(I)I" } : Jvm.MethodName)) ∈ lw_tbl := lw_at lw_m5 39 rfl
theorem q1123 : (Jvm.Cond.selects "NameRests$Hermit" ({ cls := "NameRests$Tells", name := "knows", desc := "(I)I" } : Jvm.MethodName) ({ cls := "NameRests$Body", name := "knows", desc := "(I)I" } : Jvm.MethodName)) ∈ lw_all := lw_g (lw_at lw_m5 61 rfl) rfl
theorem q1124 : (Jvm.Cond.unhidden "NameRests$Hermit" "knows" "(I)I") ∈ lw_tbl := lw_at lw_m5 62 rfl
theorem q1140 : (Jvm.Cond.unhidden "NameRests$Hermit" "tells" "(I)I") ∈ lw_tbl := lw_at lw_m5 78 rfl
theorem q1214 : (Jvm.Cond.selects "NameRests$Hermit" ({ cls := "NameRests$Body", name := "isUnder", desc := "(I)Z" } : Jvm.MethodName) ({ cls := "NameRests$Hermit", name := "isUnder", desc := "(I)Z" } : Jvm.MethodName)) ∈ lw_all := lw_g (lw_at lw_m5 152 rfl) rfl
theorem q1215 : (Jvm.Cond.instanceMethod ({ cls := "NameRests$Hermit", name := "isUnder", desc := "(I)Z" } : Jvm.MethodName)) ∈ lw_all := lw_g (lw_at lw_m5 153 rfl) rfl
theorem q1216 : (Jvm.Cond.code ({ cls := "NameRests$Hermit", name := "isUnder", desc := "(I)Z" } : Jvm.MethodName) prog_12_method_3_code (2 : Nat) (Option.some Jvm.ClassFile.FieldType.boolean)) ∈ lw_all := lw_g (lw_at lw_m5 154 rfl) rfl
theorem q1217 : (Jvm.Cond.methodLink "NameRests$Hermit" (15 : Nat) ({ cls := "NameRests$Told", name := "isUnder", desc := "(I)Z" } : Jvm.MethodName)) ∈ lw_all := lw_g (lw_at lw_m5 155 rfl) rfl
theorem q1238 : (Jvm.Cond.selects "NameRests$Hermit" ({ cls := "NameRests$Body", name := "kind", desc := "()I" } : Jvm.MethodName) ({ cls := "NameRests$Hermit", name := "kind", desc := "()I" } : Jvm.MethodName)) ∈ lw_all := lw_g (lw_at lw_m5 176 rfl) rfl
theorem q1239 : (Jvm.Cond.instanceMethod ({ cls := "NameRests$Hermit", name := "kind", desc := "()I" } : Jvm.MethodName)) ∈ lw_all := lw_g (lw_at lw_m5 177 rfl) rfl
theorem q1240 : (Jvm.Cond.code ({ cls := "NameRests$Hermit", name := "kind", desc := "()I" } : Jvm.MethodName) prog_12_method_2_code (1 : Nat) (Option.some Jvm.ClassFile.FieldType.int)) ∈ lw_all := lw_g (lw_at lw_m5 178 rfl) rfl
theorem q1818 : (Jvm.Cond.selects "NameRests$Hermit" ({ cls := "NameRests$Body", name := "begins", desc := "(I)V" } : Jvm.MethodName) ({ cls := "NameRests$Body", name := "begins", desc := "(I)V" } : Jvm.MethodName)) ∈ lw_all := lw_g (lw_at lw_m8 36 rfl) rfl
theorem q1828 : (Jvm.Cond.selects "NameRests$Hermit" ({ cls := "NameRests$Body", name := "knows", desc := "(I)I" } : Jvm.MethodName) ({ cls := "NameRests$Body", name := "knows", desc := "(I)I" } : Jvm.MethodName)) ∈ lw_all := lw_g (lw_at lw_m8 46 rfl) rfl
theorem q1839 : (Jvm.Cond.castable "NameRests$Hermit" "NameRests$Body") ∈ lw_tbl := lw_at lw_m8 57 rfl
theorem q1862 : (Jvm.Cond.castable "NameRests$Hermit" "java/lang/Object") ∈ lw_tbl := lw_at lw_m8 80 rfl
theorem in_X21 : ∀ w ∈ wsX210, w ∈ lw_all := lw_in wsX210 [908, 909, 907, 905] (by decide +kernel) (by decide +kernel)

/-! NameRests$Gives -/
set_option maxRecDepth 100000
def RX22 : String := "NameRests$Gives"
abbrev cX22_gives : ByteArray := prog_10_method_3_code
def yX22_gives : MethodName := ⟨RX22, "gives", "(I)I"⟩
def dkwX22_gives_0 : List UInt8 := [42, 4, 185, 0, 1, 2, 0, 27, 42, 185, 0, 7, 1, 0, 96, 172]
abbrev dktX22_gives_0 : List UInt8 := dkwX22_gives_0 ++ []
theorem dksX22_gives_0 : cX22_gives.data.toList.drop 0 = dktX22_gives_0 := by decide +kernel
theorem dX22_gives_0 : decode cX22_gives 0 = .ok (.aload_n 0, 1) := dk_42 (dk_at dksX22_gives_0 0 rfl rfl)
theorem dX22_gives_1 : decode cX22_gives 1 = .ok (.iconst 1, 1) := dk_4 (dk_at dksX22_gives_0 1 rfl rfl)
theorem dX22_gives_2 : decode cX22_gives 2 = .ok (.invokeinterface 1 2, 5) := by decide +kernel
theorem dX22_gives_7 : decode cX22_gives 7 = .ok (.iload_n 1, 1) := dk_27 (dk_at dksX22_gives_0 7 rfl rfl)
theorem dX22_gives_8 : decode cX22_gives 8 = .ok (.aload_n 0, 1) := dk_42 (dk_at dksX22_gives_0 8 rfl rfl)
theorem dX22_gives_9 : decode cX22_gives 9 = .ok (.invokeinterface 7 1, 5) := by decide +kernel
theorem dX22_gives_14 : decode cX22_gives 14 = .ok (.iadd, 1) := dk_96 (dk_at dksX22_gives_0 14 rfl rfl)
theorem dX22_gives_15 : decode cX22_gives 15 = .ok (.ireturn, 1) := dk_172 (dk_at dksX22_gives_0 15 rfl rfl)
theorem q924 : (Jvm.Cond.declares ({ cls := "NameRests$Gives", name := "gives", desc := "(I)I" } : Jvm.MethodName)) ∈ lw_tbl := lw_at lw_m4 102 rfl
theorem q936 : (Jvm.Cond.instanceMethod ({ cls := "NameRests$Gives", name := "gives", desc := "(I)I" } : Jvm.MethodName)) ∈ lw_all := lw_g (lw_at lw_m4 114 rfl) rfl
theorem q937 : (Jvm.Cond.code ({ cls := "NameRests$Gives", name := "gives", desc := "(I)I" } : Jvm.MethodName) prog_10_method_3_code (2 : Nat) (Option.some Jvm.ClassFile.FieldType.int)) ∈ lw_all := lw_g (lw_at lw_m4 115 rfl) rfl
theorem q938 : (Jvm.Cond.interfaceEntry "NameRests$Gives" (1 : Nat)) ∈ lw_tbl := lw_at lw_m4 116 rfl
theorem q939 : (Jvm.Cond.methodLink "NameRests$Gives" (1 : Nat) ({ cls := "NameRests$Gives", name := "begins", desc := "(I)V" } : Jvm.MethodName)) ∈ lw_all := lw_g (lw_at lw_m4 117 rfl) rfl
theorem q940 : (Jvm.Cond.interfaceMethod "NameRests$Gives" "NameRests$Gives" "begins" "(I)V") ∈ lw_tbl := lw_at lw_m4 118 rfl
theorem q941 : (Jvm.Cond.declares ({ cls := "NameRests$Gives", name := "begins", desc := "(I)V" } : Jvm.MethodName)) ∈ lw_tbl := lw_at lw_m4 119 rfl
theorem q967 : (Jvm.Cond.interfaceEntry "NameRests$Gives" (7 : Nat)) ∈ lw_tbl := lw_at lw_m4 145 rfl
theorem q968 : (Jvm.Cond.methodLink "NameRests$Gives" (7 : Nat) ({ cls := "NameRests$Gives", name := "number", desc := "()I" } : Jvm.MethodName)) ∈ lw_all := lw_g (lw_at lw_m4 146 rfl) rfl
theorem q969 : (Jvm.Cond.interfaceMethod "NameRests$Gives" "NameRests$Gives" "number" "()I") ∈ lw_tbl := lw_at lw_m4 147 rfl
theorem q970 : (Jvm.Cond.declares ({ cls := "NameRests$Gives", name := "number", desc := "()I" } : Jvm.MethodName)) ∈ lw_tbl := lw_at lw_m4 148 rfl
theorem q1008 : (Jvm.Cond.publicMethod ({ cls := "NameRests$Gives", name := "gives", desc := "(I)I" } : Jvm.MethodName)) ∈ lw_tbl := lw_at lw_m4 186 rfl

/-! NameRests$Tells -/
set_option maxRecDepth 100000
def RX23 : String := "NameRests$Tells"
abbrev cX23_tells : ByteArray := prog_19_method_4_code
def yX23_tells : MethodName := ⟨RX23, "tells", "(I)I"⟩
def dkwX23_tells_1 : List UInt8 := [172]
abbrev dktX23_tells_1 : List UInt8 := dkwX23_tells_1 ++ []
def dkwX23_tells_0 : List UInt8 := [42, 5, 185, 0, 1, 2, 0, 42, 27, 185, 0, 7, 2, 0, 61, 28, 42, 4, 185, 0, 11, 2, 0, 100]
abbrev dktX23_tells_0 : List UInt8 := dkwX23_tells_0 ++ dktX23_tells_1
theorem dksX23_tells_0 : cX23_tells.data.toList.drop 0 = dktX23_tells_0 := by decide +kernel
theorem dksX23_tells_1 : cX23_tells.data.toList.drop 24 = dktX23_tells_1 := dk_seg dksX23_tells_0 24 rfl rfl
theorem dX23_tells_0 : decode cX23_tells 0 = .ok (.aload_n 0, 1) := dk_42 (dk_at dksX23_tells_0 0 rfl rfl)
theorem dX23_tells_1 : decode cX23_tells 1 = .ok (.iconst 2, 1) := dk_5 (dk_at dksX23_tells_0 1 rfl rfl)
theorem dX23_tells_2 : decode cX23_tells 2 = .ok (.invokeinterface 1 2, 5) := by decide +kernel
theorem dX23_tells_7 : decode cX23_tells 7 = .ok (.aload_n 0, 1) := dk_42 (dk_at dksX23_tells_0 7 rfl rfl)
theorem dX23_tells_8 : decode cX23_tells 8 = .ok (.iload_n 1, 1) := dk_27 (dk_at dksX23_tells_0 8 rfl rfl)
theorem dX23_tells_9 : decode cX23_tells 9 = .ok (.invokeinterface 7 2, 5) := by decide +kernel
theorem dX23_tells_14 : decode cX23_tells 14 = .ok (.istore_n 2, 1) := dk_61 (dk_at dksX23_tells_0 14 rfl rfl)
theorem dX23_tells_15 : decode cX23_tells 15 = .ok (.iload_n 2, 1) := dk_28 (dk_at dksX23_tells_0 15 rfl rfl)
theorem dX23_tells_16 : decode cX23_tells 16 = .ok (.aload_n 0, 1) := dk_42 (dk_at dksX23_tells_0 16 rfl rfl)
theorem dX23_tells_17 : decode cX23_tells 17 = .ok (.iconst 1, 1) := dk_4 (dk_at dksX23_tells_0 17 rfl rfl)
theorem dX23_tells_18 : decode cX23_tells 18 = .ok (.invokeinterface 11 2, 5) := by decide +kernel
theorem dX23_tells_23 : decode cX23_tells 23 = .ok (.isub, 1) := dk_100 (dk_at dksX23_tells_0 23 rfl rfl)
theorem dX23_tells_24 : decode cX23_tells 24 = .ok (.ireturn, 1) := dk_172 (dk_at dksX23_tells_1 0 rfl rfl)
theorem q1059 : (Jvm.Cond.declares ({ cls := "NameRests$Tells", name := "tells", desc := "(I)I" } : Jvm.MethodName)) ∈ lw_tbl := lw_at lw_m4 237 rfl
theorem q1063 : (Jvm.Cond.instanceMethod ({ cls := "NameRests$Tells", name := "tells", desc := "(I)I" } : Jvm.MethodName)) ∈ lw_all := lw_g (lw_at lw_m5 1 rfl) rfl
theorem q1064 : (Jvm.Cond.code ({ cls := "NameRests$Tells", name := "tells", desc := "(I)I" } : Jvm.MethodName) prog_19_method_4_code (3 : Nat) (Option.some Jvm.ClassFile.FieldType.int)) ∈ lw_all := lw_g (lw_at lw_m5 2 rfl) rfl
theorem q1065 : (Jvm.Cond.interfaceEntry "NameRests$Tells" (1 : Nat)) ∈ lw_tbl := lw_at lw_m5 3 rfl
theorem q1066 : (Jvm.Cond.methodLink "NameRests$Tells" (1 : Nat) ({ cls := "NameRests$Tells", name := "begins", desc := "(I)V" } : Jvm.MethodName)) ∈ lw_all := lw_g (lw_at lw_m5 4 rfl) rfl
theorem q1067 : (Jvm.Cond.interfaceMethod "NameRests$Tells" "NameRests$Tells" "begins" "(I)V") ∈ lw_tbl := lw_at lw_m5 5 rfl
theorem q1068 : (Jvm.Cond.declares ({ cls := "NameRests$Tells", name := "begins", desc := "(I)V" } : Jvm.MethodName)) ∈ lw_tbl := lw_at lw_m5 6 rfl
theorem q1085 : (Jvm.Cond.interfaceEntry "NameRests$Tells" (7 : Nat)) ∈ lw_tbl := lw_at lw_m5 23 rfl
theorem q1086 : (Jvm.Cond.methodLink "NameRests$Tells" (7 : Nat) ({ cls := "NameRests$Tells", name := "holds", desc := "(I)I" } : Jvm.MethodName)) ∈ lw_all := lw_g (lw_at lw_m5 24 rfl) rfl
theorem q1087 : (Jvm.Cond.interfaceMethod "NameRests$Tells" "NameRests$Tells" "holds" "(I)I") ∈ lw_tbl := lw_at lw_m5 25 rfl
theorem q1088 : (Jvm.Cond.declares ({ cls := "NameRests$Tells", name := "holds", desc := "(I)I" } : Jvm.MethodName)) ∈ lw_tbl := lw_at lw_m5 26 rfl
theorem q1109 : (Jvm.Cond.interfaceEntry "NameRests$Tells" (11 : Nat)) ∈ lw_tbl := lw_at lw_m5 47 rfl
theorem q1110 : (Jvm.Cond.methodLink "NameRests$Tells" (11 : Nat) ({ cls := "NameRests$Tells", name := "knows", desc := "(I)I" } : Jvm.MethodName)) ∈ lw_all := lw_g (lw_at lw_m5 48 rfl) rfl
theorem q1111 : (Jvm.Cond.interfaceMethod "NameRests$Tells" "NameRests$Tells" "knows" "(I)I") ∈ lw_tbl := lw_at lw_m5 49 rfl
theorem q1112 : (Jvm.Cond.declares ({ cls := "NameRests$Tells", name := "knows", desc := "(I)I" } : Jvm.MethodName)) ∈ lw_tbl := lw_at lw_m5 50 rfl
theorem q1144 : (Jvm.Cond.publicMethod ({ cls := "NameRests$Tells", name := "tells", desc := "(I)I" } : Jvm.MethodName)) ∈ lw_tbl := lw_at lw_m5 82 rfl

/-! java/lang/Throwable -/
set_option maxRecDepth 100000
def RJ0 : String := "java/lang/Throwable"
def TJ0 : u_T := fun k => match k with
  | 0 => ("java/lang/Throwable", "cause", "Ljava/lang/Throwable;", false)
  | 1 => ("java/lang/Throwable", "stackTrace", "[Ljava/lang/StackTraceElement;", false)
  | 2 => ("java/lang/Throwable", "suppressedExceptions", "Ljava/util/List;", false)
  | 3 => ("java/lang/Throwable", "detailMessage", "Ljava/lang/String;", false)
  | _ => ("java/lang/Throwable", "backtrace", "Ljava/lang/Object;", false)
def tyJ0 : Nat → FieldType := fun k => match k with
  | 0 => .object "java/lang/Throwable"
  | 1 => .array (.object "java/lang/StackTraceElement")
  | 2 => .object "java/util/List"
  | 3 => .object "java/lang/String"
  | _ => .object "java/lang/Object"
abbrev wsJ00 : List Cond := u_ws RJ0 TJ0 5
theorem nmJ0 : ∀ a, a < 5 → ∀ b, b < 5 → a ≠ b → (TJ0 a).2.1 ≠ (TJ0 b).2.1 := by decide +kernel
theorem tyJ0_ok : ∀ k, k < 5 → parseFieldDescriptor (TJ0 k).2.2.1 = some (tyJ0 k) := by decide +kernel
abbrev cJ0_init : ByteArray := prog_30_method_1_code
def yJ0_init : MethodName := ⟨RJ0, "<init>", "()V"⟩
def dkwJ0_init_1 : List UInt8 := [182, 0, 27, 87, 177]
abbrev dktJ0_init_1 : List UInt8 := dkwJ0_init_1 ++ []
def dkwJ0_init_0 : List UInt8 := [42, 183, 0, 1, 42, 42, 181, 0, 7, 42, 178, 0, 13, 181, 0, 17, 42, 178, 0, 20, 181, 0, 24, 42]
abbrev dktJ0_init_0 : List UInt8 := dkwJ0_init_0 ++ dktJ0_init_1
theorem dksJ0_init_0 : cJ0_init.data.toList.drop 0 = dktJ0_init_0 := by decide +kernel
theorem dksJ0_init_1 : cJ0_init.data.toList.drop 24 = dktJ0_init_1 := dk_seg dksJ0_init_0 24 rfl rfl
theorem dJ0_init_0 : decode cJ0_init 0 = .ok (.aload_n 0, 1) := dk_42 (dk_at dksJ0_init_0 0 rfl rfl)
theorem dJ0_init_1 : decode cJ0_init 1 = .ok (.invokespecial 1, 3) := dk_183 0 1 (dk_at dksJ0_init_0 1 rfl rfl)
theorem dJ0_init_4 : decode cJ0_init 4 = .ok (.aload_n 0, 1) := dk_42 (dk_at dksJ0_init_0 4 rfl rfl)
theorem dJ0_init_5 : decode cJ0_init 5 = .ok (.aload_n 0, 1) := dk_42 (dk_at dksJ0_init_0 5 rfl rfl)
theorem dJ0_init_6 : decode cJ0_init 6 = .ok (.putfield 7, 3) := dk_181 0 7 (dk_at dksJ0_init_0 6 rfl rfl)
theorem dJ0_init_9 : decode cJ0_init 9 = .ok (.aload_n 0, 1) := dk_42 (dk_at dksJ0_init_0 9 rfl rfl)
theorem dJ0_init_10 : decode cJ0_init 10 = .ok (.getstatic 13, 3) := dk_178 0 13 (dk_at dksJ0_init_0 10 rfl rfl)
theorem dJ0_init_13 : decode cJ0_init 13 = .ok (.putfield 17, 3) := dk_181 0 17 (dk_at dksJ0_init_0 13 rfl rfl)
theorem dJ0_init_16 : decode cJ0_init 16 = .ok (.aload_n 0, 1) := dk_42 (dk_at dksJ0_init_0 16 rfl rfl)
theorem dJ0_init_17 : decode cJ0_init 17 = .ok (.getstatic 20, 3) := dk_178 0 20 (dk_at dksJ0_init_0 17 rfl rfl)
theorem dJ0_init_20 : decode cJ0_init 20 = .ok (.putfield 24, 3) := dk_181 0 24 (dk_at dksJ0_init_0 20 rfl rfl)
theorem dJ0_init_23 : decode cJ0_init 23 = .ok (.aload_n 0, 1) := dk_42 (dk_at dksJ0_init_0 23 rfl rfl)
theorem dJ0_init_24 : decode cJ0_init 24 = .ok (.invokevirtual 27, 3) := dk_182 0 27 (dk_at dksJ0_init_1 0 rfl rfl)
theorem dJ0_init_27 : decode cJ0_init 27 = .ok (.pop, 1) := dk_87 (dk_at dksJ0_init_1 3 rfl rfl)
theorem dJ0_init_28 : decode cJ0_init 28 = .ok (.return_, 1) := dk_177 (dk_at dksJ0_init_1 4 rfl rfl)
abbrev cJ0_init_2 : ByteArray := prog_30_method_5_code
def yJ0_init_2 : MethodName := ⟨RJ0, "<init>", "(Ljava/lang/String;Ljava/lang/Throwable;ZZ)V"⟩
def dkwJ0_init_2_2 : List UInt8 := [44, 181, 0, 7, 29, 154, 0, 8, 42, 1, 181, 0, 24, 177]
abbrev dktJ0_init_2_2 : List UInt8 := dkwJ0_init_2_2 ++ []
def dkwJ0_init_2_1 : List UInt8 := [21, 4, 153, 0, 11, 42, 182, 0, 27, 87, 167, 0, 8, 42, 1, 181, 0, 17, 42, 43, 181, 0, 31, 42]
abbrev dktJ0_init_2_1 : List UInt8 := dkwJ0_init_2_1 ++ dktJ0_init_2_2
def dkwJ0_init_2_0 : List UInt8 := [42, 183, 0, 1, 42, 42, 181, 0, 7, 42, 178, 0, 13, 181, 0, 17, 42, 178, 0, 20, 181, 0, 24]
abbrev dktJ0_init_2_0 : List UInt8 := dkwJ0_init_2_0 ++ dktJ0_init_2_1
theorem dksJ0_init_2_0 : cJ0_init_2.data.toList.drop 0 = dktJ0_init_2_0 := by decide +kernel
theorem dksJ0_init_2_1 : cJ0_init_2.data.toList.drop 23 = dktJ0_init_2_1 := dk_seg dksJ0_init_2_0 23 rfl rfl
theorem dksJ0_init_2_2 : cJ0_init_2.data.toList.drop 47 = dktJ0_init_2_2 := dk_seg dksJ0_init_2_1 24 rfl rfl
theorem dJ0_init_2_0 : decode cJ0_init_2 0 = .ok (.aload_n 0, 1) := dk_42 (dk_at dksJ0_init_2_0 0 rfl rfl)
theorem dJ0_init_2_1 : decode cJ0_init_2 1 = .ok (.invokespecial 1, 3) := dk_183 0 1 (dk_at dksJ0_init_2_0 1 rfl rfl)
theorem dJ0_init_2_4 : decode cJ0_init_2 4 = .ok (.aload_n 0, 1) := dk_42 (dk_at dksJ0_init_2_0 4 rfl rfl)
theorem dJ0_init_2_5 : decode cJ0_init_2 5 = .ok (.aload_n 0, 1) := dk_42 (dk_at dksJ0_init_2_0 5 rfl rfl)
theorem dJ0_init_2_6 : decode cJ0_init_2 6 = .ok (.putfield 7, 3) := dk_181 0 7 (dk_at dksJ0_init_2_0 6 rfl rfl)
theorem dJ0_init_2_9 : decode cJ0_init_2 9 = .ok (.aload_n 0, 1) := dk_42 (dk_at dksJ0_init_2_0 9 rfl rfl)
theorem dJ0_init_2_10 : decode cJ0_init_2 10 = .ok (.getstatic 13, 3) := dk_178 0 13 (dk_at dksJ0_init_2_0 10 rfl rfl)
theorem dJ0_init_2_13 : decode cJ0_init_2 13 = .ok (.putfield 17, 3) := dk_181 0 17 (dk_at dksJ0_init_2_0 13 rfl rfl)
theorem dJ0_init_2_16 : decode cJ0_init_2 16 = .ok (.aload_n 0, 1) := dk_42 (dk_at dksJ0_init_2_0 16 rfl rfl)
theorem dJ0_init_2_17 : decode cJ0_init_2 17 = .ok (.getstatic 20, 3) := dk_178 0 20 (dk_at dksJ0_init_2_0 17 rfl rfl)
theorem dJ0_init_2_20 : decode cJ0_init_2 20 = .ok (.putfield 24, 3) := dk_181 0 24 (dk_at dksJ0_init_2_0 20 rfl rfl)
theorem dJ0_init_2_23 : decode cJ0_init_2 23 = .ok (.iload 4, 2) := dk_21 4 (dk_at dksJ0_init_2_1 0 rfl rfl)
theorem dJ0_init_2_25 : decode cJ0_init_2 25 = .ok (.ifCond .eq 11, 3) := dk_153 0 11 (dk_at dksJ0_init_2_1 2 rfl rfl)
theorem dJ0_init_2_28 : decode cJ0_init_2 28 = .ok (.aload_n 0, 1) := dk_42 (dk_at dksJ0_init_2_1 5 rfl rfl)
theorem dJ0_init_2_29 : decode cJ0_init_2 29 = .ok (.invokevirtual 27, 3) := dk_182 0 27 (dk_at dksJ0_init_2_1 6 rfl rfl)
theorem dJ0_init_2_32 : decode cJ0_init_2 32 = .ok (.pop, 1) := dk_87 (dk_at dksJ0_init_2_1 9 rfl rfl)
theorem dJ0_init_2_33 : decode cJ0_init_2 33 = .ok (.goto 8, 3) := dk_167 0 8 (dk_at dksJ0_init_2_1 10 rfl rfl)
theorem dJ0_init_2_36 : decode cJ0_init_2 36 = .ok (.aload_n 0, 1) := dk_42 (dk_at dksJ0_init_2_1 13 rfl rfl)
theorem dJ0_init_2_37 : decode cJ0_init_2 37 = .ok (.aconst_null, 1) := dk_1 (dk_at dksJ0_init_2_1 14 rfl rfl)
theorem dJ0_init_2_38 : decode cJ0_init_2 38 = .ok (.putfield 17, 3) := dk_181 0 17 (dk_at dksJ0_init_2_1 15 rfl rfl)
theorem dJ0_init_2_41 : decode cJ0_init_2 41 = .ok (.aload_n 0, 1) := dk_42 (dk_at dksJ0_init_2_1 18 rfl rfl)
theorem dJ0_init_2_42 : decode cJ0_init_2 42 = .ok (.aload_n 1, 1) := dk_43 (dk_at dksJ0_init_2_1 19 rfl rfl)
theorem dJ0_init_2_43 : decode cJ0_init_2 43 = .ok (.putfield 31, 3) := dk_181 0 31 (dk_at dksJ0_init_2_1 20 rfl rfl)
theorem dJ0_init_2_46 : decode cJ0_init_2 46 = .ok (.aload_n 0, 1) := dk_42 (dk_at dksJ0_init_2_1 23 rfl rfl)
theorem dJ0_init_2_47 : decode cJ0_init_2 47 = .ok (.aload_n 2, 1) := dk_44 (dk_at dksJ0_init_2_2 0 rfl rfl)
theorem dJ0_init_2_48 : decode cJ0_init_2 48 = .ok (.putfield 7, 3) := dk_181 0 7 (dk_at dksJ0_init_2_2 1 rfl rfl)
theorem dJ0_init_2_51 : decode cJ0_init_2 51 = .ok (.iload_n 3, 1) := dk_29 (dk_at dksJ0_init_2_2 4 rfl rfl)
theorem dJ0_init_2_52 : decode cJ0_init_2 52 = .ok (.ifCond .ne 8, 3) := dk_154 0 8 (dk_at dksJ0_init_2_2 5 rfl rfl)
theorem dJ0_init_2_55 : decode cJ0_init_2 55 = .ok (.aload_n 0, 1) := dk_42 (dk_at dksJ0_init_2_2 8 rfl rfl)
theorem dJ0_init_2_56 : decode cJ0_init_2 56 = .ok (.aconst_null, 1) := dk_1 (dk_at dksJ0_init_2_2 9 rfl rfl)
theorem dJ0_init_2_57 : decode cJ0_init_2 57 = .ok (.putfield 24, 3) := dk_181 0 24 (dk_at dksJ0_init_2_2 10 rfl rfl)
theorem dJ0_init_2_60 : decode cJ0_init_2 60 = .ok (.return_, 1) := dk_177 (dk_at dksJ0_init_2_2 13 rfl rfl)
theorem q104 : (Jvm.Cond.initialized "java/lang/Throwable") ∈ lw_all := lw_g (lw_at lw_m1 2 rfl) rfl
theorem q155 : (Jvm.Cond.declares ({ cls := "java/lang/Throwable", name := "<init>", desc := "()V" } : Jvm.MethodName)) ∈ lw_tbl := lw_at lw_m1 53 rfl
theorem q156 : (Jvm.Cond.declares ({ cls := "java/lang/Throwable", name := "<init>", desc := "(Ljava/lang/String;)V" } : Jvm.MethodName)) ∈ lw_tbl := lw_at lw_m1 54 rfl
theorem q160 : (Jvm.Cond.lays "java/lang/Throwable" "java/lang/Throwable" "cause" "Ljava/lang/Throwable;") ∈ lw_all := lw_g (lw_at lw_m1 58 rfl) rfl
theorem q162 : (Jvm.Cond.lays "java/lang/Throwable" "java/lang/Throwable" "stackTrace" "[Ljava/lang/StackTraceElement;") ∈ lw_all := lw_g (lw_at lw_m1 60 rfl) rfl
theorem q164 : (Jvm.Cond.lays "java/lang/Throwable" "java/lang/Throwable" "suppressedExceptions" "Ljava/util/List;") ∈ lw_all := lw_g (lw_at lw_m1 62 rfl) rfl
theorem q166 : (Jvm.Cond.lays "java/lang/Throwable" "java/lang/Throwable" "detailMessage" "Ljava/lang/String;") ∈ lw_all := lw_g (lw_at lw_m1 64 rfl) rfl
theorem q168 : (Jvm.Cond.lays "java/lang/Throwable" "java/lang/Throwable" "backtrace" "Ljava/lang/Object;") ∈ lw_all := lw_g (lw_at lw_m1 66 rfl) rfl
theorem q169 : (Jvm.Cond.fieldLink "java/lang/Throwable" (198 : Nat) "java/lang/Throwable" "backtrace" "Ljava/lang/Object;") ∈ lw_all := lw_g (lw_at lw_m1 67 rfl) rfl
theorem q170 : (Jvm.Cond.superclass "java/lang/Throwable" "java/lang/Object") ∈ lw_all := lw_g (lw_at lw_m1 68 rfl) rfl
theorem q171 : (Jvm.Cond.instanceMethod ({ cls := "java/lang/Throwable", name := "<init>", desc := "()V" } : Jvm.MethodName)) ∈ lw_all := lw_g (lw_at lw_m1 69 rfl) rfl
theorem q172 : (Jvm.Cond.code ({ cls := "java/lang/Throwable", name := "<init>", desc := "()V" } : Jvm.MethodName) prog_30_method_1_code (1 : Nat) (Option.none : Option Jvm.ClassFile.FieldType)) ∈ lw_all := lw_g (lw_at lw_m1 70 rfl) rfl
theorem q173 : (Jvm.Cond.methodLink "java/lang/Throwable" (1 : Nat) ({ cls := "java/lang/Object", name := "<init>", desc := "()V" } : Jvm.MethodName)) ∈ lw_all := lw_g (lw_at lw_m1 71 rfl) rfl
theorem q174 : (Jvm.Cond.fieldLink "java/lang/Throwable" (13 : Nat) "java/lang/Throwable" "UNASSIGNED_STACK" "[Ljava/lang/StackTraceElement;") ∈ lw_all := lw_g (lw_at lw_m1 72 rfl) rfl
theorem q175 : (Jvm.Cond.laysStatic "java/lang/Throwable" "UNASSIGNED_STACK" "[Ljava/lang/StackTraceElement;") ∈ lw_tbl := lw_at lw_m1 73 rfl
theorem q176 : (Jvm.Cond.fieldLink "java/lang/Throwable" (20 : Nat) "java/lang/Throwable" "SUPPRESSED_SENTINEL" "Ljava/util/List;") ∈ lw_all := lw_g (lw_at lw_m1 74 rfl) rfl
theorem q177 : (Jvm.Cond.laysStatic "java/lang/Throwable" "SUPPRESSED_SENTINEL" "Ljava/util/List;") ∈ lw_tbl := lw_at lw_m1 75 rfl
theorem q178 : (Jvm.Cond.methodLink "java/lang/Throwable" (27 : Nat) ({ cls := "java/lang/Throwable", name := "fillInStackTrace", desc := "()Ljava/lang/Throwable;" } : Jvm.MethodName)) ∈ lw_all := lw_g (lw_at lw_m1 76 rfl) rfl
theorem q179 : (Jvm.Cond.instanceMethod ({ cls := "java/lang/Throwable", name := "fillInStackTrace", desc := "()Ljava/lang/Throwable;" } : Jvm.MethodName)) ∈ lw_all := lw_g (lw_at lw_m1 77 rfl) rfl
theorem q180 : (Jvm.Cond.sameMethod "java/lang/Throwable" "java/lang/Throwable" "fillInStackTrace" "()Ljava/lang/Throwable;") ∈ lw_all := lw_g (lw_at lw_m1 78 rfl) rfl
theorem q182 : (Jvm.Cond.codeSync ({ cls := "java/lang/Throwable", name := "fillInStackTrace", desc := "()Ljava/lang/Throwable;" } : Jvm.MethodName) prog_30_method_18_code (1 : Nat) (Option.some (Jvm.ClassFile.FieldType.object "java/lang/Throwable"))) ∈ lw_all := lw_g (lw_at lw_m1 80 rfl) rfl
theorem q183 : (Jvm.Cond.methodLink "java/lang/Throwable" (202 : Nat) ({ cls := "java/lang/Throwable", name := "fillInStackTrace", desc := "(I)Ljava/lang/Throwable;" } : Jvm.MethodName)) ∈ lw_all := lw_g (lw_at lw_m1 81 rfl) rfl
theorem q184 : (Jvm.Cond.privateMethod ({ cls := "java/lang/Throwable", name := "fillInStackTrace", desc := "(I)Ljava/lang/Throwable;" } : Jvm.MethodName)) ∈ lw_tbl := lw_at lw_m1 82 rfl
theorem q185 : (Jvm.Cond.instanceMethod ({ cls := "java/lang/Throwable", name := "fillInStackTrace", desc := "(I)Ljava/lang/Throwable;" } : Jvm.MethodName)) ∈ lw_all := lw_g (lw_at lw_m1 83 rfl) rfl
theorem q186 : (Jvm.Cond.instantiable "java/lang/Throwable" (6 : Nat)) ∈ lw_all := lw_g (lw_at lw_m1 84 rfl) rfl
theorem q187 : (Jvm.Cond.native ({ cls := "java/lang/Throwable", name := "fillInStackTrace", desc := "(I)Ljava/lang/Throwable;" } : Jvm.MethodName)) ∈ lw_all := lw_g (lw_at lw_m1 85 rfl) rfl
theorem q198 : (Jvm.Cond.instanceMethod ({ cls := "java/lang/Throwable", name := "<init>", desc := "(Ljava/lang/String;Ljava/lang/Throwable;ZZ)V" } : Jvm.MethodName)) ∈ lw_all := lw_g (lw_at lw_m1 96 rfl) rfl
theorem q199 : (Jvm.Cond.code ({ cls := "java/lang/Throwable", name := "<init>", desc := "(Ljava/lang/String;Ljava/lang/Throwable;ZZ)V" } : Jvm.MethodName) prog_30_method_5_code (5 : Nat) (Option.none : Option Jvm.ClassFile.FieldType)) ∈ lw_all := lw_g (lw_at lw_m1 97 rfl) rfl
theorem q200 : (Jvm.Cond.fieldLink "java/lang/Throwable" (198 : Nat) "java/lang/Throwable" "backtrace" "Ljava/lang/Object;") ∈ lw_all := lw_g (lw_at lw_m1 98 rfl) rfl
theorem q201 : (Jvm.Cond.fieldLink "java/lang/Throwable" (31 : Nat) "java/lang/Throwable" "detailMessage" "Ljava/lang/String;") ∈ lw_all := lw_g (lw_at lw_m1 99 rfl) rfl
theorem q202 : (Jvm.Cond.fieldLink "java/lang/Throwable" (7 : Nat) "java/lang/Throwable" "cause" "Ljava/lang/Throwable;") ∈ lw_all := lw_g (lw_at lw_m1 100 rfl) rfl
theorem q203 : (Jvm.Cond.fieldLink "java/lang/Throwable" (17 : Nat) "java/lang/Throwable" "stackTrace" "[Ljava/lang/StackTraceElement;") ∈ lw_all := lw_g (lw_at lw_m1 101 rfl) rfl
theorem q204 : (Jvm.Cond.fieldLink "java/lang/Throwable" (24 : Nat) "java/lang/Throwable" "suppressedExceptions" "Ljava/util/List;") ∈ lw_all := lw_g (lw_at lw_m1 102 rfl) rfl
theorem q205 : (Jvm.Cond.soleField "java/lang/Throwable" "backtrace") ∈ lw_all := lw_g (lw_at lw_m1 103 rfl) rfl
theorem q206 : (Jvm.Cond.soleField "java/lang/Throwable" "detailMessage") ∈ lw_all := lw_g (lw_at lw_m1 104 rfl) rfl
theorem q207 : (Jvm.Cond.soleField "java/lang/Throwable" "cause") ∈ lw_all := lw_g (lw_at lw_m1 105 rfl) rfl
theorem q208 : (Jvm.Cond.soleField "java/lang/Throwable" "stackTrace") ∈ lw_all := lw_g (lw_at lw_m1 106 rfl) rfl
theorem q210 : (Jvm.Cond.soleField "java/lang/Throwable" "depth") ∈ lw_all := lw_g (lw_at lw_m1 108 rfl) rfl
theorem q211 : (Jvm.Cond.soleField "java/lang/Throwable" "suppressedExceptions") ∈ lw_all := lw_g (lw_at lw_m1 109 rfl) rfl
theorem q1810 : (Jvm.Cond.sameMethod "java/lang/Throwable" "java/lang/Throwable" "fillInStackTrace" "(I)Ljava/lang/Throwable;") ∈ lw_all := lw_g (lw_at lw_m8 28 rfl) rfl
theorem q1864 : (Jvm.Cond.castable "java/lang/Throwable" "java/lang/Object") ∈ lw_tbl := lw_at lw_m8 82 rfl
theorem in_J0 : ∀ w ∈ wsJ00, w ∈ lw_all := lw_in wsJ00 [160, 162, 164, 166, 168] (by decide +kernel) (by decide +kernel)

/-! java/lang/Exception -/
set_option maxRecDepth 100000
def RJ1 : String := "java/lang/Exception"
abbrev cJ1_init : ByteArray := prog_26_method_5_code
def yJ1_init : MethodName := ⟨RJ1, "<init>", "(Ljava/lang/String;Ljava/lang/Throwable;ZZ)V"⟩
def dkwJ1_init_0 : List UInt8 := [42, 43, 44, 29, 21, 4, 183, 0, 16, 177]
abbrev dktJ1_init_0 : List UInt8 := dkwJ1_init_0 ++ []
theorem dksJ1_init_0 : cJ1_init.data.toList.drop 0 = dktJ1_init_0 := by decide +kernel
theorem dJ1_init_0 : decode cJ1_init 0 = .ok (.aload_n 0, 1) := dk_42 (dk_at dksJ1_init_0 0 rfl rfl)
theorem dJ1_init_1 : decode cJ1_init 1 = .ok (.aload_n 1, 1) := dk_43 (dk_at dksJ1_init_0 1 rfl rfl)
theorem dJ1_init_2 : decode cJ1_init 2 = .ok (.aload_n 2, 1) := dk_44 (dk_at dksJ1_init_0 2 rfl rfl)
theorem dJ1_init_3 : decode cJ1_init 3 = .ok (.iload_n 3, 1) := dk_29 (dk_at dksJ1_init_0 3 rfl rfl)
theorem dJ1_init_4 : decode cJ1_init 4 = .ok (.iload 4, 2) := dk_21 4 (dk_at dksJ1_init_0 4 rfl rfl)
theorem dJ1_init_6 : decode cJ1_init 6 = .ok (.invokespecial 16, 3) := dk_183 0 16 (dk_at dksJ1_init_0 6 rfl rfl)
theorem dJ1_init_9 : decode cJ1_init 9 = .ok (.return_, 1) := dk_177 (dk_at dksJ1_init_0 9 rfl rfl)
theorem q105 : (Jvm.Cond.initialized "java/lang/Exception") ∈ lw_all := lw_g (lw_at lw_m1 3 rfl) rfl
theorem q153 : (Jvm.Cond.declares ({ cls := "java/lang/Exception", name := "<init>", desc := "()V" } : Jvm.MethodName)) ∈ lw_tbl := lw_at lw_m1 51 rfl
theorem q154 : (Jvm.Cond.declares ({ cls := "java/lang/Exception", name := "<init>", desc := "(Ljava/lang/String;)V" } : Jvm.MethodName)) ∈ lw_tbl := lw_at lw_m1 52 rfl
theorem q195 : (Jvm.Cond.instanceMethod ({ cls := "java/lang/Exception", name := "<init>", desc := "(Ljava/lang/String;Ljava/lang/Throwable;ZZ)V" } : Jvm.MethodName)) ∈ lw_all := lw_g (lw_at lw_m1 93 rfl) rfl
theorem q196 : (Jvm.Cond.code ({ cls := "java/lang/Exception", name := "<init>", desc := "(Ljava/lang/String;Ljava/lang/Throwable;ZZ)V" } : Jvm.MethodName) prog_26_method_5_code (5 : Nat) (Option.none : Option Jvm.ClassFile.FieldType)) ∈ lw_all := lw_g (lw_at lw_m1 94 rfl) rfl
theorem q197 : (Jvm.Cond.methodLink "java/lang/Exception" (16 : Nat) ({ cls := "java/lang/Throwable", name := "<init>", desc := "(Ljava/lang/String;Ljava/lang/Throwable;ZZ)V" } : Jvm.MethodName)) ∈ lw_all := lw_g (lw_at lw_m1 95 rfl) rfl

/-! java/lang/RuntimeException -/
set_option maxRecDepth 100000
def RJ2 : String := "java/lang/RuntimeException"
abbrev cJ2_init : ByteArray := prog_28_method_5_code
def yJ2_init : MethodName := ⟨RJ2, "<init>", "(Ljava/lang/String;Ljava/lang/Throwable;ZZ)V"⟩
def dkwJ2_init_0 : List UInt8 := [42, 43, 44, 29, 21, 4, 183, 0, 16, 177]
abbrev dktJ2_init_0 : List UInt8 := dkwJ2_init_0 ++ []
theorem dksJ2_init_0 : cJ2_init.data.toList.drop 0 = dktJ2_init_0 := by decide +kernel
theorem dJ2_init_0 : decode cJ2_init 0 = .ok (.aload_n 0, 1) := dk_42 (dk_at dksJ2_init_0 0 rfl rfl)
theorem dJ2_init_1 : decode cJ2_init 1 = .ok (.aload_n 1, 1) := dk_43 (dk_at dksJ2_init_0 1 rfl rfl)
theorem dJ2_init_2 : decode cJ2_init 2 = .ok (.aload_n 2, 1) := dk_44 (dk_at dksJ2_init_0 2 rfl rfl)
theorem dJ2_init_3 : decode cJ2_init 3 = .ok (.iload_n 3, 1) := dk_29 (dk_at dksJ2_init_0 3 rfl rfl)
theorem dJ2_init_4 : decode cJ2_init 4 = .ok (.iload 4, 2) := dk_21 4 (dk_at dksJ2_init_0 4 rfl rfl)
theorem dJ2_init_6 : decode cJ2_init 6 = .ok (.invokespecial 16, 3) := dk_183 0 16 (dk_at dksJ2_init_0 6 rfl rfl)
theorem dJ2_init_9 : decode cJ2_init 9 = .ok (.return_, 1) := dk_177 (dk_at dksJ2_init_0 9 rfl rfl)
theorem q106 : (Jvm.Cond.initialized "java/lang/RuntimeException") ∈ lw_all := lw_g (lw_at lw_m1 4 rfl) rfl
theorem q151 : (Jvm.Cond.declares ({ cls := "java/lang/RuntimeException", name := "<init>", desc := "()V" } : Jvm.MethodName)) ∈ lw_tbl := lw_at lw_m1 49 rfl
theorem q152 : (Jvm.Cond.declares ({ cls := "java/lang/RuntimeException", name := "<init>", desc := "(Ljava/lang/String;)V" } : Jvm.MethodName)) ∈ lw_tbl := lw_at lw_m1 50 rfl
theorem q192 : (Jvm.Cond.instanceMethod ({ cls := "java/lang/RuntimeException", name := "<init>", desc := "(Ljava/lang/String;Ljava/lang/Throwable;ZZ)V" } : Jvm.MethodName)) ∈ lw_all := lw_g (lw_at lw_m1 90 rfl) rfl
theorem q193 : (Jvm.Cond.code ({ cls := "java/lang/RuntimeException", name := "<init>", desc := "(Ljava/lang/String;Ljava/lang/Throwable;ZZ)V" } : Jvm.MethodName) prog_28_method_5_code (5 : Nat) (Option.none : Option Jvm.ClassFile.FieldType)) ∈ lw_all := lw_g (lw_at lw_m1 91 rfl) rfl
theorem q194 : (Jvm.Cond.methodLink "java/lang/RuntimeException" (16 : Nat) ({ cls := "java/lang/Exception", name := "<init>", desc := "(Ljava/lang/String;Ljava/lang/Throwable;ZZ)V" } : Jvm.MethodName)) ∈ lw_all := lw_g (lw_at lw_m1 92 rfl) rfl

/-! java/lang/Math -/
set_option maxRecDepth 100000
def RJ3 : String := "java/lang/Math"
abbrev cJ3_max : ByteArray := prog_27_method_65_code
def yJ3_max : MethodName := ⟨RJ3, "max", "(II)I"⟩
def dkwJ3_max_0 : List UInt8 := [26, 27, 161, 0, 7, 26, 167, 0, 4, 27, 172]
abbrev dktJ3_max_0 : List UInt8 := dkwJ3_max_0 ++ []
theorem dksJ3_max_0 : cJ3_max.data.toList.drop 0 = dktJ3_max_0 := by decide +kernel
theorem dJ3_max_0 : decode cJ3_max 0 = .ok (.iload_n 0, 1) := dk_26 (dk_at dksJ3_max_0 0 rfl rfl)
theorem dJ3_max_1 : decode cJ3_max 1 = .ok (.iload_n 1, 1) := dk_27 (dk_at dksJ3_max_0 1 rfl rfl)
theorem dJ3_max_2 : decode cJ3_max 2 = .ok (.if_icmp .lt 7, 3) := dk_161 0 7 (dk_at dksJ3_max_0 2 rfl rfl)
theorem dJ3_max_5 : decode cJ3_max 5 = .ok (.iload_n 0, 1) := dk_26 (dk_at dksJ3_max_0 5 rfl rfl)
theorem dJ3_max_6 : decode cJ3_max 6 = .ok (.goto 4, 3) := dk_167 0 4 (dk_at dksJ3_max_0 6 rfl rfl)
theorem dJ3_max_9 : decode cJ3_max 9 = .ok (.iload_n 1, 1) := dk_27 (dk_at dksJ3_max_0 9 rfl rfl)
theorem dJ3_max_10 : decode cJ3_max 10 = .ok (.ireturn, 1) := dk_172 (dk_at dksJ3_max_0 10 rfl rfl)
abbrev cJ3_min : ByteArray := prog_27_method_69_code
def yJ3_min : MethodName := ⟨RJ3, "min", "(II)I"⟩
def dkwJ3_min_0 : List UInt8 := [26, 27, 163, 0, 7, 26, 167, 0, 4, 27, 172]
abbrev dktJ3_min_0 : List UInt8 := dkwJ3_min_0 ++ []
theorem dksJ3_min_0 : cJ3_min.data.toList.drop 0 = dktJ3_min_0 := by decide +kernel
theorem dJ3_min_0 : decode cJ3_min 0 = .ok (.iload_n 0, 1) := dk_26 (dk_at dksJ3_min_0 0 rfl rfl)
theorem dJ3_min_1 : decode cJ3_min 1 = .ok (.iload_n 1, 1) := dk_27 (dk_at dksJ3_min_0 1 rfl rfl)
theorem dJ3_min_2 : decode cJ3_min 2 = .ok (.if_icmp .gt 7, 3) := dk_163 0 7 (dk_at dksJ3_min_0 2 rfl rfl)
theorem dJ3_min_5 : decode cJ3_min 5 = .ok (.iload_n 0, 1) := dk_26 (dk_at dksJ3_min_0 5 rfl rfl)
theorem dJ3_min_6 : decode cJ3_min 6 = .ok (.goto 4, 3) := dk_167 0 4 (dk_at dksJ3_min_0 6 rfl rfl)
theorem dJ3_min_9 : decode cJ3_min 9 = .ok (.iload_n 1, 1) := dk_27 (dk_at dksJ3_min_0 9 rfl rfl)
theorem dJ3_min_10 : decode cJ3_min 10 = .ok (.ireturn, 1) := dk_172 (dk_at dksJ3_min_0 10 rfl rfl)
theorem q120 : (Jvm.Cond.initialized "java/lang/Math") ∈ lw_all := lw_g (lw_at lw_m1 18 rfl) rfl
theorem q690 : (Jvm.Cond.static ({ cls := "java/lang/Math", name := "max", desc := "(II)I" } : Jvm.MethodName)) ∈ lw_all := lw_g (lw_at lw_m3 108 rfl) rfl
theorem q691 : (Jvm.Cond.code ({ cls := "java/lang/Math", name := "max", desc := "(II)I" } : Jvm.MethodName) prog_27_method_65_code (2 : Nat) (Option.some Jvm.ClassFile.FieldType.int)) ∈ lw_all := lw_g (lw_at lw_m3 109 rfl) rfl
theorem q1150 : (Jvm.Cond.static ({ cls := "java/lang/Math", name := "min", desc := "(II)I" } : Jvm.MethodName)) ∈ lw_all := lw_g (lw_at lw_m5 88 rfl) rfl
theorem q1151 : (Jvm.Cond.code ({ cls := "java/lang/Math", name := "min", desc := "(II)I" } : Jvm.MethodName) prog_27_method_69_code (2 : Nat) (Option.some Jvm.ClassFile.FieldType.int)) ∈ lw_all := lw_g (lw_at lw_m5 89 rfl) rfl

/-! java/lang/Object -/
set_option maxRecDepth 100000
def RJ4 : String := "java/lang/Object"
abbrev cJ4_init : ByteArray := object_method_1_code
def yJ4_init : MethodName := ⟨RJ4, "<init>", "()V"⟩
theorem dJ4_init_0 : decode cJ4_init 0 = .ok (.return_, 1) := by decide +kernel
theorem q144 : (Jvm.Cond.instanceMethod ({ cls := "java/lang/Object", name := "<init>", desc := "()V" } : Jvm.MethodName)) ∈ lw_all := lw_g (lw_at lw_m1 42 rfl) rfl
theorem q145 : (Jvm.Cond.code ({ cls := "java/lang/Object", name := "<init>", desc := "()V" } : Jvm.MethodName) object_method_1_code (1 : Nat) (Option.none : Option Jvm.ClassFile.FieldType)) ∈ lw_all := lw_g (lw_at lw_m1 43 rfl) rfl


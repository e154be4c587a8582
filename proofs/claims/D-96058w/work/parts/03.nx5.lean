/-! NameRestsModel -/
set_option maxRecDepth 100000
def RX5 : String := "NameRestsModel"
def TX5 : u_T := fun k => match k with
  | 0 => ("NameRestsModel", "code", "I", false)
  | 1 => ("NameRestsModel", "people", "I", false)
  | 2 => ("NameRestsModel", "born", "[I", true)
  | 3 => ("NameRestsModel", "dies", "[I", true)
  | 4 => ("NameRestsModel", "named", "[I", true)
  | 5 => ("NameRestsModel", "meetings", "I", false)
  | 6 => ("NameRestsModel", "meetsOne", "[I", true)
  | 7 => ("NameRestsModel", "meetsOther", "[I", true)
  | 8 => ("NameRestsModel", "meetsIn", "[I", true)
  | 9 => ("NameRestsModel", "hearing", "I", false)
  | 10 => ("NameRestsModel", "worth", "[I", true)
  | 11 => ("NameRestsModel", "fame", "[I", true)
  | 12 => ("NameRestsModel", "doneMany", "I", false)
  | 13 => ("NameRestsModel", "undoneMany", "I", false)
  | 14 => ("NameRestsModel", "changeOf", "[I", true)
  | 15 => ("NameRestsModel", "changeAt", "[I", true)
  | 16 => ("NameRestsModel", "before", "[I", true)
  | 17 => ("NameRestsModel", "behind", "[I", true)
  | 18 => ("NameRestsModel", "tape", "[B", true)
  | 19 => ("NameRestsModel", "taped", "I", false)
  | 20 => ("NameRestsModel", "here", "I", false)
  | 21 => ("NameRestsModel", "fault", "I", false)
  | 22 => ("NameRestsModel", "open", "I", false)
  | 23 => ("NameRestsModel", "laid", "I", false)
  | 24 => ("NameRestsModel", "act", "[B", true)
  | 25 => ("NameRestsModel", "with", "[I", true)
  | 26 => ("NameRestsModel", "lineMany", "[I", true)
  | 27 => ("NameRestsModel", "testEnd", "[S", true)
  | 28 => ("NameRestsModel", "lineEnd", "[S", true)
  | 29 => ("NameRestsModel", "facts", "[I", true)
  | 30 => ("NameRestsModel", "pile", "[I", true)
  | 31 => ("NameRestsModel", "hasLaw", "Z", false)
  | 32 => ("NameRestsModel", "known", "[I", true)
  | 33 => ("NameRestsModel", "done", "[Z", true)
  | 34 => ("NameRestsModel", "row", "[I", true)
  | 35 => ("NameRestsModel", "wasDies", "[I", true)
  | 36 => ("NameRestsModel", "hasImage", "Z", false)
  | 37 => ("NameRestsModel", "keptPeople", "I", false)
  | 38 => ("NameRestsModel", "keptNamed", "[I", true)
  | 39 => ("NameRestsModel", "bodies", "I", false)
  | 40 => ("NameRestsModel", "kind", "[I", true)
  | 41 => ("NameRestsModel", "traces", "I", false)
  | 42 => ("NameRestsModel", "traced", "[I", true)
  | 43 => ("NameRestsModel", "holds", "[I", true)
  | 44 => ("NameRestsModel", "size", "[I", true)
  | 45 => ("NameRestsModel", "elements", "[J", true)
  | _ => ("NameRestsModel", "shifted", "[J", true)
def tyX5 : Nat → FieldType := fun k => match k with
  | 0 => .int
  | 1 => .int
  | 2 => .array .int
  | 3 => .array .int
  | 4 => .array .int
  | 5 => .int
  | 6 => .array .int
  | 7 => .array .int
  | 8 => .array .int
  | 9 => .int
  | 10 => .array .int
  | 11 => .array .int
  | 12 => .int
  | 13 => .int
  | 14 => .array .int
  | 15 => .array .int
  | 16 => .array .int
  | 17 => .array .int
  | 18 => .array .byte
  | 19 => .int
  | 20 => .int
  | 21 => .int
  | 22 => .int
  | 23 => .int
  | 24 => .array .byte
  | 25 => .array .int
  | 26 => .array .int
  | 27 => .array .short
  | 28 => .array .short
  | 29 => .array .int
  | 30 => .array .int
  | 31 => .boolean
  | 32 => .array .int
  | 33 => .array .boolean
  | 34 => .array .int
  | 35 => .array .int
  | 36 => .boolean
  | 37 => .int
  | 38 => .array .int
  | 39 => .int
  | 40 => .array .int
  | 41 => .int
  | 42 => .array .int
  | 43 => .array .int
  | 44 => .array .int
  | 45 => .array .long
  | _ => .array .long
abbrev wsX50 : List Cond := u_ws RX5 TX5 47
set_option maxRecDepth 100000 in
theorem nmX5 : ∀ a, a < 47 → ∀ b, b < 47 → a ≠ b → (TX5 a).2.1 ≠ (TX5 b).2.1 := by decide +kernel
set_option maxRecDepth 100000 in
theorem tyX5_ok : ∀ k, k < 47 → parseFieldDescriptor (TX5 k).2.2.1 = some (tyX5 k) := by decide +kernel
abbrev cX5_init : ByteArray := prog_25_method_1_code
def yX5_init : MethodName := ⟨RX5, "<init>", "()V"⟩
def dkwX5_init_16 : List UInt8 := [42, 16, 60, 188, 11, 181, 0, 104, 177]
abbrev dktX5_init_16 : List UInt8 := dkwX5_init_16 ++ []
def dkwX5_init_15 : List UInt8 := [89, 8, 2, 79, 181, 0, 94, 42, 16, 6, 188, 10, 181, 0, 97, 42, 17, 1, 104, 188, 11, 181, 0, 100]
abbrev dktX5_init_15 : List UInt8 := dkwX5_init_15 ++ dktX5_init_16
def dkwX5_init_14 : List UInt8 := [16, 6, 188, 10, 89, 3, 2, 79, 89, 4, 2, 79, 89, 5, 2, 79, 89, 6, 2, 79, 89, 7, 2, 79]
abbrev dktX5_init_14 : List UInt8 := dkwX5_init_14 ++ dktX5_init_15
def dkwX5_init_13 : List UInt8 := [16, 12, 188, 10, 181, 0, 85, 42, 16, 50, 188, 10, 181, 0, 88, 42, 16, 24, 188, 10, 181, 0, 91, 42]
abbrev dktX5_init_13 : List UInt8 := dkwX5_init_13 ++ dktX5_init_14
def dkwX5_init_12 : List UInt8 := [16, 16, 188, 4, 181, 0, 75, 42, 16, 12, 188, 10, 181, 0, 79, 42, 16, 12, 188, 10, 181, 0, 82, 42]
abbrev dktX5_init_12 : List UInt8 := dkwX5_init_12 ++ dktX5_init_13
def dkwX5_init_11 : List UInt8 := [188, 10, 181, 0, 66, 42, 17, 0, 130, 188, 10, 181, 0, 69, 42, 16, 12, 188, 10, 181, 0, 72, 42]
abbrev dktX5_init_11 : List UInt8 := dkwX5_init_11 ++ dktX5_init_12
def dkwX5_init_10 : List UInt8 := [188, 10, 181, 0, 56, 42, 16, 122, 188, 9, 181, 0, 59, 42, 16, 122, 188, 9, 181, 0, 63, 42, 16, 6]
abbrev dktX5_init_10 : List UInt8 := dkwX5_init_10 ++ dktX5_init_11
def dkwX5_init_9 : List UInt8 := [181, 0, 46, 42, 17, 1, 4, 188, 8, 181, 0, 50, 42, 17, 1, 4, 188, 10, 181, 0, 53, 42, 5]
abbrev dktX5_init_9 : List UInt8 := dkwX5_init_9 ++ dktX5_init_10
def dkwX5_init_8 : List UInt8 := [181, 0, 37, 42, 16, 40, 188, 10, 181, 0, 40, 42, 16, 40, 188, 10, 181, 0, 43, 42, 16, 120, 188, 8]
abbrev dktX5_init_8 : List UInt8 := dkwX5_init_8 ++ dktX5_init_9
def dkwX5_init_7 : List UInt8 := [181, 0, 28, 42, 16, 12, 188, 10, 181, 0, 31, 42, 16, 40, 188, 10, 181, 0, 34, 42, 16, 40, 188, 10]
abbrev dktX5_init_7 : List UInt8 := dkwX5_init_7 ++ dktX5_init_8
def dkwX5_init_6 : List UInt8 := [16, 7, 4, 79, 89, 16, 8, 4, 79, 89, 16, 9, 4, 79, 89, 16, 10, 4, 79, 89, 16, 11, 4, 79]
abbrev dktX5_init_6 : List UInt8 := dkwX5_init_6 ++ dktX5_init_7
def dkwX5_init_5 : List UInt8 := [4, 79, 89, 5, 4, 79, 89, 6, 4, 79, 89, 7, 4, 79, 89, 8, 4, 79, 89, 16, 6, 4, 79, 89]
abbrev dktX5_init_5 : List UInt8 := dkwX5_init_5 ++ dktX5_init_6
def dkwX5_init_4 : List UInt8 := [188, 10, 181, 0, 22, 42, 16, 16, 188, 10, 181, 0, 25, 42, 16, 12, 188, 10, 89, 3, 4, 79, 89, 4]
abbrev dktX5_init_4 : List UInt8 := dkwX5_init_4 ++ dktX5_init_5
def dkwX5_init_3 : List UInt8 := [16, 10, 2, 79, 89, 16, 11, 2, 79, 181, 0, 16, 42, 16, 16, 188, 10, 181, 0, 19, 42, 16, 16]
abbrev dktX5_init_3 : List UInt8 := dkwX5_init_3 ++ dktX5_init_4
def dkwX5_init_2 : List UInt8 := [2, 79, 89, 16, 6, 2, 79, 89, 16, 7, 2, 79, 89, 16, 8, 2, 79, 89, 16, 9, 2, 79, 89]
abbrev dktX5_init_2 : List UInt8 := dkwX5_init_2 ++ dktX5_init_3
def dkwX5_init_1 : List UInt8 := [188, 10, 89, 3, 2, 79, 89, 4, 2, 79, 89, 5, 2, 79, 89, 6, 2, 79, 89, 7, 2, 79, 89, 8]
abbrev dktX5_init_1 : List UInt8 := dkwX5_init_1 ++ dktX5_init_2
def dkwX5_init_0 : List UInt8 := [42, 183, 0, 1, 42, 16, 12, 188, 10, 181, 0, 7, 42, 16, 12, 188, 10, 181, 0, 13, 42, 16, 12]
abbrev dktX5_init_0 : List UInt8 := dkwX5_init_0 ++ dktX5_init_1
theorem dksX5_init_0 : cX5_init.data.toList.drop 0 = dktX5_init_0 := by decide +kernel
theorem dksX5_init_1 : cX5_init.data.toList.drop 23 = dktX5_init_1 := dk_seg dksX5_init_0 23 rfl rfl
theorem dksX5_init_2 : cX5_init.data.toList.drop 47 = dktX5_init_2 := dk_seg dksX5_init_1 24 rfl rfl
theorem dksX5_init_3 : cX5_init.data.toList.drop 70 = dktX5_init_3 := dk_seg dksX5_init_2 23 rfl rfl
theorem dksX5_init_4 : cX5_init.data.toList.drop 93 = dktX5_init_4 := dk_seg dksX5_init_3 23 rfl rfl
theorem dksX5_init_5 : cX5_init.data.toList.drop 117 = dktX5_init_5 := dk_seg dksX5_init_4 24 rfl rfl
theorem dksX5_init_6 : cX5_init.data.toList.drop 141 = dktX5_init_6 := dk_seg dksX5_init_5 24 rfl rfl
theorem dksX5_init_7 : cX5_init.data.toList.drop 165 = dktX5_init_7 := dk_seg dksX5_init_6 24 rfl rfl
theorem dksX5_init_8 : cX5_init.data.toList.drop 189 = dktX5_init_8 := dk_seg dksX5_init_7 24 rfl rfl
theorem dksX5_init_9 : cX5_init.data.toList.drop 213 = dktX5_init_9 := dk_seg dksX5_init_8 24 rfl rfl
theorem dksX5_init_10 : cX5_init.data.toList.drop 236 = dktX5_init_10 := dk_seg dksX5_init_9 23 rfl rfl
theorem dksX5_init_11 : cX5_init.data.toList.drop 260 = dktX5_init_11 := dk_seg dksX5_init_10 24 rfl rfl
theorem dksX5_init_12 : cX5_init.data.toList.drop 283 = dktX5_init_12 := dk_seg dksX5_init_11 23 rfl rfl
theorem dksX5_init_13 : cX5_init.data.toList.drop 307 = dktX5_init_13 := dk_seg dksX5_init_12 24 rfl rfl
theorem dksX5_init_14 : cX5_init.data.toList.drop 331 = dktX5_init_14 := dk_seg dksX5_init_13 24 rfl rfl
theorem dksX5_init_15 : cX5_init.data.toList.drop 355 = dktX5_init_15 := dk_seg dksX5_init_14 24 rfl rfl
theorem dksX5_init_16 : cX5_init.data.toList.drop 379 = dktX5_init_16 := dk_seg dksX5_init_15 24 rfl rfl
theorem dX5_init_0 : decode cX5_init 0 = .ok (.aload_n 0, 1) := dk_42 (dk_at dksX5_init_0 0 rfl rfl)
theorem dX5_init_1 : decode cX5_init 1 = .ok (.invokespecial 1, 3) := dk_183 0 1 (dk_at dksX5_init_0 1 rfl rfl)
theorem dX5_init_4 : decode cX5_init 4 = .ok (.aload_n 0, 1) := dk_42 (dk_at dksX5_init_0 4 rfl rfl)
theorem dX5_init_5 : decode cX5_init 5 = .ok (.bipush 12, 2) := dk_16 12 (dk_at dksX5_init_0 5 rfl rfl)
theorem dX5_init_7 : decode cX5_init 7 = .ok (.newarray .int, 2) := dk_188_10 (dk_at dksX5_init_0 7 rfl rfl)
theorem dX5_init_9 : decode cX5_init 9 = .ok (.putfield 7, 3) := dk_181 0 7 (dk_at dksX5_init_0 9 rfl rfl)
theorem dX5_init_12 : decode cX5_init 12 = .ok (.aload_n 0, 1) := dk_42 (dk_at dksX5_init_0 12 rfl rfl)
theorem dX5_init_13 : decode cX5_init 13 = .ok (.bipush 12, 2) := dk_16 12 (dk_at dksX5_init_0 13 rfl rfl)
theorem dX5_init_15 : decode cX5_init 15 = .ok (.newarray .int, 2) := dk_188_10 (dk_at dksX5_init_0 15 rfl rfl)
theorem dX5_init_17 : decode cX5_init 17 = .ok (.putfield 13, 3) := dk_181 0 13 (dk_at dksX5_init_0 17 rfl rfl)
theorem dX5_init_20 : decode cX5_init 20 = .ok (.aload_n 0, 1) := dk_42 (dk_at dksX5_init_0 20 rfl rfl)
theorem dX5_init_21 : decode cX5_init 21 = .ok (.bipush 12, 2) := dk_16 12 (dk_at dksX5_init_0 21 rfl rfl)
theorem dX5_init_23 : decode cX5_init 23 = .ok (.newarray .int, 2) := dk_188_10 (dk_at dksX5_init_1 0 rfl rfl)
theorem dX5_init_25 : decode cX5_init 25 = .ok (.dup, 1) := dk_89 (dk_at dksX5_init_1 2 rfl rfl)
theorem dX5_init_26 : decode cX5_init 26 = .ok (.iconst 0, 1) := dk_3 (dk_at dksX5_init_1 3 rfl rfl)
theorem dX5_init_27 : decode cX5_init 27 = .ok (.iconst (-1), 1) := dk_2 (dk_at dksX5_init_1 4 rfl rfl)
theorem dX5_init_28 : decode cX5_init 28 = .ok (.iastore, 1) := dk_79 (dk_at dksX5_init_1 5 rfl rfl)
theorem dX5_init_29 : decode cX5_init 29 = .ok (.dup, 1) := dk_89 (dk_at dksX5_init_1 6 rfl rfl)
theorem dX5_init_30 : decode cX5_init 30 = .ok (.iconst 1, 1) := dk_4 (dk_at dksX5_init_1 7 rfl rfl)
theorem dX5_init_31 : decode cX5_init 31 = .ok (.iconst (-1), 1) := dk_2 (dk_at dksX5_init_1 8 rfl rfl)
theorem dX5_init_32 : decode cX5_init 32 = .ok (.iastore, 1) := dk_79 (dk_at dksX5_init_1 9 rfl rfl)
theorem dX5_init_33 : decode cX5_init 33 = .ok (.dup, 1) := dk_89 (dk_at dksX5_init_1 10 rfl rfl)
theorem dX5_init_34 : decode cX5_init 34 = .ok (.iconst 2, 1) := dk_5 (dk_at dksX5_init_1 11 rfl rfl)
theorem dX5_init_35 : decode cX5_init 35 = .ok (.iconst (-1), 1) := dk_2 (dk_at dksX5_init_1 12 rfl rfl)
theorem dX5_init_36 : decode cX5_init 36 = .ok (.iastore, 1) := dk_79 (dk_at dksX5_init_1 13 rfl rfl)
theorem dX5_init_37 : decode cX5_init 37 = .ok (.dup, 1) := dk_89 (dk_at dksX5_init_1 14 rfl rfl)
theorem dX5_init_38 : decode cX5_init 38 = .ok (.iconst 3, 1) := dk_6 (dk_at dksX5_init_1 15 rfl rfl)
theorem dX5_init_39 : decode cX5_init 39 = .ok (.iconst (-1), 1) := dk_2 (dk_at dksX5_init_1 16 rfl rfl)
theorem dX5_init_40 : decode cX5_init 40 = .ok (.iastore, 1) := dk_79 (dk_at dksX5_init_1 17 rfl rfl)
theorem dX5_init_41 : decode cX5_init 41 = .ok (.dup, 1) := dk_89 (dk_at dksX5_init_1 18 rfl rfl)
theorem dX5_init_42 : decode cX5_init 42 = .ok (.iconst 4, 1) := dk_7 (dk_at dksX5_init_1 19 rfl rfl)
theorem dX5_init_43 : decode cX5_init 43 = .ok (.iconst (-1), 1) := dk_2 (dk_at dksX5_init_1 20 rfl rfl)
theorem dX5_init_44 : decode cX5_init 44 = .ok (.iastore, 1) := dk_79 (dk_at dksX5_init_1 21 rfl rfl)
theorem dX5_init_45 : decode cX5_init 45 = .ok (.dup, 1) := dk_89 (dk_at dksX5_init_1 22 rfl rfl)
theorem dX5_init_46 : decode cX5_init 46 = .ok (.iconst 5, 1) := dk_8 (dk_at dksX5_init_1 23 rfl rfl)
theorem dX5_init_47 : decode cX5_init 47 = .ok (.iconst (-1), 1) := dk_2 (dk_at dksX5_init_2 0 rfl rfl)
theorem dX5_init_48 : decode cX5_init 48 = .ok (.iastore, 1) := dk_79 (dk_at dksX5_init_2 1 rfl rfl)
theorem dX5_init_49 : decode cX5_init 49 = .ok (.dup, 1) := dk_89 (dk_at dksX5_init_2 2 rfl rfl)
theorem dX5_init_50 : decode cX5_init 50 = .ok (.bipush 6, 2) := dk_16 6 (dk_at dksX5_init_2 3 rfl rfl)
theorem dX5_init_52 : decode cX5_init 52 = .ok (.iconst (-1), 1) := dk_2 (dk_at dksX5_init_2 5 rfl rfl)
theorem dX5_init_53 : decode cX5_init 53 = .ok (.iastore, 1) := dk_79 (dk_at dksX5_init_2 6 rfl rfl)
theorem dX5_init_54 : decode cX5_init 54 = .ok (.dup, 1) := dk_89 (dk_at dksX5_init_2 7 rfl rfl)
theorem dX5_init_55 : decode cX5_init 55 = .ok (.bipush 7, 2) := dk_16 7 (dk_at dksX5_init_2 8 rfl rfl)
theorem dX5_init_57 : decode cX5_init 57 = .ok (.iconst (-1), 1) := dk_2 (dk_at dksX5_init_2 10 rfl rfl)
theorem dX5_init_58 : decode cX5_init 58 = .ok (.iastore, 1) := dk_79 (dk_at dksX5_init_2 11 rfl rfl)
theorem dX5_init_59 : decode cX5_init 59 = .ok (.dup, 1) := dk_89 (dk_at dksX5_init_2 12 rfl rfl)
theorem dX5_init_60 : decode cX5_init 60 = .ok (.bipush 8, 2) := dk_16 8 (dk_at dksX5_init_2 13 rfl rfl)
theorem dX5_init_62 : decode cX5_init 62 = .ok (.iconst (-1), 1) := dk_2 (dk_at dksX5_init_2 15 rfl rfl)
theorem dX5_init_63 : decode cX5_init 63 = .ok (.iastore, 1) := dk_79 (dk_at dksX5_init_2 16 rfl rfl)
theorem dX5_init_64 : decode cX5_init 64 = .ok (.dup, 1) := dk_89 (dk_at dksX5_init_2 17 rfl rfl)
theorem dX5_init_65 : decode cX5_init 65 = .ok (.bipush 9, 2) := dk_16 9 (dk_at dksX5_init_2 18 rfl rfl)
theorem dX5_init_67 : decode cX5_init 67 = .ok (.iconst (-1), 1) := dk_2 (dk_at dksX5_init_2 20 rfl rfl)
theorem dX5_init_68 : decode cX5_init 68 = .ok (.iastore, 1) := dk_79 (dk_at dksX5_init_2 21 rfl rfl)
theorem dX5_init_69 : decode cX5_init 69 = .ok (.dup, 1) := dk_89 (dk_at dksX5_init_2 22 rfl rfl)
theorem dX5_init_70 : decode cX5_init 70 = .ok (.bipush 10, 2) := dk_16 10 (dk_at dksX5_init_3 0 rfl rfl)
theorem dX5_init_72 : decode cX5_init 72 = .ok (.iconst (-1), 1) := dk_2 (dk_at dksX5_init_3 2 rfl rfl)
theorem dX5_init_73 : decode cX5_init 73 = .ok (.iastore, 1) := dk_79 (dk_at dksX5_init_3 3 rfl rfl)
theorem dX5_init_74 : decode cX5_init 74 = .ok (.dup, 1) := dk_89 (dk_at dksX5_init_3 4 rfl rfl)
theorem dX5_init_75 : decode cX5_init 75 = .ok (.bipush 11, 2) := dk_16 11 (dk_at dksX5_init_3 5 rfl rfl)
theorem dX5_init_77 : decode cX5_init 77 = .ok (.iconst (-1), 1) := dk_2 (dk_at dksX5_init_3 7 rfl rfl)
theorem dX5_init_78 : decode cX5_init 78 = .ok (.iastore, 1) := dk_79 (dk_at dksX5_init_3 8 rfl rfl)
theorem dX5_init_79 : decode cX5_init 79 = .ok (.putfield 16, 3) := dk_181 0 16 (dk_at dksX5_init_3 9 rfl rfl)
theorem dX5_init_82 : decode cX5_init 82 = .ok (.aload_n 0, 1) := dk_42 (dk_at dksX5_init_3 12 rfl rfl)
theorem dX5_init_83 : decode cX5_init 83 = .ok (.bipush 16, 2) := dk_16 16 (dk_at dksX5_init_3 13 rfl rfl)
theorem dX5_init_85 : decode cX5_init 85 = .ok (.newarray .int, 2) := dk_188_10 (dk_at dksX5_init_3 15 rfl rfl)
theorem dX5_init_87 : decode cX5_init 87 = .ok (.putfield 19, 3) := dk_181 0 19 (dk_at dksX5_init_3 17 rfl rfl)
theorem dX5_init_90 : decode cX5_init 90 = .ok (.aload_n 0, 1) := dk_42 (dk_at dksX5_init_3 20 rfl rfl)
theorem dX5_init_91 : decode cX5_init 91 = .ok (.bipush 16, 2) := dk_16 16 (dk_at dksX5_init_3 21 rfl rfl)
theorem dX5_init_93 : decode cX5_init 93 = .ok (.newarray .int, 2) := dk_188_10 (dk_at dksX5_init_4 0 rfl rfl)
theorem dX5_init_95 : decode cX5_init 95 = .ok (.putfield 22, 3) := dk_181 0 22 (dk_at dksX5_init_4 2 rfl rfl)
theorem dX5_init_98 : decode cX5_init 98 = .ok (.aload_n 0, 1) := dk_42 (dk_at dksX5_init_4 5 rfl rfl)
theorem dX5_init_99 : decode cX5_init 99 = .ok (.bipush 16, 2) := dk_16 16 (dk_at dksX5_init_4 6 rfl rfl)
theorem dX5_init_101 : decode cX5_init 101 = .ok (.newarray .int, 2) := dk_188_10 (dk_at dksX5_init_4 8 rfl rfl)
theorem dX5_init_103 : decode cX5_init 103 = .ok (.putfield 25, 3) := dk_181 0 25 (dk_at dksX5_init_4 10 rfl rfl)
theorem dX5_init_106 : decode cX5_init 106 = .ok (.aload_n 0, 1) := dk_42 (dk_at dksX5_init_4 13 rfl rfl)
theorem dX5_init_107 : decode cX5_init 107 = .ok (.bipush 12, 2) := dk_16 12 (dk_at dksX5_init_4 14 rfl rfl)
theorem dX5_init_109 : decode cX5_init 109 = .ok (.newarray .int, 2) := dk_188_10 (dk_at dksX5_init_4 16 rfl rfl)
theorem dX5_init_111 : decode cX5_init 111 = .ok (.dup, 1) := dk_89 (dk_at dksX5_init_4 18 rfl rfl)
theorem dX5_init_112 : decode cX5_init 112 = .ok (.iconst 0, 1) := dk_3 (dk_at dksX5_init_4 19 rfl rfl)
theorem dX5_init_113 : decode cX5_init 113 = .ok (.iconst 1, 1) := dk_4 (dk_at dksX5_init_4 20 rfl rfl)
theorem dX5_init_114 : decode cX5_init 114 = .ok (.iastore, 1) := dk_79 (dk_at dksX5_init_4 21 rfl rfl)
theorem dX5_init_115 : decode cX5_init 115 = .ok (.dup, 1) := dk_89 (dk_at dksX5_init_4 22 rfl rfl)
theorem dX5_init_116 : decode cX5_init 116 = .ok (.iconst 1, 1) := dk_4 (dk_at dksX5_init_4 23 rfl rfl)
theorem dX5_init_117 : decode cX5_init 117 = .ok (.iconst 1, 1) := dk_4 (dk_at dksX5_init_5 0 rfl rfl)
theorem dX5_init_118 : decode cX5_init 118 = .ok (.iastore, 1) := dk_79 (dk_at dksX5_init_5 1 rfl rfl)
theorem dX5_init_119 : decode cX5_init 119 = .ok (.dup, 1) := dk_89 (dk_at dksX5_init_5 2 rfl rfl)
theorem dX5_init_120 : decode cX5_init 120 = .ok (.iconst 2, 1) := dk_5 (dk_at dksX5_init_5 3 rfl rfl)
theorem dX5_init_121 : decode cX5_init 121 = .ok (.iconst 1, 1) := dk_4 (dk_at dksX5_init_5 4 rfl rfl)
theorem dX5_init_122 : decode cX5_init 122 = .ok (.iastore, 1) := dk_79 (dk_at dksX5_init_5 5 rfl rfl)
theorem dX5_init_123 : decode cX5_init 123 = .ok (.dup, 1) := dk_89 (dk_at dksX5_init_5 6 rfl rfl)
theorem dX5_init_124 : decode cX5_init 124 = .ok (.iconst 3, 1) := dk_6 (dk_at dksX5_init_5 7 rfl rfl)
theorem dX5_init_125 : decode cX5_init 125 = .ok (.iconst 1, 1) := dk_4 (dk_at dksX5_init_5 8 rfl rfl)
theorem dX5_init_126 : decode cX5_init 126 = .ok (.iastore, 1) := dk_79 (dk_at dksX5_init_5 9 rfl rfl)
theorem dX5_init_127 : decode cX5_init 127 = .ok (.dup, 1) := dk_89 (dk_at dksX5_init_5 10 rfl rfl)
theorem dX5_init_128 : decode cX5_init 128 = .ok (.iconst 4, 1) := dk_7 (dk_at dksX5_init_5 11 rfl rfl)
theorem dX5_init_129 : decode cX5_init 129 = .ok (.iconst 1, 1) := dk_4 (dk_at dksX5_init_5 12 rfl rfl)
theorem dX5_init_130 : decode cX5_init 130 = .ok (.iastore, 1) := dk_79 (dk_at dksX5_init_5 13 rfl rfl)
theorem dX5_init_131 : decode cX5_init 131 = .ok (.dup, 1) := dk_89 (dk_at dksX5_init_5 14 rfl rfl)
theorem dX5_init_132 : decode cX5_init 132 = .ok (.iconst 5, 1) := dk_8 (dk_at dksX5_init_5 15 rfl rfl)
theorem dX5_init_133 : decode cX5_init 133 = .ok (.iconst 1, 1) := dk_4 (dk_at dksX5_init_5 16 rfl rfl)
theorem dX5_init_134 : decode cX5_init 134 = .ok (.iastore, 1) := dk_79 (dk_at dksX5_init_5 17 rfl rfl)
theorem dX5_init_135 : decode cX5_init 135 = .ok (.dup, 1) := dk_89 (dk_at dksX5_init_5 18 rfl rfl)
theorem dX5_init_136 : decode cX5_init 136 = .ok (.bipush 6, 2) := dk_16 6 (dk_at dksX5_init_5 19 rfl rfl)
theorem dX5_init_138 : decode cX5_init 138 = .ok (.iconst 1, 1) := dk_4 (dk_at dksX5_init_5 21 rfl rfl)
theorem dX5_init_139 : decode cX5_init 139 = .ok (.iastore, 1) := dk_79 (dk_at dksX5_init_5 22 rfl rfl)
theorem dX5_init_140 : decode cX5_init 140 = .ok (.dup, 1) := dk_89 (dk_at dksX5_init_5 23 rfl rfl)
theorem dX5_init_141 : decode cX5_init 141 = .ok (.bipush 7, 2) := dk_16 7 (dk_at dksX5_init_6 0 rfl rfl)
theorem dX5_init_143 : decode cX5_init 143 = .ok (.iconst 1, 1) := dk_4 (dk_at dksX5_init_6 2 rfl rfl)
theorem dX5_init_144 : decode cX5_init 144 = .ok (.iastore, 1) := dk_79 (dk_at dksX5_init_6 3 rfl rfl)
theorem dX5_init_145 : decode cX5_init 145 = .ok (.dup, 1) := dk_89 (dk_at dksX5_init_6 4 rfl rfl)
theorem dX5_init_146 : decode cX5_init 146 = .ok (.bipush 8, 2) := dk_16 8 (dk_at dksX5_init_6 5 rfl rfl)
theorem dX5_init_148 : decode cX5_init 148 = .ok (.iconst 1, 1) := dk_4 (dk_at dksX5_init_6 7 rfl rfl)
theorem dX5_init_149 : decode cX5_init 149 = .ok (.iastore, 1) := dk_79 (dk_at dksX5_init_6 8 rfl rfl)
theorem dX5_init_150 : decode cX5_init 150 = .ok (.dup, 1) := dk_89 (dk_at dksX5_init_6 9 rfl rfl)
theorem dX5_init_151 : decode cX5_init 151 = .ok (.bipush 9, 2) := dk_16 9 (dk_at dksX5_init_6 10 rfl rfl)
theorem dX5_init_153 : decode cX5_init 153 = .ok (.iconst 1, 1) := dk_4 (dk_at dksX5_init_6 12 rfl rfl)
theorem dX5_init_154 : decode cX5_init 154 = .ok (.iastore, 1) := dk_79 (dk_at dksX5_init_6 13 rfl rfl)
theorem dX5_init_155 : decode cX5_init 155 = .ok (.dup, 1) := dk_89 (dk_at dksX5_init_6 14 rfl rfl)
theorem dX5_init_156 : decode cX5_init 156 = .ok (.bipush 10, 2) := dk_16 10 (dk_at dksX5_init_6 15 rfl rfl)
theorem dX5_init_158 : decode cX5_init 158 = .ok (.iconst 1, 1) := dk_4 (dk_at dksX5_init_6 17 rfl rfl)
theorem dX5_init_159 : decode cX5_init 159 = .ok (.iastore, 1) := dk_79 (dk_at dksX5_init_6 18 rfl rfl)
theorem dX5_init_160 : decode cX5_init 160 = .ok (.dup, 1) := dk_89 (dk_at dksX5_init_6 19 rfl rfl)
theorem dX5_init_161 : decode cX5_init 161 = .ok (.bipush 11, 2) := dk_16 11 (dk_at dksX5_init_6 20 rfl rfl)
theorem dX5_init_163 : decode cX5_init 163 = .ok (.iconst 1, 1) := dk_4 (dk_at dksX5_init_6 22 rfl rfl)
theorem dX5_init_164 : decode cX5_init 164 = .ok (.iastore, 1) := dk_79 (dk_at dksX5_init_6 23 rfl rfl)
theorem dX5_init_165 : decode cX5_init 165 = .ok (.putfield 28, 3) := dk_181 0 28 (dk_at dksX5_init_7 0 rfl rfl)
theorem dX5_init_168 : decode cX5_init 168 = .ok (.aload_n 0, 1) := dk_42 (dk_at dksX5_init_7 3 rfl rfl)
theorem dX5_init_169 : decode cX5_init 169 = .ok (.bipush 12, 2) := dk_16 12 (dk_at dksX5_init_7 4 rfl rfl)
theorem dX5_init_171 : decode cX5_init 171 = .ok (.newarray .int, 2) := dk_188_10 (dk_at dksX5_init_7 6 rfl rfl)
theorem dX5_init_173 : decode cX5_init 173 = .ok (.putfield 31, 3) := dk_181 0 31 (dk_at dksX5_init_7 8 rfl rfl)
theorem dX5_init_176 : decode cX5_init 176 = .ok (.aload_n 0, 1) := dk_42 (dk_at dksX5_init_7 11 rfl rfl)
theorem dX5_init_177 : decode cX5_init 177 = .ok (.bipush 40, 2) := dk_16 40 (dk_at dksX5_init_7 12 rfl rfl)
theorem dX5_init_179 : decode cX5_init 179 = .ok (.newarray .int, 2) := dk_188_10 (dk_at dksX5_init_7 14 rfl rfl)
theorem dX5_init_181 : decode cX5_init 181 = .ok (.putfield 34, 3) := dk_181 0 34 (dk_at dksX5_init_7 16 rfl rfl)
theorem dX5_init_184 : decode cX5_init 184 = .ok (.aload_n 0, 1) := dk_42 (dk_at dksX5_init_7 19 rfl rfl)
theorem dX5_init_185 : decode cX5_init 185 = .ok (.bipush 40, 2) := dk_16 40 (dk_at dksX5_init_7 20 rfl rfl)
theorem dX5_init_187 : decode cX5_init 187 = .ok (.newarray .int, 2) := dk_188_10 (dk_at dksX5_init_7 22 rfl rfl)
theorem dX5_init_189 : decode cX5_init 189 = .ok (.putfield 37, 3) := dk_181 0 37 (dk_at dksX5_init_8 0 rfl rfl)
theorem dX5_init_192 : decode cX5_init 192 = .ok (.aload_n 0, 1) := dk_42 (dk_at dksX5_init_8 3 rfl rfl)
theorem dX5_init_193 : decode cX5_init 193 = .ok (.bipush 40, 2) := dk_16 40 (dk_at dksX5_init_8 4 rfl rfl)
theorem dX5_init_195 : decode cX5_init 195 = .ok (.newarray .int, 2) := dk_188_10 (dk_at dksX5_init_8 6 rfl rfl)
theorem dX5_init_197 : decode cX5_init 197 = .ok (.putfield 40, 3) := dk_181 0 40 (dk_at dksX5_init_8 8 rfl rfl)
theorem dX5_init_200 : decode cX5_init 200 = .ok (.aload_n 0, 1) := dk_42 (dk_at dksX5_init_8 11 rfl rfl)
theorem dX5_init_201 : decode cX5_init 201 = .ok (.bipush 40, 2) := dk_16 40 (dk_at dksX5_init_8 12 rfl rfl)
theorem dX5_init_203 : decode cX5_init 203 = .ok (.newarray .int, 2) := dk_188_10 (dk_at dksX5_init_8 14 rfl rfl)
theorem dX5_init_205 : decode cX5_init 205 = .ok (.putfield 43, 3) := dk_181 0 43 (dk_at dksX5_init_8 16 rfl rfl)
theorem dX5_init_208 : decode cX5_init 208 = .ok (.aload_n 0, 1) := dk_42 (dk_at dksX5_init_8 19 rfl rfl)
theorem dX5_init_209 : decode cX5_init 209 = .ok (.bipush 120, 2) := dk_16 120 (dk_at dksX5_init_8 20 rfl rfl)
theorem dX5_init_211 : decode cX5_init 211 = .ok (.newarray .byte, 2) := dk_188_8 (dk_at dksX5_init_8 22 rfl rfl)
theorem dX5_init_213 : decode cX5_init 213 = .ok (.putfield 46, 3) := dk_181 0 46 (dk_at dksX5_init_9 0 rfl rfl)
theorem dX5_init_216 : decode cX5_init 216 = .ok (.aload_n 0, 1) := dk_42 (dk_at dksX5_init_9 3 rfl rfl)
theorem dX5_init_217 : decode cX5_init 217 = .ok (.sipush 260, 3) := dk_17 1 4 (dk_at dksX5_init_9 4 rfl rfl)
theorem dX5_init_220 : decode cX5_init 220 = .ok (.newarray .byte, 2) := dk_188_8 (dk_at dksX5_init_9 7 rfl rfl)
theorem dX5_init_222 : decode cX5_init 222 = .ok (.putfield 50, 3) := dk_181 0 50 (dk_at dksX5_init_9 9 rfl rfl)
theorem dX5_init_225 : decode cX5_init 225 = .ok (.aload_n 0, 1) := dk_42 (dk_at dksX5_init_9 12 rfl rfl)
theorem dX5_init_226 : decode cX5_init 226 = .ok (.sipush 260, 3) := dk_17 1 4 (dk_at dksX5_init_9 13 rfl rfl)
theorem dX5_init_229 : decode cX5_init 229 = .ok (.newarray .int, 2) := dk_188_10 (dk_at dksX5_init_9 16 rfl rfl)
theorem dX5_init_231 : decode cX5_init 231 = .ok (.putfield 53, 3) := dk_181 0 53 (dk_at dksX5_init_9 18 rfl rfl)
theorem dX5_init_234 : decode cX5_init 234 = .ok (.aload_n 0, 1) := dk_42 (dk_at dksX5_init_9 21 rfl rfl)
theorem dX5_init_235 : decode cX5_init 235 = .ok (.iconst 2, 1) := dk_5 (dk_at dksX5_init_9 22 rfl rfl)
theorem dX5_init_236 : decode cX5_init 236 = .ok (.newarray .int, 2) := dk_188_10 (dk_at dksX5_init_10 0 rfl rfl)
theorem dX5_init_238 : decode cX5_init 238 = .ok (.putfield 56, 3) := dk_181 0 56 (dk_at dksX5_init_10 2 rfl rfl)
theorem dX5_init_241 : decode cX5_init 241 = .ok (.aload_n 0, 1) := dk_42 (dk_at dksX5_init_10 5 rfl rfl)
theorem dX5_init_242 : decode cX5_init 242 = .ok (.bipush 122, 2) := dk_16 122 (dk_at dksX5_init_10 6 rfl rfl)
theorem dX5_init_244 : decode cX5_init 244 = .ok (.newarray .short, 2) := dk_188_9 (dk_at dksX5_init_10 8 rfl rfl)
theorem dX5_init_246 : decode cX5_init 246 = .ok (.putfield 59, 3) := dk_181 0 59 (dk_at dksX5_init_10 10 rfl rfl)
theorem dX5_init_249 : decode cX5_init 249 = .ok (.aload_n 0, 1) := dk_42 (dk_at dksX5_init_10 13 rfl rfl)
theorem dX5_init_250 : decode cX5_init 250 = .ok (.bipush 122, 2) := dk_16 122 (dk_at dksX5_init_10 14 rfl rfl)
theorem dX5_init_252 : decode cX5_init 252 = .ok (.newarray .short, 2) := dk_188_9 (dk_at dksX5_init_10 16 rfl rfl)
theorem dX5_init_254 : decode cX5_init 254 = .ok (.putfield 63, 3) := dk_181 0 63 (dk_at dksX5_init_10 18 rfl rfl)
theorem dX5_init_257 : decode cX5_init 257 = .ok (.aload_n 0, 1) := dk_42 (dk_at dksX5_init_10 21 rfl rfl)
theorem dX5_init_258 : decode cX5_init 258 = .ok (.bipush 6, 2) := dk_16 6 (dk_at dksX5_init_10 22 rfl rfl)
theorem dX5_init_260 : decode cX5_init 260 = .ok (.newarray .int, 2) := dk_188_10 (dk_at dksX5_init_11 0 rfl rfl)
theorem dX5_init_262 : decode cX5_init 262 = .ok (.putfield 66, 3) := dk_181 0 66 (dk_at dksX5_init_11 2 rfl rfl)
theorem dX5_init_265 : decode cX5_init 265 = .ok (.aload_n 0, 1) := dk_42 (dk_at dksX5_init_11 5 rfl rfl)
theorem dX5_init_266 : decode cX5_init 266 = .ok (.sipush 130, 3) := dk_17 0 130 (dk_at dksX5_init_11 6 rfl rfl)
theorem dX5_init_269 : decode cX5_init 269 = .ok (.newarray .int, 2) := dk_188_10 (dk_at dksX5_init_11 9 rfl rfl)
theorem dX5_init_271 : decode cX5_init 271 = .ok (.putfield 69, 3) := dk_181 0 69 (dk_at dksX5_init_11 11 rfl rfl)
theorem dX5_init_274 : decode cX5_init 274 = .ok (.aload_n 0, 1) := dk_42 (dk_at dksX5_init_11 14 rfl rfl)
theorem dX5_init_275 : decode cX5_init 275 = .ok (.bipush 12, 2) := dk_16 12 (dk_at dksX5_init_11 15 rfl rfl)
theorem dX5_init_277 : decode cX5_init 277 = .ok (.newarray .int, 2) := dk_188_10 (dk_at dksX5_init_11 17 rfl rfl)
theorem dX5_init_279 : decode cX5_init 279 = .ok (.putfield 72, 3) := dk_181 0 72 (dk_at dksX5_init_11 19 rfl rfl)
theorem dX5_init_282 : decode cX5_init 282 = .ok (.aload_n 0, 1) := dk_42 (dk_at dksX5_init_11 22 rfl rfl)
theorem dX5_init_283 : decode cX5_init 283 = .ok (.bipush 16, 2) := dk_16 16 (dk_at dksX5_init_12 0 rfl rfl)
theorem dX5_init_285 : decode cX5_init 285 = .ok (.newarray .boolean, 2) := dk_188_4 (dk_at dksX5_init_12 2 rfl rfl)
theorem dX5_init_287 : decode cX5_init 287 = .ok (.putfield 75, 3) := dk_181 0 75 (dk_at dksX5_init_12 4 rfl rfl)
theorem dX5_init_290 : decode cX5_init 290 = .ok (.aload_n 0, 1) := dk_42 (dk_at dksX5_init_12 7 rfl rfl)
theorem dX5_init_291 : decode cX5_init 291 = .ok (.bipush 12, 2) := dk_16 12 (dk_at dksX5_init_12 8 rfl rfl)
theorem dX5_init_293 : decode cX5_init 293 = .ok (.newarray .int, 2) := dk_188_10 (dk_at dksX5_init_12 10 rfl rfl)
theorem dX5_init_295 : decode cX5_init 295 = .ok (.putfield 79, 3) := dk_181 0 79 (dk_at dksX5_init_12 12 rfl rfl)
theorem dX5_init_298 : decode cX5_init 298 = .ok (.aload_n 0, 1) := dk_42 (dk_at dksX5_init_12 15 rfl rfl)
theorem dX5_init_299 : decode cX5_init 299 = .ok (.bipush 12, 2) := dk_16 12 (dk_at dksX5_init_12 16 rfl rfl)
theorem dX5_init_301 : decode cX5_init 301 = .ok (.newarray .int, 2) := dk_188_10 (dk_at dksX5_init_12 18 rfl rfl)
theorem dX5_init_303 : decode cX5_init 303 = .ok (.putfield 82, 3) := dk_181 0 82 (dk_at dksX5_init_12 20 rfl rfl)
theorem dX5_init_306 : decode cX5_init 306 = .ok (.aload_n 0, 1) := dk_42 (dk_at dksX5_init_12 23 rfl rfl)
theorem dX5_init_307 : decode cX5_init 307 = .ok (.bipush 12, 2) := dk_16 12 (dk_at dksX5_init_13 0 rfl rfl)
theorem dX5_init_309 : decode cX5_init 309 = .ok (.newarray .int, 2) := dk_188_10 (dk_at dksX5_init_13 2 rfl rfl)
theorem dX5_init_311 : decode cX5_init 311 = .ok (.putfield 85, 3) := dk_181 0 85 (dk_at dksX5_init_13 4 rfl rfl)
theorem dX5_init_314 : decode cX5_init 314 = .ok (.aload_n 0, 1) := dk_42 (dk_at dksX5_init_13 7 rfl rfl)
theorem dX5_init_315 : decode cX5_init 315 = .ok (.bipush 50, 2) := dk_16 50 (dk_at dksX5_init_13 8 rfl rfl)
theorem dX5_init_317 : decode cX5_init 317 = .ok (.newarray .int, 2) := dk_188_10 (dk_at dksX5_init_13 10 rfl rfl)
theorem dX5_init_319 : decode cX5_init 319 = .ok (.putfield 88, 3) := dk_181 0 88 (dk_at dksX5_init_13 12 rfl rfl)
theorem dX5_init_322 : decode cX5_init 322 = .ok (.aload_n 0, 1) := dk_42 (dk_at dksX5_init_13 15 rfl rfl)
theorem dX5_init_323 : decode cX5_init 323 = .ok (.bipush 24, 2) := dk_16 24 (dk_at dksX5_init_13 16 rfl rfl)
theorem dX5_init_325 : decode cX5_init 325 = .ok (.newarray .int, 2) := dk_188_10 (dk_at dksX5_init_13 18 rfl rfl)
theorem dX5_init_327 : decode cX5_init 327 = .ok (.putfield 91, 3) := dk_181 0 91 (dk_at dksX5_init_13 20 rfl rfl)
theorem dX5_init_330 : decode cX5_init 330 = .ok (.aload_n 0, 1) := dk_42 (dk_at dksX5_init_13 23 rfl rfl)
theorem dX5_init_331 : decode cX5_init 331 = .ok (.bipush 6, 2) := dk_16 6 (dk_at dksX5_init_14 0 rfl rfl)
theorem dX5_init_333 : decode cX5_init 333 = .ok (.newarray .int, 2) := dk_188_10 (dk_at dksX5_init_14 2 rfl rfl)
theorem dX5_init_335 : decode cX5_init 335 = .ok (.dup, 1) := dk_89 (dk_at dksX5_init_14 4 rfl rfl)
theorem dX5_init_336 : decode cX5_init 336 = .ok (.iconst 0, 1) := dk_3 (dk_at dksX5_init_14 5 rfl rfl)
theorem dX5_init_337 : decode cX5_init 337 = .ok (.iconst (-1), 1) := dk_2 (dk_at dksX5_init_14 6 rfl rfl)
theorem dX5_init_338 : decode cX5_init 338 = .ok (.iastore, 1) := dk_79 (dk_at dksX5_init_14 7 rfl rfl)
theorem dX5_init_339 : decode cX5_init 339 = .ok (.dup, 1) := dk_89 (dk_at dksX5_init_14 8 rfl rfl)
theorem dX5_init_340 : decode cX5_init 340 = .ok (.iconst 1, 1) := dk_4 (dk_at dksX5_init_14 9 rfl rfl)
theorem dX5_init_341 : decode cX5_init 341 = .ok (.iconst (-1), 1) := dk_2 (dk_at dksX5_init_14 10 rfl rfl)
theorem dX5_init_342 : decode cX5_init 342 = .ok (.iastore, 1) := dk_79 (dk_at dksX5_init_14 11 rfl rfl)
theorem dX5_init_343 : decode cX5_init 343 = .ok (.dup, 1) := dk_89 (dk_at dksX5_init_14 12 rfl rfl)
theorem dX5_init_344 : decode cX5_init 344 = .ok (.iconst 2, 1) := dk_5 (dk_at dksX5_init_14 13 rfl rfl)
theorem dX5_init_345 : decode cX5_init 345 = .ok (.iconst (-1), 1) := dk_2 (dk_at dksX5_init_14 14 rfl rfl)
theorem dX5_init_346 : decode cX5_init 346 = .ok (.iastore, 1) := dk_79 (dk_at dksX5_init_14 15 rfl rfl)
theorem dX5_init_347 : decode cX5_init 347 = .ok (.dup, 1) := dk_89 (dk_at dksX5_init_14 16 rfl rfl)
theorem dX5_init_348 : decode cX5_init 348 = .ok (.iconst 3, 1) := dk_6 (dk_at dksX5_init_14 17 rfl rfl)
theorem dX5_init_349 : decode cX5_init 349 = .ok (.iconst (-1), 1) := dk_2 (dk_at dksX5_init_14 18 rfl rfl)
theorem dX5_init_350 : decode cX5_init 350 = .ok (.iastore, 1) := dk_79 (dk_at dksX5_init_14 19 rfl rfl)
theorem dX5_init_351 : decode cX5_init 351 = .ok (.dup, 1) := dk_89 (dk_at dksX5_init_14 20 rfl rfl)
theorem dX5_init_352 : decode cX5_init 352 = .ok (.iconst 4, 1) := dk_7 (dk_at dksX5_init_14 21 rfl rfl)
theorem dX5_init_353 : decode cX5_init 353 = .ok (.iconst (-1), 1) := dk_2 (dk_at dksX5_init_14 22 rfl rfl)
theorem dX5_init_354 : decode cX5_init 354 = .ok (.iastore, 1) := dk_79 (dk_at dksX5_init_14 23 rfl rfl)
theorem dX5_init_355 : decode cX5_init 355 = .ok (.dup, 1) := dk_89 (dk_at dksX5_init_15 0 rfl rfl)
theorem dX5_init_356 : decode cX5_init 356 = .ok (.iconst 5, 1) := dk_8 (dk_at dksX5_init_15 1 rfl rfl)
theorem dX5_init_357 : decode cX5_init 357 = .ok (.iconst (-1), 1) := dk_2 (dk_at dksX5_init_15 2 rfl rfl)
theorem dX5_init_358 : decode cX5_init 358 = .ok (.iastore, 1) := dk_79 (dk_at dksX5_init_15 3 rfl rfl)
theorem dX5_init_359 : decode cX5_init 359 = .ok (.putfield 94, 3) := dk_181 0 94 (dk_at dksX5_init_15 4 rfl rfl)
theorem dX5_init_362 : decode cX5_init 362 = .ok (.aload_n 0, 1) := dk_42 (dk_at dksX5_init_15 7 rfl rfl)
theorem dX5_init_363 : decode cX5_init 363 = .ok (.bipush 6, 2) := dk_16 6 (dk_at dksX5_init_15 8 rfl rfl)
theorem dX5_init_365 : decode cX5_init 365 = .ok (.newarray .int, 2) := dk_188_10 (dk_at dksX5_init_15 10 rfl rfl)
theorem dX5_init_367 : decode cX5_init 367 = .ok (.putfield 97, 3) := dk_181 0 97 (dk_at dksX5_init_15 12 rfl rfl)
theorem dX5_init_370 : decode cX5_init 370 = .ok (.aload_n 0, 1) := dk_42 (dk_at dksX5_init_15 15 rfl rfl)
theorem dX5_init_371 : decode cX5_init 371 = .ok (.sipush 360, 3) := dk_17 1 104 (dk_at dksX5_init_15 16 rfl rfl)
theorem dX5_init_374 : decode cX5_init 374 = .ok (.newarray .long, 2) := dk_188_11 (dk_at dksX5_init_15 19 rfl rfl)
theorem dX5_init_376 : decode cX5_init 376 = .ok (.putfield 100, 3) := dk_181 0 100 (dk_at dksX5_init_15 21 rfl rfl)
theorem dX5_init_379 : decode cX5_init 379 = .ok (.aload_n 0, 1) := dk_42 (dk_at dksX5_init_16 0 rfl rfl)
theorem dX5_init_380 : decode cX5_init 380 = .ok (.bipush 60, 2) := dk_16 60 (dk_at dksX5_init_16 1 rfl rfl)
theorem dX5_init_382 : decode cX5_init 382 = .ok (.newarray .long, 2) := dk_188_11 (dk_at dksX5_init_16 3 rfl rfl)
theorem dX5_init_384 : decode cX5_init 384 = .ok (.putfield 104, 3) := dk_181 0 104 (dk_at dksX5_init_16 5 rfl rfl)
theorem dX5_init_387 : decode cX5_init 387 = .ok (.return_, 1) := dk_177 (dk_at dksX5_init_16 8 rfl rfl)
abbrev cX5_person : ByteArray := prog_25_method_11_code
def yX5_person : MethodName := ⟨RX5, "person", "(II)I"⟩
def dkwX5_person_1 : List UInt8 := [42, 27, 28, 2, 182, 0, 126, 172]
abbrev dktX5_person_1 : List UInt8 := dkwX5_person_1 ++ []
def dkwX5_person_0 : List UInt8 := [27, 28, 184, 0, 122, 154, 0, 5, 2, 172, 42, 180, 0, 111, 16, 12, 160, 0, 8, 16, 253, 167, 0, 10]
abbrev dktX5_person_0 : List UInt8 := dkwX5_person_0 ++ dktX5_person_1
theorem dksX5_person_0 : cX5_person.data.toList.drop 0 = dktX5_person_0 := by decide +kernel
theorem dksX5_person_1 : cX5_person.data.toList.drop 24 = dktX5_person_1 := dk_seg dksX5_person_0 24 rfl rfl
theorem dX5_person_0 : decode cX5_person 0 = .ok (.iload_n 1, 1) := dk_27 (dk_at dksX5_person_0 0 rfl rfl)
theorem dX5_person_1 : decode cX5_person 1 = .ok (.iload_n 2, 1) := dk_28 (dk_at dksX5_person_0 1 rfl rfl)
theorem dX5_person_2 : decode cX5_person 2 = .ok (.invokestatic 122, 3) := dk_184 0 122 (dk_at dksX5_person_0 2 rfl rfl)
theorem dX5_person_5 : decode cX5_person 5 = .ok (.ifCond .ne 5, 3) := dk_154 0 5 (dk_at dksX5_person_0 5 rfl rfl)
theorem dX5_person_8 : decode cX5_person 8 = .ok (.iconst (-1), 1) := dk_2 (dk_at dksX5_person_0 8 rfl rfl)
theorem dX5_person_9 : decode cX5_person 9 = .ok (.ireturn, 1) := dk_172 (dk_at dksX5_person_0 9 rfl rfl)
theorem dX5_person_10 : decode cX5_person 10 = .ok (.aload_n 0, 1) := dk_42 (dk_at dksX5_person_0 10 rfl rfl)
theorem dX5_person_11 : decode cX5_person 11 = .ok (.getfield 111, 3) := dk_180 0 111 (dk_at dksX5_person_0 11 rfl rfl)
theorem dX5_person_14 : decode cX5_person 14 = .ok (.bipush 12, 2) := dk_16 12 (dk_at dksX5_person_0 14 rfl rfl)
theorem dX5_person_16 : decode cX5_person 16 = .ok (.if_icmp .ne 8, 3) := dk_160 0 8 (dk_at dksX5_person_0 16 rfl rfl)
theorem dX5_person_19 : decode cX5_person 19 = .ok (.bipush (-3), 2) := dk_16 253 (dk_at dksX5_person_0 19 rfl rfl)
theorem dX5_person_21 : decode cX5_person 21 = .ok (.goto 10, 3) := dk_167 0 10 (dk_at dksX5_person_0 21 rfl rfl)
theorem dX5_person_24 : decode cX5_person 24 = .ok (.aload_n 0, 1) := dk_42 (dk_at dksX5_person_1 0 rfl rfl)
theorem dX5_person_25 : decode cX5_person 25 = .ok (.iload_n 1, 1) := dk_27 (dk_at dksX5_person_1 1 rfl rfl)
theorem dX5_person_26 : decode cX5_person 26 = .ok (.iload_n 2, 1) := dk_28 (dk_at dksX5_person_1 2 rfl rfl)
theorem dX5_person_27 : decode cX5_person 27 = .ok (.iconst (-1), 1) := dk_2 (dk_at dksX5_person_1 3 rfl rfl)
theorem dX5_person_28 : decode cX5_person 28 = .ok (.invokevirtual 126, 3) := dk_182 0 126 (dk_at dksX5_person_1 4 rfl rfl)
theorem dX5_person_31 : decode cX5_person 31 = .ok (.ireturn, 1) := dk_172 (dk_at dksX5_person_1 7 rfl rfl)
abbrev cX5_isLife : ByteArray := prog_25_method_9_code
def yX5_isLife : MethodName := ⟨RX5, "isLife", "(II)Z"⟩
def dkwX5_isLife_1 : List UInt8 := [172]
abbrev dktX5_isLife_1 : List UInt8 := dkwX5_isLife_1 ++ []
def dkwX5_isLife_0 : List UInt8 := [26, 184, 0, 118, 153, 0, 19, 27, 26, 4, 96, 16, 100, 184, 0, 114, 153, 0, 7, 4, 167, 0, 4, 3]
abbrev dktX5_isLife_0 : List UInt8 := dkwX5_isLife_0 ++ dktX5_isLife_1
theorem dksX5_isLife_0 : cX5_isLife.data.toList.drop 0 = dktX5_isLife_0 := by decide +kernel
theorem dksX5_isLife_1 : cX5_isLife.data.toList.drop 24 = dktX5_isLife_1 := dk_seg dksX5_isLife_0 24 rfl rfl
theorem dX5_isLife_0 : decode cX5_isLife 0 = .ok (.iload_n 0, 1) := dk_26 (dk_at dksX5_isLife_0 0 rfl rfl)
theorem dX5_isLife_1 : decode cX5_isLife 1 = .ok (.invokestatic 118, 3) := dk_184 0 118 (dk_at dksX5_isLife_0 1 rfl rfl)
theorem dX5_isLife_4 : decode cX5_isLife 4 = .ok (.ifCond .eq 19, 3) := dk_153 0 19 (dk_at dksX5_isLife_0 4 rfl rfl)
theorem dX5_isLife_7 : decode cX5_isLife 7 = .ok (.iload_n 1, 1) := dk_27 (dk_at dksX5_isLife_0 7 rfl rfl)
theorem dX5_isLife_8 : decode cX5_isLife 8 = .ok (.iload_n 0, 1) := dk_26 (dk_at dksX5_isLife_0 8 rfl rfl)
theorem dX5_isLife_9 : decode cX5_isLife 9 = .ok (.iconst 1, 1) := dk_4 (dk_at dksX5_isLife_0 9 rfl rfl)
theorem dX5_isLife_10 : decode cX5_isLife 10 = .ok (.iadd, 1) := dk_96 (dk_at dksX5_isLife_0 10 rfl rfl)
theorem dX5_isLife_11 : decode cX5_isLife 11 = .ok (.bipush 100, 2) := dk_16 100 (dk_at dksX5_isLife_0 11 rfl rfl)
theorem dX5_isLife_13 : decode cX5_isLife 13 = .ok (.invokestatic 114, 3) := dk_184 0 114 (dk_at dksX5_isLife_0 13 rfl rfl)
theorem dX5_isLife_16 : decode cX5_isLife 16 = .ok (.ifCond .eq 7, 3) := dk_153 0 7 (dk_at dksX5_isLife_0 16 rfl rfl)
theorem dX5_isLife_19 : decode cX5_isLife 19 = .ok (.iconst 1, 1) := dk_4 (dk_at dksX5_isLife_0 19 rfl rfl)
theorem dX5_isLife_20 : decode cX5_isLife 20 = .ok (.goto 4, 3) := dk_167 0 4 (dk_at dksX5_isLife_0 20 rfl rfl)
theorem dX5_isLife_23 : decode cX5_isLife 23 = .ok (.iconst 0, 1) := dk_3 (dk_at dksX5_isLife_0 23 rfl rfl)
theorem dX5_isLife_24 : decode cX5_isLife 24 = .ok (.ireturn, 1) := dk_172 (dk_at dksX5_isLife_1 0 rfl rfl)
abbrev cX5_isYear : ByteArray := prog_25_method_7_code
def yX5_isYear : MethodName := ⟨RX5, "isYear", "(I)Z"⟩
def dkwX5_isYear_0 : List UInt8 := [26, 3, 16, 99, 184, 0, 114, 172]
abbrev dktX5_isYear_0 : List UInt8 := dkwX5_isYear_0 ++ []
theorem dksX5_isYear_0 : cX5_isYear.data.toList.drop 0 = dktX5_isYear_0 := by decide +kernel
theorem dX5_isYear_0 : decode cX5_isYear 0 = .ok (.iload_n 0, 1) := dk_26 (dk_at dksX5_isYear_0 0 rfl rfl)
theorem dX5_isYear_1 : decode cX5_isYear 1 = .ok (.iconst 0, 1) := dk_3 (dk_at dksX5_isYear_0 1 rfl rfl)
theorem dX5_isYear_2 : decode cX5_isYear 2 = .ok (.bipush 99, 2) := dk_16 99 (dk_at dksX5_isYear_0 2 rfl rfl)
theorem dX5_isYear_4 : decode cX5_isYear 4 = .ok (.invokestatic 114, 3) := dk_184 0 114 (dk_at dksX5_isYear_0 4 rfl rfl)
theorem dX5_isYear_7 : decode cX5_isYear 7 = .ok (.ireturn, 1) := dk_172 (dk_at dksX5_isYear_0 7 rfl rfl)
abbrev cX5_in : ByteArray := prog_25_method_3_code
def yX5_in : MethodName := ⟨RX5, "in", "(III)Z"⟩
def dkwX5_in_0 : List UInt8 := [26, 27, 161, 0, 12, 26, 28, 163, 0, 7, 4, 167, 0, 4, 3, 172]
abbrev dktX5_in_0 : List UInt8 := dkwX5_in_0 ++ []
theorem dksX5_in_0 : cX5_in.data.toList.drop 0 = dktX5_in_0 := by decide +kernel
theorem dX5_in_0 : decode cX5_in 0 = .ok (.iload_n 0, 1) := dk_26 (dk_at dksX5_in_0 0 rfl rfl)
theorem dX5_in_1 : decode cX5_in 1 = .ok (.iload_n 1, 1) := dk_27 (dk_at dksX5_in_0 1 rfl rfl)
theorem dX5_in_2 : decode cX5_in 2 = .ok (.if_icmp .lt 12, 3) := dk_161 0 12 (dk_at dksX5_in_0 2 rfl rfl)
theorem dX5_in_5 : decode cX5_in 5 = .ok (.iload_n 0, 1) := dk_26 (dk_at dksX5_in_0 5 rfl rfl)
theorem dX5_in_6 : decode cX5_in 6 = .ok (.iload_n 2, 1) := dk_28 (dk_at dksX5_in_0 6 rfl rfl)
theorem dX5_in_7 : decode cX5_in 7 = .ok (.if_icmp .gt 7, 3) := dk_163 0 7 (dk_at dksX5_in_0 7 rfl rfl)
theorem dX5_in_10 : decode cX5_in 10 = .ok (.iconst 1, 1) := dk_4 (dk_at dksX5_in_0 10 rfl rfl)
theorem dX5_in_11 : decode cX5_in 11 = .ok (.goto 4, 3) := dk_167 0 4 (dk_at dksX5_in_0 11 rfl rfl)
theorem dX5_in_14 : decode cX5_in 14 = .ok (.iconst 0, 1) := dk_3 (dk_at dksX5_in_0 14 rfl rfl)
theorem dX5_in_15 : decode cX5_in 15 = .ok (.ireturn, 1) := dk_172 (dk_at dksX5_in_0 15 rfl rfl)
abbrev cX5_addPerson : ByteArray := prog_25_method_10_code
def yX5_addPerson : MethodName := ⟨RX5, "addPerson", "(III)I"⟩
def dkwX5_addPerson_1 : List UInt8 := [42, 180, 0, 111, 29, 79, 42, 89, 180, 0, 111, 4, 96, 181, 0, 111, 42, 180, 0, 111, 4, 100, 172]
abbrev dktX5_addPerson_1 : List UInt8 := dkwX5_addPerson_1 ++ []
def dkwX5_addPerson_0 : List UInt8 := [42, 180, 0, 7, 42, 180, 0, 111, 27, 79, 42, 180, 0, 13, 42, 180, 0, 111, 28, 79, 42, 180, 0, 16]
abbrev dktX5_addPerson_0 : List UInt8 := dkwX5_addPerson_0 ++ dktX5_addPerson_1
theorem dksX5_addPerson_0 : cX5_addPerson.data.toList.drop 0 = dktX5_addPerson_0 := by decide +kernel
theorem dksX5_addPerson_1 : cX5_addPerson.data.toList.drop 24 = dktX5_addPerson_1 := dk_seg dksX5_addPerson_0 24 rfl rfl
theorem dX5_addPerson_0 : decode cX5_addPerson 0 = .ok (.aload_n 0, 1) := dk_42 (dk_at dksX5_addPerson_0 0 rfl rfl)
theorem dX5_addPerson_1 : decode cX5_addPerson 1 = .ok (.getfield 7, 3) := dk_180 0 7 (dk_at dksX5_addPerson_0 1 rfl rfl)
theorem dX5_addPerson_4 : decode cX5_addPerson 4 = .ok (.aload_n 0, 1) := dk_42 (dk_at dksX5_addPerson_0 4 rfl rfl)
theorem dX5_addPerson_5 : decode cX5_addPerson 5 = .ok (.getfield 111, 3) := dk_180 0 111 (dk_at dksX5_addPerson_0 5 rfl rfl)
theorem dX5_addPerson_8 : decode cX5_addPerson 8 = .ok (.iload_n 1, 1) := dk_27 (dk_at dksX5_addPerson_0 8 rfl rfl)
theorem dX5_addPerson_9 : decode cX5_addPerson 9 = .ok (.iastore, 1) := dk_79 (dk_at dksX5_addPerson_0 9 rfl rfl)
theorem dX5_addPerson_10 : decode cX5_addPerson 10 = .ok (.aload_n 0, 1) := dk_42 (dk_at dksX5_addPerson_0 10 rfl rfl)
theorem dX5_addPerson_11 : decode cX5_addPerson 11 = .ok (.getfield 13, 3) := dk_180 0 13 (dk_at dksX5_addPerson_0 11 rfl rfl)
theorem dX5_addPerson_14 : decode cX5_addPerson 14 = .ok (.aload_n 0, 1) := dk_42 (dk_at dksX5_addPerson_0 14 rfl rfl)
theorem dX5_addPerson_15 : decode cX5_addPerson 15 = .ok (.getfield 111, 3) := dk_180 0 111 (dk_at dksX5_addPerson_0 15 rfl rfl)
theorem dX5_addPerson_18 : decode cX5_addPerson 18 = .ok (.iload_n 2, 1) := dk_28 (dk_at dksX5_addPerson_0 18 rfl rfl)
theorem dX5_addPerson_19 : decode cX5_addPerson 19 = .ok (.iastore, 1) := dk_79 (dk_at dksX5_addPerson_0 19 rfl rfl)
theorem dX5_addPerson_20 : decode cX5_addPerson 20 = .ok (.aload_n 0, 1) := dk_42 (dk_at dksX5_addPerson_0 20 rfl rfl)
theorem dX5_addPerson_21 : decode cX5_addPerson 21 = .ok (.getfield 16, 3) := dk_180 0 16 (dk_at dksX5_addPerson_0 21 rfl rfl)
theorem dX5_addPerson_24 : decode cX5_addPerson 24 = .ok (.aload_n 0, 1) := dk_42 (dk_at dksX5_addPerson_1 0 rfl rfl)
theorem dX5_addPerson_25 : decode cX5_addPerson 25 = .ok (.getfield 111, 3) := dk_180 0 111 (dk_at dksX5_addPerson_1 1 rfl rfl)
theorem dX5_addPerson_28 : decode cX5_addPerson 28 = .ok (.iload_n 3, 1) := dk_29 (dk_at dksX5_addPerson_1 4 rfl rfl)
theorem dX5_addPerson_29 : decode cX5_addPerson 29 = .ok (.iastore, 1) := dk_79 (dk_at dksX5_addPerson_1 5 rfl rfl)
theorem dX5_addPerson_30 : decode cX5_addPerson 30 = .ok (.aload_n 0, 1) := dk_42 (dk_at dksX5_addPerson_1 6 rfl rfl)
theorem dX5_addPerson_31 : decode cX5_addPerson 31 = .ok (.dup, 1) := dk_89 (dk_at dksX5_addPerson_1 7 rfl rfl)
theorem dX5_addPerson_32 : decode cX5_addPerson 32 = .ok (.getfield 111, 3) := dk_180 0 111 (dk_at dksX5_addPerson_1 8 rfl rfl)
theorem dX5_addPerson_35 : decode cX5_addPerson 35 = .ok (.iconst 1, 1) := dk_4 (dk_at dksX5_addPerson_1 11 rfl rfl)
theorem dX5_addPerson_36 : decode cX5_addPerson 36 = .ok (.iadd, 1) := dk_96 (dk_at dksX5_addPerson_1 12 rfl rfl)
theorem dX5_addPerson_37 : decode cX5_addPerson 37 = .ok (.putfield 111, 3) := dk_181 0 111 (dk_at dksX5_addPerson_1 13 rfl rfl)
theorem dX5_addPerson_40 : decode cX5_addPerson 40 = .ok (.aload_n 0, 1) := dk_42 (dk_at dksX5_addPerson_1 16 rfl rfl)
theorem dX5_addPerson_41 : decode cX5_addPerson 41 = .ok (.getfield 111, 3) := dk_180 0 111 (dk_at dksX5_addPerson_1 17 rfl rfl)
theorem dX5_addPerson_44 : decode cX5_addPerson 44 = .ok (.iconst 1, 1) := dk_4 (dk_at dksX5_addPerson_1 20 rfl rfl)
theorem dX5_addPerson_45 : decode cX5_addPerson 45 = .ok (.isub, 1) := dk_100 (dk_at dksX5_addPerson_1 21 rfl rfl)
theorem dX5_addPerson_46 : decode cX5_addPerson 46 = .ok (.ireturn, 1) := dk_172 (dk_at dksX5_addPerson_1 22 rfl rfl)
abbrev cX5_people : ByteArray := prog_25_method_12_code
def yX5_people : MethodName := ⟨RX5, "people", "(III)I"⟩
def dkwX5_people_8 : List UInt8 := [21, 7, 5, 96, 47, 136, 182, 0, 126, 87, 132, 4, 1, 167, 255, 112, 29, 172]
abbrev dktX5_people_8 : List UInt8 := dkwX5_people_8 ++ []
def dkwX5_people_7 : List UInt8 := [172, 42, 42, 180, 0, 100, 21, 7, 47, 136, 42, 180, 0, 100, 21, 7, 4, 96, 47, 136, 42, 180, 0, 100]
abbrev dktX5_people_7 : List UInt8 := dkwX5_people_7 ++ dktX5_people_8
def dkwX5_people_6 : List UInt8 := [153, 0, 22, 42, 180, 0, 100, 21, 7, 5, 96, 47, 136, 2, 16, 11, 184, 0, 114, 154, 0, 6, 21, 4]
abbrev dktX5_people_6 : List UInt8 := dkwX5_people_6 ++ dktX5_people_7
def dkwX5_people_5 : List UInt8 := [54, 7, 42, 180, 0, 100, 21, 7, 47, 136, 42, 180, 0, 100, 21, 7, 4, 96, 47, 136, 184, 0, 122]
abbrev dktX5_people_5 : List UInt8 := dkwX5_people_5 ++ dktX5_people_6
def dkwX5_people_4 : List UInt8 := [156, 0, 12, 42, 180, 0, 111, 16, 12, 160, 0, 6, 21, 4, 172, 16, 60, 27, 104, 22, 5, 136, 96]
abbrev dktX5_people_4 : List UInt8 := dkwX5_people_4 ++ dktX5_people_5
def dkwX5_people_3 : List UInt8 := [55, 5, 22, 5, 9, 148, 155, 0, 29, 22, 5, 20, 0, 133, 97, 42, 180, 0, 97, 27, 46, 133, 148]
abbrev dktX5_people_3 : List UInt8 := dkwX5_people_3 ++ dktX5_people_4
def dkwX5_people_2 : List UInt8 := [46, 2, 160, 0, 5, 3, 172, 3, 54, 4, 21, 4, 29, 162, 0, 144, 28, 133, 6, 21, 4, 104, 133, 97]
abbrev dktX5_people_2 : List UInt8 := dkwX5_people_2 ++ dktX5_people_3
def dkwX5_people_1 : List UInt8 := [46, 2, 159, 0, 17, 42, 180, 0, 94, 27, 46, 16, 254, 159, 0, 6, 16, 244, 172, 42, 180, 0, 94, 27]
abbrev dktX5_people_1 : List UInt8 := dkwX5_people_1 ++ dktX5_people_2
def dkwX5_people_0 : List UInt8 := [27, 184, 0, 130, 153, 0, 13, 29, 4, 16, 12, 184, 0, 114, 154, 0, 5, 2, 172, 42, 180, 0, 94, 27]
abbrev dktX5_people_0 : List UInt8 := dkwX5_people_0 ++ dktX5_people_1
theorem dksX5_people_0 : cX5_people.data.toList.drop 0 = dktX5_people_0 := by decide +kernel
theorem dksX5_people_1 : cX5_people.data.toList.drop 24 = dktX5_people_1 := dk_seg dksX5_people_0 24 rfl rfl
theorem dksX5_people_2 : cX5_people.data.toList.drop 48 = dktX5_people_2 := dk_seg dksX5_people_1 24 rfl rfl
theorem dksX5_people_3 : cX5_people.data.toList.drop 72 = dktX5_people_3 := dk_seg dksX5_people_2 24 rfl rfl
theorem dksX5_people_4 : cX5_people.data.toList.drop 95 = dktX5_people_4 := dk_seg dksX5_people_3 23 rfl rfl
theorem dksX5_people_5 : cX5_people.data.toList.drop 118 = dktX5_people_5 := dk_seg dksX5_people_4 23 rfl rfl
theorem dksX5_people_6 : cX5_people.data.toList.drop 141 = dktX5_people_6 := dk_seg dksX5_people_5 23 rfl rfl
theorem dksX5_people_7 : cX5_people.data.toList.drop 165 = dktX5_people_7 := dk_seg dksX5_people_6 24 rfl rfl
theorem dksX5_people_8 : cX5_people.data.toList.drop 189 = dktX5_people_8 := dk_seg dksX5_people_7 24 rfl rfl
theorem dX5_people_0 : decode cX5_people 0 = .ok (.iload_n 1, 1) := dk_27 (dk_at dksX5_people_0 0 rfl rfl)
theorem dX5_people_1 : decode cX5_people 1 = .ok (.invokestatic 130, 3) := dk_184 0 130 (dk_at dksX5_people_0 1 rfl rfl)
theorem dX5_people_4 : decode cX5_people 4 = .ok (.ifCond .eq 13, 3) := dk_153 0 13 (dk_at dksX5_people_0 4 rfl rfl)
theorem dX5_people_7 : decode cX5_people 7 = .ok (.iload_n 3, 1) := dk_29 (dk_at dksX5_people_0 7 rfl rfl)
theorem dX5_people_8 : decode cX5_people 8 = .ok (.iconst 1, 1) := dk_4 (dk_at dksX5_people_0 8 rfl rfl)
theorem dX5_people_9 : decode cX5_people 9 = .ok (.bipush 12, 2) := dk_16 12 (dk_at dksX5_people_0 9 rfl rfl)
theorem dX5_people_11 : decode cX5_people 11 = .ok (.invokestatic 114, 3) := dk_184 0 114 (dk_at dksX5_people_0 11 rfl rfl)
theorem dX5_people_14 : decode cX5_people 14 = .ok (.ifCond .ne 5, 3) := dk_154 0 5 (dk_at dksX5_people_0 14 rfl rfl)
theorem dX5_people_17 : decode cX5_people 17 = .ok (.iconst (-1), 1) := dk_2 (dk_at dksX5_people_0 17 rfl rfl)
theorem dX5_people_18 : decode cX5_people 18 = .ok (.ireturn, 1) := dk_172 (dk_at dksX5_people_0 18 rfl rfl)
theorem dX5_people_19 : decode cX5_people 19 = .ok (.aload_n 0, 1) := dk_42 (dk_at dksX5_people_0 19 rfl rfl)
theorem dX5_people_20 : decode cX5_people 20 = .ok (.getfield 94, 3) := dk_180 0 94 (dk_at dksX5_people_0 20 rfl rfl)
theorem dX5_people_23 : decode cX5_people 23 = .ok (.iload_n 1, 1) := dk_27 (dk_at dksX5_people_0 23 rfl rfl)
theorem dX5_people_24 : decode cX5_people 24 = .ok (.iaload, 1) := dk_46 (dk_at dksX5_people_1 0 rfl rfl)
theorem dX5_people_25 : decode cX5_people 25 = .ok (.iconst (-1), 1) := dk_2 (dk_at dksX5_people_1 1 rfl rfl)
theorem dX5_people_26 : decode cX5_people 26 = .ok (.if_icmp .eq 17, 3) := dk_159 0 17 (dk_at dksX5_people_1 2 rfl rfl)
theorem dX5_people_29 : decode cX5_people 29 = .ok (.aload_n 0, 1) := dk_42 (dk_at dksX5_people_1 5 rfl rfl)
theorem dX5_people_30 : decode cX5_people 30 = .ok (.getfield 94, 3) := dk_180 0 94 (dk_at dksX5_people_1 6 rfl rfl)
theorem dX5_people_33 : decode cX5_people 33 = .ok (.iload_n 1, 1) := dk_27 (dk_at dksX5_people_1 9 rfl rfl)
theorem dX5_people_34 : decode cX5_people 34 = .ok (.iaload, 1) := dk_46 (dk_at dksX5_people_1 10 rfl rfl)
theorem dX5_people_35 : decode cX5_people 35 = .ok (.bipush (-2), 2) := dk_16 254 (dk_at dksX5_people_1 11 rfl rfl)
theorem dX5_people_37 : decode cX5_people 37 = .ok (.if_icmp .eq 6, 3) := dk_159 0 6 (dk_at dksX5_people_1 13 rfl rfl)
theorem dX5_people_40 : decode cX5_people 40 = .ok (.bipush (-12), 2) := dk_16 244 (dk_at dksX5_people_1 16 rfl rfl)
theorem dX5_people_42 : decode cX5_people 42 = .ok (.ireturn, 1) := dk_172 (dk_at dksX5_people_1 18 rfl rfl)
theorem dX5_people_43 : decode cX5_people 43 = .ok (.aload_n 0, 1) := dk_42 (dk_at dksX5_people_1 19 rfl rfl)
theorem dX5_people_44 : decode cX5_people 44 = .ok (.getfield 94, 3) := dk_180 0 94 (dk_at dksX5_people_1 20 rfl rfl)
theorem dX5_people_47 : decode cX5_people 47 = .ok (.iload_n 1, 1) := dk_27 (dk_at dksX5_people_1 23 rfl rfl)
theorem dX5_people_48 : decode cX5_people 48 = .ok (.iaload, 1) := dk_46 (dk_at dksX5_people_2 0 rfl rfl)
theorem dX5_people_49 : decode cX5_people 49 = .ok (.iconst (-1), 1) := dk_2 (dk_at dksX5_people_2 1 rfl rfl)
theorem dX5_people_50 : decode cX5_people 50 = .ok (.if_icmp .ne 5, 3) := dk_160 0 5 (dk_at dksX5_people_2 2 rfl rfl)
theorem dX5_people_53 : decode cX5_people 53 = .ok (.iconst 0, 1) := dk_3 (dk_at dksX5_people_2 5 rfl rfl)
theorem dX5_people_54 : decode cX5_people 54 = .ok (.ireturn, 1) := dk_172 (dk_at dksX5_people_2 6 rfl rfl)
theorem dX5_people_55 : decode cX5_people 55 = .ok (.iconst 0, 1) := dk_3 (dk_at dksX5_people_2 7 rfl rfl)
theorem dX5_people_56 : decode cX5_people 56 = .ok (.istore 4, 2) := dk_54 4 (dk_at dksX5_people_2 8 rfl rfl)
theorem dX5_people_58 : decode cX5_people 58 = .ok (.iload 4, 2) := dk_21 4 (dk_at dksX5_people_2 10 rfl rfl)
theorem dX5_people_60 : decode cX5_people 60 = .ok (.iload_n 3, 1) := dk_29 (dk_at dksX5_people_2 12 rfl rfl)
theorem dX5_people_61 : decode cX5_people 61 = .ok (.if_icmp .ge 144, 3) := dk_162 0 144 (dk_at dksX5_people_2 13 rfl rfl)
theorem dX5_people_64 : decode cX5_people 64 = .ok (.iload_n 2, 1) := dk_28 (dk_at dksX5_people_2 16 rfl rfl)
theorem dX5_people_65 : decode cX5_people 65 = .ok (.i2l, 1) := dk_133 (dk_at dksX5_people_2 17 rfl rfl)
theorem dX5_people_66 : decode cX5_people 66 = .ok (.iconst 3, 1) := dk_6 (dk_at dksX5_people_2 18 rfl rfl)
theorem dX5_people_67 : decode cX5_people 67 = .ok (.iload 4, 2) := dk_21 4 (dk_at dksX5_people_2 19 rfl rfl)
theorem dX5_people_69 : decode cX5_people 69 = .ok (.imul, 1) := dk_104 (dk_at dksX5_people_2 21 rfl rfl)
theorem dX5_people_70 : decode cX5_people 70 = .ok (.i2l, 1) := dk_133 (dk_at dksX5_people_2 22 rfl rfl)
theorem dX5_people_71 : decode cX5_people 71 = .ok (.ladd, 1) := dk_97 (dk_at dksX5_people_2 23 rfl rfl)
theorem dX5_people_72 : decode cX5_people 72 = .ok (.lstore 5, 2) := dk_55 5 (dk_at dksX5_people_3 0 rfl rfl)
theorem dX5_people_74 : decode cX5_people 74 = .ok (.lload 5, 2) := dk_22 5 (dk_at dksX5_people_3 2 rfl rfl)
theorem dX5_people_76 : decode cX5_people 76 = .ok (.lconst 0, 1) := dk_9 (dk_at dksX5_people_3 4 rfl rfl)
theorem dX5_people_77 : decode cX5_people 77 = .ok (.lcmp, 1) := dk_148 (dk_at dksX5_people_3 5 rfl rfl)
theorem dX5_people_78 : decode cX5_people 78 = .ok (.ifCond .lt 29, 3) := dk_155 0 29 (dk_at dksX5_people_3 6 rfl rfl)
theorem dX5_people_81 : decode cX5_people 81 = .ok (.lload 5, 2) := dk_22 5 (dk_at dksX5_people_3 9 rfl rfl)
theorem dX5_people_83 : decode cX5_people 83 = .ok (.ldc2_w 133, 3) := dk_20 0 133 (dk_at dksX5_people_3 11 rfl rfl)
theorem dX5_people_86 : decode cX5_people 86 = .ok (.ladd, 1) := dk_97 (dk_at dksX5_people_3 14 rfl rfl)
theorem dX5_people_87 : decode cX5_people 87 = .ok (.aload_n 0, 1) := dk_42 (dk_at dksX5_people_3 15 rfl rfl)
theorem dX5_people_88 : decode cX5_people 88 = .ok (.getfield 97, 3) := dk_180 0 97 (dk_at dksX5_people_3 16 rfl rfl)
theorem dX5_people_91 : decode cX5_people 91 = .ok (.iload_n 1, 1) := dk_27 (dk_at dksX5_people_3 19 rfl rfl)
theorem dX5_people_92 : decode cX5_people 92 = .ok (.iaload, 1) := dk_46 (dk_at dksX5_people_3 20 rfl rfl)
theorem dX5_people_93 : decode cX5_people 93 = .ok (.i2l, 1) := dk_133 (dk_at dksX5_people_3 21 rfl rfl)
theorem dX5_people_94 : decode cX5_people 94 = .ok (.lcmp, 1) := dk_148 (dk_at dksX5_people_3 22 rfl rfl)
theorem dX5_people_95 : decode cX5_people 95 = .ok (.ifCond .ge 12, 3) := dk_156 0 12 (dk_at dksX5_people_4 0 rfl rfl)
theorem dX5_people_98 : decode cX5_people 98 = .ok (.aload_n 0, 1) := dk_42 (dk_at dksX5_people_4 3 rfl rfl)
theorem dX5_people_99 : decode cX5_people 99 = .ok (.getfield 111, 3) := dk_180 0 111 (dk_at dksX5_people_4 4 rfl rfl)
theorem dX5_people_102 : decode cX5_people 102 = .ok (.bipush 12, 2) := dk_16 12 (dk_at dksX5_people_4 7 rfl rfl)
theorem dX5_people_104 : decode cX5_people 104 = .ok (.if_icmp .ne 6, 3) := dk_160 0 6 (dk_at dksX5_people_4 9 rfl rfl)
theorem dX5_people_107 : decode cX5_people 107 = .ok (.iload 4, 2) := dk_21 4 (dk_at dksX5_people_4 12 rfl rfl)
theorem dX5_people_109 : decode cX5_people 109 = .ok (.ireturn, 1) := dk_172 (dk_at dksX5_people_4 14 rfl rfl)
theorem dX5_people_110 : decode cX5_people 110 = .ok (.bipush 60, 2) := dk_16 60 (dk_at dksX5_people_4 15 rfl rfl)
theorem dX5_people_112 : decode cX5_people 112 = .ok (.iload_n 1, 1) := dk_27 (dk_at dksX5_people_4 17 rfl rfl)
theorem dX5_people_113 : decode cX5_people 113 = .ok (.imul, 1) := dk_104 (dk_at dksX5_people_4 18 rfl rfl)
theorem dX5_people_114 : decode cX5_people 114 = .ok (.lload 5, 2) := dk_22 5 (dk_at dksX5_people_4 19 rfl rfl)
theorem dX5_people_116 : decode cX5_people 116 = .ok (.l2i, 1) := dk_136 (dk_at dksX5_people_4 21 rfl rfl)
theorem dX5_people_117 : decode cX5_people 117 = .ok (.iadd, 1) := dk_96 (dk_at dksX5_people_4 22 rfl rfl)
theorem dX5_people_118 : decode cX5_people 118 = .ok (.istore 7, 2) := dk_54 7 (dk_at dksX5_people_5 0 rfl rfl)
theorem dX5_people_120 : decode cX5_people 120 = .ok (.aload_n 0, 1) := dk_42 (dk_at dksX5_people_5 2 rfl rfl)
theorem dX5_people_121 : decode cX5_people 121 = .ok (.getfield 100, 3) := dk_180 0 100 (dk_at dksX5_people_5 3 rfl rfl)
theorem dX5_people_124 : decode cX5_people 124 = .ok (.iload 7, 2) := dk_21 7 (dk_at dksX5_people_5 6 rfl rfl)
theorem dX5_people_126 : decode cX5_people 126 = .ok (.laload, 1) := dk_47 (dk_at dksX5_people_5 8 rfl rfl)
theorem dX5_people_127 : decode cX5_people 127 = .ok (.l2i, 1) := dk_136 (dk_at dksX5_people_5 9 rfl rfl)
theorem dX5_people_128 : decode cX5_people 128 = .ok (.aload_n 0, 1) := dk_42 (dk_at dksX5_people_5 10 rfl rfl)
theorem dX5_people_129 : decode cX5_people 129 = .ok (.getfield 100, 3) := dk_180 0 100 (dk_at dksX5_people_5 11 rfl rfl)
theorem dX5_people_132 : decode cX5_people 132 = .ok (.iload 7, 2) := dk_21 7 (dk_at dksX5_people_5 14 rfl rfl)
theorem dX5_people_134 : decode cX5_people 134 = .ok (.iconst 1, 1) := dk_4 (dk_at dksX5_people_5 16 rfl rfl)
theorem dX5_people_135 : decode cX5_people 135 = .ok (.iadd, 1) := dk_96 (dk_at dksX5_people_5 17 rfl rfl)
theorem dX5_people_136 : decode cX5_people 136 = .ok (.laload, 1) := dk_47 (dk_at dksX5_people_5 18 rfl rfl)
theorem dX5_people_137 : decode cX5_people 137 = .ok (.l2i, 1) := dk_136 (dk_at dksX5_people_5 19 rfl rfl)
theorem dX5_people_138 : decode cX5_people 138 = .ok (.invokestatic 122, 3) := dk_184 0 122 (dk_at dksX5_people_5 20 rfl rfl)
theorem dX5_people_141 : decode cX5_people 141 = .ok (.ifCond .eq 22, 3) := dk_153 0 22 (dk_at dksX5_people_6 0 rfl rfl)
theorem dX5_people_144 : decode cX5_people 144 = .ok (.aload_n 0, 1) := dk_42 (dk_at dksX5_people_6 3 rfl rfl)
theorem dX5_people_145 : decode cX5_people 145 = .ok (.getfield 100, 3) := dk_180 0 100 (dk_at dksX5_people_6 4 rfl rfl)
theorem dX5_people_148 : decode cX5_people 148 = .ok (.iload 7, 2) := dk_21 7 (dk_at dksX5_people_6 7 rfl rfl)
theorem dX5_people_150 : decode cX5_people 150 = .ok (.iconst 2, 1) := dk_5 (dk_at dksX5_people_6 9 rfl rfl)
theorem dX5_people_151 : decode cX5_people 151 = .ok (.iadd, 1) := dk_96 (dk_at dksX5_people_6 10 rfl rfl)
theorem dX5_people_152 : decode cX5_people 152 = .ok (.laload, 1) := dk_47 (dk_at dksX5_people_6 11 rfl rfl)
theorem dX5_people_153 : decode cX5_people 153 = .ok (.l2i, 1) := dk_136 (dk_at dksX5_people_6 12 rfl rfl)
theorem dX5_people_154 : decode cX5_people 154 = .ok (.iconst (-1), 1) := dk_2 (dk_at dksX5_people_6 13 rfl rfl)
theorem dX5_people_155 : decode cX5_people 155 = .ok (.bipush 11, 2) := dk_16 11 (dk_at dksX5_people_6 14 rfl rfl)
theorem dX5_people_157 : decode cX5_people 157 = .ok (.invokestatic 114, 3) := dk_184 0 114 (dk_at dksX5_people_6 16 rfl rfl)
theorem dX5_people_160 : decode cX5_people 160 = .ok (.ifCond .ne 6, 3) := dk_154 0 6 (dk_at dksX5_people_6 19 rfl rfl)
theorem dX5_people_163 : decode cX5_people 163 = .ok (.iload 4, 2) := dk_21 4 (dk_at dksX5_people_6 22 rfl rfl)
theorem dX5_people_165 : decode cX5_people 165 = .ok (.ireturn, 1) := dk_172 (dk_at dksX5_people_7 0 rfl rfl)
theorem dX5_people_166 : decode cX5_people 166 = .ok (.aload_n 0, 1) := dk_42 (dk_at dksX5_people_7 1 rfl rfl)
theorem dX5_people_167 : decode cX5_people 167 = .ok (.aload_n 0, 1) := dk_42 (dk_at dksX5_people_7 2 rfl rfl)
theorem dX5_people_168 : decode cX5_people 168 = .ok (.getfield 100, 3) := dk_180 0 100 (dk_at dksX5_people_7 3 rfl rfl)
theorem dX5_people_171 : decode cX5_people 171 = .ok (.iload 7, 2) := dk_21 7 (dk_at dksX5_people_7 6 rfl rfl)
theorem dX5_people_173 : decode cX5_people 173 = .ok (.laload, 1) := dk_47 (dk_at dksX5_people_7 8 rfl rfl)
theorem dX5_people_174 : decode cX5_people 174 = .ok (.l2i, 1) := dk_136 (dk_at dksX5_people_7 9 rfl rfl)
theorem dX5_people_175 : decode cX5_people 175 = .ok (.aload_n 0, 1) := dk_42 (dk_at dksX5_people_7 10 rfl rfl)
theorem dX5_people_176 : decode cX5_people 176 = .ok (.getfield 100, 3) := dk_180 0 100 (dk_at dksX5_people_7 11 rfl rfl)
theorem dX5_people_179 : decode cX5_people 179 = .ok (.iload 7, 2) := dk_21 7 (dk_at dksX5_people_7 14 rfl rfl)
theorem dX5_people_181 : decode cX5_people 181 = .ok (.iconst 1, 1) := dk_4 (dk_at dksX5_people_7 16 rfl rfl)
theorem dX5_people_182 : decode cX5_people 182 = .ok (.iadd, 1) := dk_96 (dk_at dksX5_people_7 17 rfl rfl)
theorem dX5_people_183 : decode cX5_people 183 = .ok (.laload, 1) := dk_47 (dk_at dksX5_people_7 18 rfl rfl)
theorem dX5_people_184 : decode cX5_people 184 = .ok (.l2i, 1) := dk_136 (dk_at dksX5_people_7 19 rfl rfl)
theorem dX5_people_185 : decode cX5_people 185 = .ok (.aload_n 0, 1) := dk_42 (dk_at dksX5_people_7 20 rfl rfl)
theorem dX5_people_186 : decode cX5_people 186 = .ok (.getfield 100, 3) := dk_180 0 100 (dk_at dksX5_people_7 21 rfl rfl)
theorem dX5_people_189 : decode cX5_people 189 = .ok (.iload 7, 2) := dk_21 7 (dk_at dksX5_people_8 0 rfl rfl)
theorem dX5_people_191 : decode cX5_people 191 = .ok (.iconst 2, 1) := dk_5 (dk_at dksX5_people_8 2 rfl rfl)
theorem dX5_people_192 : decode cX5_people 192 = .ok (.iadd, 1) := dk_96 (dk_at dksX5_people_8 3 rfl rfl)
theorem dX5_people_193 : decode cX5_people 193 = .ok (.laload, 1) := dk_47 (dk_at dksX5_people_8 4 rfl rfl)
theorem dX5_people_194 : decode cX5_people 194 = .ok (.l2i, 1) := dk_136 (dk_at dksX5_people_8 5 rfl rfl)
theorem dX5_people_195 : decode cX5_people 195 = .ok (.invokevirtual 126, 3) := dk_182 0 126 (dk_at dksX5_people_8 6 rfl rfl)
theorem dX5_people_198 : decode cX5_people 198 = .ok (.pop, 1) := dk_87 (dk_at dksX5_people_8 9 rfl rfl)
theorem dX5_people_199 : decode cX5_people 199 = .ok (.iinc 4 1, 3) := dk_132 4 1 (dk_at dksX5_people_8 10 rfl rfl)
theorem dX5_people_202 : decode cX5_people 202 = .ok (.goto (-144), 3) := dk_167 255 112 (dk_at dksX5_people_8 13 rfl rfl)
theorem dX5_people_205 : decode cX5_people 205 = .ok (.iload_n 3, 1) := dk_29 (dk_at dksX5_people_8 16 rfl rfl)
theorem dX5_people_206 : decode cX5_people 206 = .ok (.ireturn, 1) := dk_172 (dk_at dksX5_people_8 17 rfl rfl)
abbrev cX5_isShelf : ByteArray := prog_25_method_97_code
def yX5_isShelf : MethodName := ⟨RX5, "isShelf", "(I)Z"⟩
def dkwX5_isShelf_0 : List UInt8 := [26, 3, 8, 184, 0, 114, 172]
abbrev dktX5_isShelf_0 : List UInt8 := dkwX5_isShelf_0 ++ []
theorem dksX5_isShelf_0 : cX5_isShelf.data.toList.drop 0 = dktX5_isShelf_0 := by decide +kernel
theorem dX5_isShelf_0 : decode cX5_isShelf 0 = .ok (.iload_n 0, 1) := dk_26 (dk_at dksX5_isShelf_0 0 rfl rfl)
theorem dX5_isShelf_1 : decode cX5_isShelf 1 = .ok (.iconst 0, 1) := dk_3 (dk_at dksX5_isShelf_0 1 rfl rfl)
theorem dX5_isShelf_2 : decode cX5_isShelf 2 = .ok (.iconst 5, 1) := dk_8 (dk_at dksX5_isShelf_0 2 rfl rfl)
theorem dX5_isShelf_3 : decode cX5_isShelf 3 = .ok (.invokestatic 114, 3) := dk_184 0 114 (dk_at dksX5_isShelf_0 3 rfl rfl)
theorem dX5_isShelf_6 : decode cX5_isShelf 6 = .ok (.ireturn, 1) := dk_172 (dk_at dksX5_isShelf_0 6 rfl rfl)
abbrev cX5_meet : ByteArray := prog_25_method_13_code
def yX5_meet : MethodName := ⟨RX5, "meet", "(II)I"⟩
def dkwX5_meet_5 : List UInt8 := [42, 89, 180, 0, 141, 4, 96, 181, 0, 141, 42, 180, 0, 141, 4, 100, 172]
abbrev dktX5_meet_5 : List UInt8 := dkwX5_meet_5 ++ []
def dkwX5_meet_4 : List UInt8 := [79, 42, 180, 0, 22, 42, 180, 0, 141, 27, 16, 100, 112, 79, 42, 180, 0, 25, 42, 180, 0, 141, 28, 79]
abbrev dktX5_meet_4 : List UInt8 := dkwX5_meet_4 ++ dktX5_meet_5
def dkwX5_meet_3 : List UInt8 := [42, 180, 0, 141, 16, 16, 160, 0, 6, 16, 253, 172, 42, 180, 0, 19, 42, 180, 0, 141, 27, 16, 100, 108]
abbrev dktX5_meet_3 : List UInt8 := dkwX5_meet_3 ++ dktX5_meet_4
def dkwX5_meet_2 : List UInt8 := [16, 100, 108, 28, 182, 0, 138, 153, 0, 15, 42, 27, 16, 100, 112, 28, 182, 0, 138, 154, 0, 5, 2, 172]
abbrev dktX5_meet_2 : List UInt8 := dkwX5_meet_2 ++ dktX5_meet_3
def dkwX5_meet_1 : List UInt8 := [153, 0, 45, 27, 16, 100, 108, 27, 16, 100, 112, 159, 0, 34, 28, 184, 0, 118, 153, 0, 27, 42, 27]
abbrev dktX5_meet_1 : List UInt8 := dkwX5_meet_1 ++ dktX5_meet_2
def dkwX5_meet_0 : List UInt8 := [27, 155, 0, 67, 42, 27, 16, 100, 108, 182, 0, 135, 153, 0, 56, 42, 27, 16, 100, 112, 182, 0, 135]
abbrev dktX5_meet_0 : List UInt8 := dkwX5_meet_0 ++ dktX5_meet_1
theorem dksX5_meet_0 : cX5_meet.data.toList.drop 0 = dktX5_meet_0 := by decide +kernel
theorem dksX5_meet_1 : cX5_meet.data.toList.drop 23 = dktX5_meet_1 := dk_seg dksX5_meet_0 23 rfl rfl
theorem dksX5_meet_2 : cX5_meet.data.toList.drop 46 = dktX5_meet_2 := dk_seg dksX5_meet_1 23 rfl rfl
theorem dksX5_meet_3 : cX5_meet.data.toList.drop 70 = dktX5_meet_3 := dk_seg dksX5_meet_2 24 rfl rfl
theorem dksX5_meet_4 : cX5_meet.data.toList.drop 94 = dktX5_meet_4 := dk_seg dksX5_meet_3 24 rfl rfl
theorem dksX5_meet_5 : cX5_meet.data.toList.drop 118 = dktX5_meet_5 := dk_seg dksX5_meet_4 24 rfl rfl
theorem dX5_meet_0 : decode cX5_meet 0 = .ok (.iload_n 1, 1) := dk_27 (dk_at dksX5_meet_0 0 rfl rfl)
theorem dX5_meet_1 : decode cX5_meet 1 = .ok (.ifCond .lt 67, 3) := dk_155 0 67 (dk_at dksX5_meet_0 1 rfl rfl)
theorem dX5_meet_4 : decode cX5_meet 4 = .ok (.aload_n 0, 1) := dk_42 (dk_at dksX5_meet_0 4 rfl rfl)
theorem dX5_meet_5 : decode cX5_meet 5 = .ok (.iload_n 1, 1) := dk_27 (dk_at dksX5_meet_0 5 rfl rfl)
theorem dX5_meet_6 : decode cX5_meet 6 = .ok (.bipush 100, 2) := dk_16 100 (dk_at dksX5_meet_0 6 rfl rfl)
theorem dX5_meet_8 : decode cX5_meet 8 = .ok (.idiv, 1) := dk_108 (dk_at dksX5_meet_0 8 rfl rfl)
theorem dX5_meet_9 : decode cX5_meet 9 = .ok (.invokevirtual 135, 3) := dk_182 0 135 (dk_at dksX5_meet_0 9 rfl rfl)
theorem dX5_meet_12 : decode cX5_meet 12 = .ok (.ifCond .eq 56, 3) := dk_153 0 56 (dk_at dksX5_meet_0 12 rfl rfl)
theorem dX5_meet_15 : decode cX5_meet 15 = .ok (.aload_n 0, 1) := dk_42 (dk_at dksX5_meet_0 15 rfl rfl)
theorem dX5_meet_16 : decode cX5_meet 16 = .ok (.iload_n 1, 1) := dk_27 (dk_at dksX5_meet_0 16 rfl rfl)
theorem dX5_meet_17 : decode cX5_meet 17 = .ok (.bipush 100, 2) := dk_16 100 (dk_at dksX5_meet_0 17 rfl rfl)
theorem dX5_meet_19 : decode cX5_meet 19 = .ok (.irem, 1) := dk_112 (dk_at dksX5_meet_0 19 rfl rfl)
theorem dX5_meet_20 : decode cX5_meet 20 = .ok (.invokevirtual 135, 3) := dk_182 0 135 (dk_at dksX5_meet_0 20 rfl rfl)
theorem dX5_meet_23 : decode cX5_meet 23 = .ok (.ifCond .eq 45, 3) := dk_153 0 45 (dk_at dksX5_meet_1 0 rfl rfl)
theorem dX5_meet_26 : decode cX5_meet 26 = .ok (.iload_n 1, 1) := dk_27 (dk_at dksX5_meet_1 3 rfl rfl)
theorem dX5_meet_27 : decode cX5_meet 27 = .ok (.bipush 100, 2) := dk_16 100 (dk_at dksX5_meet_1 4 rfl rfl)
theorem dX5_meet_29 : decode cX5_meet 29 = .ok (.idiv, 1) := dk_108 (dk_at dksX5_meet_1 6 rfl rfl)
theorem dX5_meet_30 : decode cX5_meet 30 = .ok (.iload_n 1, 1) := dk_27 (dk_at dksX5_meet_1 7 rfl rfl)
theorem dX5_meet_31 : decode cX5_meet 31 = .ok (.bipush 100, 2) := dk_16 100 (dk_at dksX5_meet_1 8 rfl rfl)
theorem dX5_meet_33 : decode cX5_meet 33 = .ok (.irem, 1) := dk_112 (dk_at dksX5_meet_1 10 rfl rfl)
theorem dX5_meet_34 : decode cX5_meet 34 = .ok (.if_icmp .eq 34, 3) := dk_159 0 34 (dk_at dksX5_meet_1 11 rfl rfl)
theorem dX5_meet_37 : decode cX5_meet 37 = .ok (.iload_n 2, 1) := dk_28 (dk_at dksX5_meet_1 14 rfl rfl)
theorem dX5_meet_38 : decode cX5_meet 38 = .ok (.invokestatic 118, 3) := dk_184 0 118 (dk_at dksX5_meet_1 15 rfl rfl)
theorem dX5_meet_41 : decode cX5_meet 41 = .ok (.ifCond .eq 27, 3) := dk_153 0 27 (dk_at dksX5_meet_1 18 rfl rfl)
theorem dX5_meet_44 : decode cX5_meet 44 = .ok (.aload_n 0, 1) := dk_42 (dk_at dksX5_meet_1 21 rfl rfl)
theorem dX5_meet_45 : decode cX5_meet 45 = .ok (.iload_n 1, 1) := dk_27 (dk_at dksX5_meet_1 22 rfl rfl)
theorem dX5_meet_46 : decode cX5_meet 46 = .ok (.bipush 100, 2) := dk_16 100 (dk_at dksX5_meet_2 0 rfl rfl)
theorem dX5_meet_48 : decode cX5_meet 48 = .ok (.idiv, 1) := dk_108 (dk_at dksX5_meet_2 2 rfl rfl)
theorem dX5_meet_49 : decode cX5_meet 49 = .ok (.iload_n 2, 1) := dk_28 (dk_at dksX5_meet_2 3 rfl rfl)
theorem dX5_meet_50 : decode cX5_meet 50 = .ok (.invokevirtual 138, 3) := dk_182 0 138 (dk_at dksX5_meet_2 4 rfl rfl)
theorem dX5_meet_53 : decode cX5_meet 53 = .ok (.ifCond .eq 15, 3) := dk_153 0 15 (dk_at dksX5_meet_2 7 rfl rfl)
theorem dX5_meet_56 : decode cX5_meet 56 = .ok (.aload_n 0, 1) := dk_42 (dk_at dksX5_meet_2 10 rfl rfl)
theorem dX5_meet_57 : decode cX5_meet 57 = .ok (.iload_n 1, 1) := dk_27 (dk_at dksX5_meet_2 11 rfl rfl)
theorem dX5_meet_58 : decode cX5_meet 58 = .ok (.bipush 100, 2) := dk_16 100 (dk_at dksX5_meet_2 12 rfl rfl)
theorem dX5_meet_60 : decode cX5_meet 60 = .ok (.irem, 1) := dk_112 (dk_at dksX5_meet_2 14 rfl rfl)
theorem dX5_meet_61 : decode cX5_meet 61 = .ok (.iload_n 2, 1) := dk_28 (dk_at dksX5_meet_2 15 rfl rfl)
theorem dX5_meet_62 : decode cX5_meet 62 = .ok (.invokevirtual 138, 3) := dk_182 0 138 (dk_at dksX5_meet_2 16 rfl rfl)
theorem dX5_meet_65 : decode cX5_meet 65 = .ok (.ifCond .ne 5, 3) := dk_154 0 5 (dk_at dksX5_meet_2 19 rfl rfl)
theorem dX5_meet_68 : decode cX5_meet 68 = .ok (.iconst (-1), 1) := dk_2 (dk_at dksX5_meet_2 22 rfl rfl)
theorem dX5_meet_69 : decode cX5_meet 69 = .ok (.ireturn, 1) := dk_172 (dk_at dksX5_meet_2 23 rfl rfl)
theorem dX5_meet_70 : decode cX5_meet 70 = .ok (.aload_n 0, 1) := dk_42 (dk_at dksX5_meet_3 0 rfl rfl)
theorem dX5_meet_71 : decode cX5_meet 71 = .ok (.getfield 141, 3) := dk_180 0 141 (dk_at dksX5_meet_3 1 rfl rfl)
theorem dX5_meet_74 : decode cX5_meet 74 = .ok (.bipush 16, 2) := dk_16 16 (dk_at dksX5_meet_3 4 rfl rfl)
theorem dX5_meet_76 : decode cX5_meet 76 = .ok (.if_icmp .ne 6, 3) := dk_160 0 6 (dk_at dksX5_meet_3 6 rfl rfl)
theorem dX5_meet_79 : decode cX5_meet 79 = .ok (.bipush (-3), 2) := dk_16 253 (dk_at dksX5_meet_3 9 rfl rfl)
theorem dX5_meet_81 : decode cX5_meet 81 = .ok (.ireturn, 1) := dk_172 (dk_at dksX5_meet_3 11 rfl rfl)
theorem dX5_meet_82 : decode cX5_meet 82 = .ok (.aload_n 0, 1) := dk_42 (dk_at dksX5_meet_3 12 rfl rfl)
theorem dX5_meet_83 : decode cX5_meet 83 = .ok (.getfield 19, 3) := dk_180 0 19 (dk_at dksX5_meet_3 13 rfl rfl)
theorem dX5_meet_86 : decode cX5_meet 86 = .ok (.aload_n 0, 1) := dk_42 (dk_at dksX5_meet_3 16 rfl rfl)
theorem dX5_meet_87 : decode cX5_meet 87 = .ok (.getfield 141, 3) := dk_180 0 141 (dk_at dksX5_meet_3 17 rfl rfl)
theorem dX5_meet_90 : decode cX5_meet 90 = .ok (.iload_n 1, 1) := dk_27 (dk_at dksX5_meet_3 20 rfl rfl)
theorem dX5_meet_91 : decode cX5_meet 91 = .ok (.bipush 100, 2) := dk_16 100 (dk_at dksX5_meet_3 21 rfl rfl)
theorem dX5_meet_93 : decode cX5_meet 93 = .ok (.idiv, 1) := dk_108 (dk_at dksX5_meet_3 23 rfl rfl)
theorem dX5_meet_94 : decode cX5_meet 94 = .ok (.iastore, 1) := dk_79 (dk_at dksX5_meet_4 0 rfl rfl)
theorem dX5_meet_95 : decode cX5_meet 95 = .ok (.aload_n 0, 1) := dk_42 (dk_at dksX5_meet_4 1 rfl rfl)
theorem dX5_meet_96 : decode cX5_meet 96 = .ok (.getfield 22, 3) := dk_180 0 22 (dk_at dksX5_meet_4 2 rfl rfl)
theorem dX5_meet_99 : decode cX5_meet 99 = .ok (.aload_n 0, 1) := dk_42 (dk_at dksX5_meet_4 5 rfl rfl)
theorem dX5_meet_100 : decode cX5_meet 100 = .ok (.getfield 141, 3) := dk_180 0 141 (dk_at dksX5_meet_4 6 rfl rfl)
theorem dX5_meet_103 : decode cX5_meet 103 = .ok (.iload_n 1, 1) := dk_27 (dk_at dksX5_meet_4 9 rfl rfl)
theorem dX5_meet_104 : decode cX5_meet 104 = .ok (.bipush 100, 2) := dk_16 100 (dk_at dksX5_meet_4 10 rfl rfl)
theorem dX5_meet_106 : decode cX5_meet 106 = .ok (.irem, 1) := dk_112 (dk_at dksX5_meet_4 12 rfl rfl)
theorem dX5_meet_107 : decode cX5_meet 107 = .ok (.iastore, 1) := dk_79 (dk_at dksX5_meet_4 13 rfl rfl)
theorem dX5_meet_108 : decode cX5_meet 108 = .ok (.aload_n 0, 1) := dk_42 (dk_at dksX5_meet_4 14 rfl rfl)
theorem dX5_meet_109 : decode cX5_meet 109 = .ok (.getfield 25, 3) := dk_180 0 25 (dk_at dksX5_meet_4 15 rfl rfl)
theorem dX5_meet_112 : decode cX5_meet 112 = .ok (.aload_n 0, 1) := dk_42 (dk_at dksX5_meet_4 18 rfl rfl)
theorem dX5_meet_113 : decode cX5_meet 113 = .ok (.getfield 141, 3) := dk_180 0 141 (dk_at dksX5_meet_4 19 rfl rfl)
theorem dX5_meet_116 : decode cX5_meet 116 = .ok (.iload_n 2, 1) := dk_28 (dk_at dksX5_meet_4 22 rfl rfl)
theorem dX5_meet_117 : decode cX5_meet 117 = .ok (.iastore, 1) := dk_79 (dk_at dksX5_meet_4 23 rfl rfl)
theorem dX5_meet_118 : decode cX5_meet 118 = .ok (.aload_n 0, 1) := dk_42 (dk_at dksX5_meet_5 0 rfl rfl)
theorem dX5_meet_119 : decode cX5_meet 119 = .ok (.dup, 1) := dk_89 (dk_at dksX5_meet_5 1 rfl rfl)
theorem dX5_meet_120 : decode cX5_meet 120 = .ok (.getfield 141, 3) := dk_180 0 141 (dk_at dksX5_meet_5 2 rfl rfl)
theorem dX5_meet_123 : decode cX5_meet 123 = .ok (.iconst 1, 1) := dk_4 (dk_at dksX5_meet_5 5 rfl rfl)
theorem dX5_meet_124 : decode cX5_meet 124 = .ok (.iadd, 1) := dk_96 (dk_at dksX5_meet_5 6 rfl rfl)
theorem dX5_meet_125 : decode cX5_meet 125 = .ok (.putfield 141, 3) := dk_181 0 141 (dk_at dksX5_meet_5 7 rfl rfl)
theorem dX5_meet_128 : decode cX5_meet 128 = .ok (.aload_n 0, 1) := dk_42 (dk_at dksX5_meet_5 10 rfl rfl)
theorem dX5_meet_129 : decode cX5_meet 129 = .ok (.getfield 141, 3) := dk_180 0 141 (dk_at dksX5_meet_5 11 rfl rfl)
theorem dX5_meet_132 : decode cX5_meet 132 = .ok (.iconst 1, 1) := dk_4 (dk_at dksX5_meet_5 14 rfl rfl)
theorem dX5_meet_133 : decode cX5_meet 133 = .ok (.isub, 1) := dk_100 (dk_at dksX5_meet_5 15 rfl rfl)
theorem dX5_meet_134 : decode cX5_meet 134 = .ok (.ireturn, 1) := dk_172 (dk_at dksX5_meet_5 16 rfl rfl)
abbrev cX5_isPerson : ByteArray := prog_25_method_5_code
def yX5_isPerson : MethodName := ⟨RX5, "isPerson", "(I)Z"⟩
def dkwX5_isPerson_0 : List UInt8 := [27, 3, 42, 180, 0, 111, 4, 100, 184, 0, 114, 172]
abbrev dktX5_isPerson_0 : List UInt8 := dkwX5_isPerson_0 ++ []
theorem dksX5_isPerson_0 : cX5_isPerson.data.toList.drop 0 = dktX5_isPerson_0 := by decide +kernel
theorem dX5_isPerson_0 : decode cX5_isPerson 0 = .ok (.iload_n 1, 1) := dk_27 (dk_at dksX5_isPerson_0 0 rfl rfl)
theorem dX5_isPerson_1 : decode cX5_isPerson 1 = .ok (.iconst 0, 1) := dk_3 (dk_at dksX5_isPerson_0 1 rfl rfl)
theorem dX5_isPerson_2 : decode cX5_isPerson 2 = .ok (.aload_n 0, 1) := dk_42 (dk_at dksX5_isPerson_0 2 rfl rfl)
theorem dX5_isPerson_3 : decode cX5_isPerson 3 = .ok (.getfield 111, 3) := dk_180 0 111 (dk_at dksX5_isPerson_0 3 rfl rfl)
theorem dX5_isPerson_6 : decode cX5_isPerson 6 = .ok (.iconst 1, 1) := dk_4 (dk_at dksX5_isPerson_0 6 rfl rfl)
theorem dX5_isPerson_7 : decode cX5_isPerson 7 = .ok (.isub, 1) := dk_100 (dk_at dksX5_isPerson_0 7 rfl rfl)
theorem dX5_isPerson_8 : decode cX5_isPerson 8 = .ok (.invokestatic 114, 3) := dk_184 0 114 (dk_at dksX5_isPerson_0 8 rfl rfl)
theorem dX5_isPerson_11 : decode cX5_isPerson 11 = .ok (.ireturn, 1) := dk_172 (dk_at dksX5_isPerson_0 11 rfl rfl)
abbrev cX5_lives : ByteArray := prog_25_method_8_code
def yX5_lives : MethodName := ⟨RX5, "lives", "(II)Z"⟩
def dkwX5_lives_1 : List UInt8 := [3, 172]
abbrev dktX5_lives_1 : List UInt8 := dkwX5_lives_1 ++ []
def dkwX5_lives_0 : List UInt8 := [42, 180, 0, 7, 27, 46, 28, 163, 0, 17, 28, 42, 180, 0, 13, 27, 46, 162, 0, 7, 4, 167, 0, 4]
abbrev dktX5_lives_0 : List UInt8 := dkwX5_lives_0 ++ dktX5_lives_1
theorem dksX5_lives_0 : cX5_lives.data.toList.drop 0 = dktX5_lives_0 := by decide +kernel
theorem dksX5_lives_1 : cX5_lives.data.toList.drop 24 = dktX5_lives_1 := dk_seg dksX5_lives_0 24 rfl rfl
theorem dX5_lives_0 : decode cX5_lives 0 = .ok (.aload_n 0, 1) := dk_42 (dk_at dksX5_lives_0 0 rfl rfl)
theorem dX5_lives_1 : decode cX5_lives 1 = .ok (.getfield 7, 3) := dk_180 0 7 (dk_at dksX5_lives_0 1 rfl rfl)
theorem dX5_lives_4 : decode cX5_lives 4 = .ok (.iload_n 1, 1) := dk_27 (dk_at dksX5_lives_0 4 rfl rfl)
theorem dX5_lives_5 : decode cX5_lives 5 = .ok (.iaload, 1) := dk_46 (dk_at dksX5_lives_0 5 rfl rfl)
theorem dX5_lives_6 : decode cX5_lives 6 = .ok (.iload_n 2, 1) := dk_28 (dk_at dksX5_lives_0 6 rfl rfl)
theorem dX5_lives_7 : decode cX5_lives 7 = .ok (.if_icmp .gt 17, 3) := dk_163 0 17 (dk_at dksX5_lives_0 7 rfl rfl)
theorem dX5_lives_10 : decode cX5_lives 10 = .ok (.iload_n 2, 1) := dk_28 (dk_at dksX5_lives_0 10 rfl rfl)
theorem dX5_lives_11 : decode cX5_lives 11 = .ok (.aload_n 0, 1) := dk_42 (dk_at dksX5_lives_0 11 rfl rfl)
theorem dX5_lives_12 : decode cX5_lives 12 = .ok (.getfield 13, 3) := dk_180 0 13 (dk_at dksX5_lives_0 12 rfl rfl)
theorem dX5_lives_15 : decode cX5_lives 15 = .ok (.iload_n 1, 1) := dk_27 (dk_at dksX5_lives_0 15 rfl rfl)
theorem dX5_lives_16 : decode cX5_lives 16 = .ok (.iaload, 1) := dk_46 (dk_at dksX5_lives_0 16 rfl rfl)
theorem dX5_lives_17 : decode cX5_lives 17 = .ok (.if_icmp .ge 7, 3) := dk_162 0 7 (dk_at dksX5_lives_0 17 rfl rfl)
theorem dX5_lives_20 : decode cX5_lives 20 = .ok (.iconst 1, 1) := dk_4 (dk_at dksX5_lives_0 20 rfl rfl)
theorem dX5_lives_21 : decode cX5_lives 21 = .ok (.goto 4, 3) := dk_167 0 4 (dk_at dksX5_lives_0 21 rfl rfl)
theorem dX5_lives_24 : decode cX5_lives 24 = .ok (.iconst 0, 1) := dk_3 (dk_at dksX5_lives_1 0 rfl rfl)
theorem dX5_lives_25 : decode cX5_lives 25 = .ok (.ireturn, 1) := dk_172 (dk_at dksX5_lives_1 1 rfl rfl)
abbrev cX5_hearing : ByteArray := prog_25_method_14_code
def yX5_hearing : MethodName := ⟨RX5, "hearing", "(I)I"⟩
def dkwX5_hearing_0 : List UInt8 := [27, 3, 4, 184, 0, 114, 154, 0, 5, 2, 172, 42, 180, 0, 144, 61, 42, 27, 181, 0, 144, 28, 172]
abbrev dktX5_hearing_0 : List UInt8 := dkwX5_hearing_0 ++ []
theorem dksX5_hearing_0 : cX5_hearing.data.toList.drop 0 = dktX5_hearing_0 := by decide +kernel
theorem dX5_hearing_0 : decode cX5_hearing 0 = .ok (.iload_n 1, 1) := dk_27 (dk_at dksX5_hearing_0 0 rfl rfl)
theorem dX5_hearing_1 : decode cX5_hearing 1 = .ok (.iconst 0, 1) := dk_3 (dk_at dksX5_hearing_0 1 rfl rfl)
theorem dX5_hearing_2 : decode cX5_hearing 2 = .ok (.iconst 1, 1) := dk_4 (dk_at dksX5_hearing_0 2 rfl rfl)
theorem dX5_hearing_3 : decode cX5_hearing 3 = .ok (.invokestatic 114, 3) := dk_184 0 114 (dk_at dksX5_hearing_0 3 rfl rfl)
theorem dX5_hearing_6 : decode cX5_hearing 6 = .ok (.ifCond .ne 5, 3) := dk_154 0 5 (dk_at dksX5_hearing_0 6 rfl rfl)
theorem dX5_hearing_9 : decode cX5_hearing 9 = .ok (.iconst (-1), 1) := dk_2 (dk_at dksX5_hearing_0 9 rfl rfl)
theorem dX5_hearing_10 : decode cX5_hearing 10 = .ok (.ireturn, 1) := dk_172 (dk_at dksX5_hearing_0 10 rfl rfl)
theorem dX5_hearing_11 : decode cX5_hearing 11 = .ok (.aload_n 0, 1) := dk_42 (dk_at dksX5_hearing_0 11 rfl rfl)
theorem dX5_hearing_12 : decode cX5_hearing 12 = .ok (.getfield 144, 3) := dk_180 0 144 (dk_at dksX5_hearing_0 12 rfl rfl)
theorem dX5_hearing_15 : decode cX5_hearing 15 = .ok (.istore_n 2, 1) := dk_61 (dk_at dksX5_hearing_0 15 rfl rfl)
theorem dX5_hearing_16 : decode cX5_hearing 16 = .ok (.aload_n 0, 1) := dk_42 (dk_at dksX5_hearing_0 16 rfl rfl)
theorem dX5_hearing_17 : decode cX5_hearing 17 = .ok (.iload_n 1, 1) := dk_27 (dk_at dksX5_hearing_0 17 rfl rfl)
theorem dX5_hearing_18 : decode cX5_hearing 18 = .ok (.putfield 144, 3) := dk_181 0 144 (dk_at dksX5_hearing_0 18 rfl rfl)
theorem dX5_hearing_21 : decode cX5_hearing 21 = .ok (.iload_n 2, 1) := dk_28 (dk_at dksX5_hearing_0 21 rfl rfl)
theorem dX5_hearing_22 : decode cX5_hearing 22 = .ok (.ireturn, 1) := dk_172 (dk_at dksX5_hearing_0 22 rfl rfl)
abbrev cX5_name : ByteArray := prog_25_method_15_code
def yX5_name : MethodName := ⟨RX5, "name", "(II)I"⟩
def dkwX5_name_1 : List UInt8 := [180, 0, 16, 27, 46, 62, 42, 180, 0, 16, 27, 28, 79, 29, 172]
abbrev dktX5_name_1 : List UInt8 := dkwX5_name_1 ++ []
def dkwX5_name_0 : List UInt8 := [42, 27, 182, 0, 135, 153, 0, 13, 28, 2, 16, 11, 184, 0, 114, 154, 0, 6, 18, 147, 172, 42]
abbrev dktX5_name_0 : List UInt8 := dkwX5_name_0 ++ dktX5_name_1
theorem dksX5_name_0 : cX5_name.data.toList.drop 0 = dktX5_name_0 := by decide +kernel
theorem dksX5_name_1 : cX5_name.data.toList.drop 22 = dktX5_name_1 := dk_seg dksX5_name_0 22 rfl rfl
theorem dX5_name_0 : decode cX5_name 0 = .ok (.aload_n 0, 1) := dk_42 (dk_at dksX5_name_0 0 rfl rfl)
theorem dX5_name_1 : decode cX5_name 1 = .ok (.iload_n 1, 1) := dk_27 (dk_at dksX5_name_0 1 rfl rfl)
theorem dX5_name_2 : decode cX5_name 2 = .ok (.invokevirtual 135, 3) := dk_182 0 135 (dk_at dksX5_name_0 2 rfl rfl)
theorem dX5_name_5 : decode cX5_name 5 = .ok (.ifCond .eq 13, 3) := dk_153 0 13 (dk_at dksX5_name_0 5 rfl rfl)
theorem dX5_name_8 : decode cX5_name 8 = .ok (.iload_n 2, 1) := dk_28 (dk_at dksX5_name_0 8 rfl rfl)
theorem dX5_name_9 : decode cX5_name 9 = .ok (.iconst (-1), 1) := dk_2 (dk_at dksX5_name_0 9 rfl rfl)
theorem dX5_name_10 : decode cX5_name 10 = .ok (.bipush 11, 2) := dk_16 11 (dk_at dksX5_name_0 10 rfl rfl)
theorem dX5_name_12 : decode cX5_name 12 = .ok (.invokestatic 114, 3) := dk_184 0 114 (dk_at dksX5_name_0 12 rfl rfl)
theorem dX5_name_15 : decode cX5_name 15 = .ok (.ifCond .ne 6, 3) := dk_154 0 6 (dk_at dksX5_name_0 15 rfl rfl)
theorem dX5_name_18 : decode cX5_name 18 = .ok (.ldc 147, 2) := dk_18 147 (dk_at dksX5_name_0 18 rfl rfl)
theorem dX5_name_20 : decode cX5_name 20 = .ok (.ireturn, 1) := dk_172 (dk_at dksX5_name_0 20 rfl rfl)
theorem dX5_name_21 : decode cX5_name 21 = .ok (.aload_n 0, 1) := dk_42 (dk_at dksX5_name_0 21 rfl rfl)
theorem dX5_name_22 : decode cX5_name 22 = .ok (.getfield 16, 3) := dk_180 0 16 (dk_at dksX5_name_1 0 rfl rfl)
theorem dX5_name_25 : decode cX5_name 25 = .ok (.iload_n 1, 1) := dk_27 (dk_at dksX5_name_1 3 rfl rfl)
theorem dX5_name_26 : decode cX5_name 26 = .ok (.iaload, 1) := dk_46 (dk_at dksX5_name_1 4 rfl rfl)
theorem dX5_name_27 : decode cX5_name 27 = .ok (.istore_n 3, 1) := dk_62 (dk_at dksX5_name_1 5 rfl rfl)
theorem dX5_name_28 : decode cX5_name 28 = .ok (.aload_n 0, 1) := dk_42 (dk_at dksX5_name_1 6 rfl rfl)
theorem dX5_name_29 : decode cX5_name 29 = .ok (.getfield 16, 3) := dk_180 0 16 (dk_at dksX5_name_1 7 rfl rfl)
theorem dX5_name_32 : decode cX5_name 32 = .ok (.iload_n 1, 1) := dk_27 (dk_at dksX5_name_1 10 rfl rfl)
theorem dX5_name_33 : decode cX5_name 33 = .ok (.iload_n 2, 1) := dk_28 (dk_at dksX5_name_1 11 rfl rfl)
theorem dX5_name_34 : decode cX5_name 34 = .ok (.iastore, 1) := dk_79 (dk_at dksX5_name_1 12 rfl rfl)
theorem dX5_name_35 : decode cX5_name 35 = .ok (.iload_n 3, 1) := dk_29 (dk_at dksX5_name_1 13 rfl rfl)
theorem dX5_name_36 : decode cX5_name 36 = .ok (.ireturn, 1) := dk_172 (dk_at dksX5_name_1 14 rfl rfl)
abbrev cX5_fame : ByteArray := prog_25_method_16_code
def yX5_fame : MethodName := ⟨RX5, "fame", "(II)I"⟩
def dkwX5_fame_1 : List UInt8 := [62, 42, 180, 0, 31, 27, 28, 79, 29, 172]
abbrev dktX5_fame_1 : List UInt8 := dkwX5_fame_1 ++ []
def dkwX5_fame_0 : List UInt8 := [27, 184, 0, 148, 153, 0, 12, 28, 3, 4, 184, 0, 114, 154, 0, 5, 2, 172, 42, 180, 0, 31, 27, 46]
abbrev dktX5_fame_0 : List UInt8 := dkwX5_fame_0 ++ dktX5_fame_1
theorem dksX5_fame_0 : cX5_fame.data.toList.drop 0 = dktX5_fame_0 := by decide +kernel
theorem dksX5_fame_1 : cX5_fame.data.toList.drop 24 = dktX5_fame_1 := dk_seg dksX5_fame_0 24 rfl rfl
theorem dX5_fame_0 : decode cX5_fame 0 = .ok (.iload_n 1, 1) := dk_27 (dk_at dksX5_fame_0 0 rfl rfl)
theorem dX5_fame_1 : decode cX5_fame 1 = .ok (.invokestatic 148, 3) := dk_184 0 148 (dk_at dksX5_fame_0 1 rfl rfl)
theorem dX5_fame_4 : decode cX5_fame 4 = .ok (.ifCond .eq 12, 3) := dk_153 0 12 (dk_at dksX5_fame_0 4 rfl rfl)
theorem dX5_fame_7 : decode cX5_fame 7 = .ok (.iload_n 2, 1) := dk_28 (dk_at dksX5_fame_0 7 rfl rfl)
theorem dX5_fame_8 : decode cX5_fame 8 = .ok (.iconst 0, 1) := dk_3 (dk_at dksX5_fame_0 8 rfl rfl)
theorem dX5_fame_9 : decode cX5_fame 9 = .ok (.iconst 1, 1) := dk_4 (dk_at dksX5_fame_0 9 rfl rfl)
theorem dX5_fame_10 : decode cX5_fame 10 = .ok (.invokestatic 114, 3) := dk_184 0 114 (dk_at dksX5_fame_0 10 rfl rfl)
theorem dX5_fame_13 : decode cX5_fame 13 = .ok (.ifCond .ne 5, 3) := dk_154 0 5 (dk_at dksX5_fame_0 13 rfl rfl)
theorem dX5_fame_16 : decode cX5_fame 16 = .ok (.iconst (-1), 1) := dk_2 (dk_at dksX5_fame_0 16 rfl rfl)
theorem dX5_fame_17 : decode cX5_fame 17 = .ok (.ireturn, 1) := dk_172 (dk_at dksX5_fame_0 17 rfl rfl)
theorem dX5_fame_18 : decode cX5_fame 18 = .ok (.aload_n 0, 1) := dk_42 (dk_at dksX5_fame_0 18 rfl rfl)
theorem dX5_fame_19 : decode cX5_fame 19 = .ok (.getfield 31, 3) := dk_180 0 31 (dk_at dksX5_fame_0 19 rfl rfl)
theorem dX5_fame_22 : decode cX5_fame 22 = .ok (.iload_n 1, 1) := dk_27 (dk_at dksX5_fame_0 22 rfl rfl)
theorem dX5_fame_23 : decode cX5_fame 23 = .ok (.iaload, 1) := dk_46 (dk_at dksX5_fame_0 23 rfl rfl)
theorem dX5_fame_24 : decode cX5_fame 24 = .ok (.istore_n 3, 1) := dk_62 (dk_at dksX5_fame_1 0 rfl rfl)
theorem dX5_fame_25 : decode cX5_fame 25 = .ok (.aload_n 0, 1) := dk_42 (dk_at dksX5_fame_1 1 rfl rfl)
theorem dX5_fame_26 : decode cX5_fame 26 = .ok (.getfield 31, 3) := dk_180 0 31 (dk_at dksX5_fame_1 2 rfl rfl)
theorem dX5_fame_29 : decode cX5_fame 29 = .ok (.iload_n 1, 1) := dk_27 (dk_at dksX5_fame_1 5 rfl rfl)
theorem dX5_fame_30 : decode cX5_fame 30 = .ok (.iload_n 2, 1) := dk_28 (dk_at dksX5_fame_1 6 rfl rfl)
theorem dX5_fame_31 : decode cX5_fame 31 = .ok (.iastore, 1) := dk_79 (dk_at dksX5_fame_1 7 rfl rfl)
theorem dX5_fame_32 : decode cX5_fame 32 = .ok (.iload_n 3, 1) := dk_29 (dk_at dksX5_fame_1 8 rfl rfl)
theorem dX5_fame_33 : decode cX5_fame 33 = .ok (.ireturn, 1) := dk_172 (dk_at dksX5_fame_1 9 rfl rfl)
abbrev cX5_isName : ByteArray := prog_25_method_6_code
def yX5_isName : MethodName := ⟨RX5, "isName", "(I)Z"⟩
def dkwX5_isName_0 : List UInt8 := [26, 3, 16, 11, 184, 0, 114, 172]
abbrev dktX5_isName_0 : List UInt8 := dkwX5_isName_0 ++ []
theorem dksX5_isName_0 : cX5_isName.data.toList.drop 0 = dktX5_isName_0 := by decide +kernel
theorem dX5_isName_0 : decode cX5_isName 0 = .ok (.iload_n 0, 1) := dk_26 (dk_at dksX5_isName_0 0 rfl rfl)
theorem dX5_isName_1 : decode cX5_isName 1 = .ok (.iconst 0, 1) := dk_3 (dk_at dksX5_isName_0 1 rfl rfl)
theorem dX5_isName_2 : decode cX5_isName 2 = .ok (.bipush 11, 2) := dk_16 11 (dk_at dksX5_isName_0 2 rfl rfl)
theorem dX5_isName_4 : decode cX5_isName 4 = .ok (.invokestatic 114, 3) := dk_184 0 114 (dk_at dksX5_isName_0 4 rfl rfl)
theorem dX5_isName_7 : decode cX5_isName 7 = .ok (.ireturn, 1) := dk_172 (dk_at dksX5_isName_0 7 rfl rfl)
abbrev cX5_undo : ByteArray := prog_25_method_20_code
def yX5_undo : MethodName := ⟨RX5, "undo", "()I"⟩
def dkwX5_undo_2 : List UInt8 := [180, 0, 158, 46, 42, 180, 0, 40, 42, 180, 0, 158, 46, 182, 0, 161, 42, 180, 0, 158, 172]
abbrev dktX5_undo_2 : List UInt8 := dkwX5_undo_2 ++ []
def dkwX5_undo_1 : List UInt8 := [180, 0, 155, 4, 96, 181, 0, 155, 42, 42, 180, 0, 34, 42, 180, 0, 158, 46, 42, 180, 0, 37, 42]
abbrev dktX5_undo_1 : List UInt8 := dkwX5_undo_1 ++ dktX5_undo_2
def dkwX5_undo_0 : List UInt8 := [42, 180, 0, 158, 154, 0, 6, 16, 251, 172, 42, 89, 180, 0, 158, 4, 100, 181, 0, 158, 42, 89]
abbrev dktX5_undo_0 : List UInt8 := dkwX5_undo_0 ++ dktX5_undo_1
theorem dksX5_undo_0 : cX5_undo.data.toList.drop 0 = dktX5_undo_0 := by decide +kernel
theorem dksX5_undo_1 : cX5_undo.data.toList.drop 22 = dktX5_undo_1 := dk_seg dksX5_undo_0 22 rfl rfl
theorem dksX5_undo_2 : cX5_undo.data.toList.drop 45 = dktX5_undo_2 := dk_seg dksX5_undo_1 23 rfl rfl
theorem dX5_undo_0 : decode cX5_undo 0 = .ok (.aload_n 0, 1) := dk_42 (dk_at dksX5_undo_0 0 rfl rfl)
theorem dX5_undo_1 : decode cX5_undo 1 = .ok (.getfield 158, 3) := dk_180 0 158 (dk_at dksX5_undo_0 1 rfl rfl)
theorem dX5_undo_4 : decode cX5_undo 4 = .ok (.ifCond .ne 6, 3) := dk_154 0 6 (dk_at dksX5_undo_0 4 rfl rfl)
theorem dX5_undo_7 : decode cX5_undo 7 = .ok (.bipush (-5), 2) := dk_16 251 (dk_at dksX5_undo_0 7 rfl rfl)
theorem dX5_undo_9 : decode cX5_undo 9 = .ok (.ireturn, 1) := dk_172 (dk_at dksX5_undo_0 9 rfl rfl)
theorem dX5_undo_10 : decode cX5_undo 10 = .ok (.aload_n 0, 1) := dk_42 (dk_at dksX5_undo_0 10 rfl rfl)
theorem dX5_undo_11 : decode cX5_undo 11 = .ok (.dup, 1) := dk_89 (dk_at dksX5_undo_0 11 rfl rfl)
theorem dX5_undo_12 : decode cX5_undo 12 = .ok (.getfield 158, 3) := dk_180 0 158 (dk_at dksX5_undo_0 12 rfl rfl)
theorem dX5_undo_15 : decode cX5_undo 15 = .ok (.iconst 1, 1) := dk_4 (dk_at dksX5_undo_0 15 rfl rfl)
theorem dX5_undo_16 : decode cX5_undo 16 = .ok (.isub, 1) := dk_100 (dk_at dksX5_undo_0 16 rfl rfl)
theorem dX5_undo_17 : decode cX5_undo 17 = .ok (.putfield 158, 3) := dk_181 0 158 (dk_at dksX5_undo_0 17 rfl rfl)
theorem dX5_undo_20 : decode cX5_undo 20 = .ok (.aload_n 0, 1) := dk_42 (dk_at dksX5_undo_0 20 rfl rfl)
theorem dX5_undo_21 : decode cX5_undo 21 = .ok (.dup, 1) := dk_89 (dk_at dksX5_undo_0 21 rfl rfl)
theorem dX5_undo_22 : decode cX5_undo 22 = .ok (.getfield 155, 3) := dk_180 0 155 (dk_at dksX5_undo_1 0 rfl rfl)
theorem dX5_undo_25 : decode cX5_undo 25 = .ok (.iconst 1, 1) := dk_4 (dk_at dksX5_undo_1 3 rfl rfl)
theorem dX5_undo_26 : decode cX5_undo 26 = .ok (.iadd, 1) := dk_96 (dk_at dksX5_undo_1 4 rfl rfl)
theorem dX5_undo_27 : decode cX5_undo 27 = .ok (.putfield 155, 3) := dk_181 0 155 (dk_at dksX5_undo_1 5 rfl rfl)
theorem dX5_undo_30 : decode cX5_undo 30 = .ok (.aload_n 0, 1) := dk_42 (dk_at dksX5_undo_1 8 rfl rfl)
theorem dX5_undo_31 : decode cX5_undo 31 = .ok (.aload_n 0, 1) := dk_42 (dk_at dksX5_undo_1 9 rfl rfl)
theorem dX5_undo_32 : decode cX5_undo 32 = .ok (.getfield 34, 3) := dk_180 0 34 (dk_at dksX5_undo_1 10 rfl rfl)
theorem dX5_undo_35 : decode cX5_undo 35 = .ok (.aload_n 0, 1) := dk_42 (dk_at dksX5_undo_1 13 rfl rfl)
theorem dX5_undo_36 : decode cX5_undo 36 = .ok (.getfield 158, 3) := dk_180 0 158 (dk_at dksX5_undo_1 14 rfl rfl)
theorem dX5_undo_39 : decode cX5_undo 39 = .ok (.iaload, 1) := dk_46 (dk_at dksX5_undo_1 17 rfl rfl)
theorem dX5_undo_40 : decode cX5_undo 40 = .ok (.aload_n 0, 1) := dk_42 (dk_at dksX5_undo_1 18 rfl rfl)
theorem dX5_undo_41 : decode cX5_undo 41 = .ok (.getfield 37, 3) := dk_180 0 37 (dk_at dksX5_undo_1 19 rfl rfl)
theorem dX5_undo_44 : decode cX5_undo 44 = .ok (.aload_n 0, 1) := dk_42 (dk_at dksX5_undo_1 22 rfl rfl)
theorem dX5_undo_45 : decode cX5_undo 45 = .ok (.getfield 158, 3) := dk_180 0 158 (dk_at dksX5_undo_2 0 rfl rfl)
theorem dX5_undo_48 : decode cX5_undo 48 = .ok (.iaload, 1) := dk_46 (dk_at dksX5_undo_2 3 rfl rfl)
theorem dX5_undo_49 : decode cX5_undo 49 = .ok (.aload_n 0, 1) := dk_42 (dk_at dksX5_undo_2 4 rfl rfl)
theorem dX5_undo_50 : decode cX5_undo 50 = .ok (.getfield 40, 3) := dk_180 0 40 (dk_at dksX5_undo_2 5 rfl rfl)
theorem dX5_undo_53 : decode cX5_undo 53 = .ok (.aload_n 0, 1) := dk_42 (dk_at dksX5_undo_2 8 rfl rfl)
theorem dX5_undo_54 : decode cX5_undo 54 = .ok (.getfield 158, 3) := dk_180 0 158 (dk_at dksX5_undo_2 9 rfl rfl)
theorem dX5_undo_57 : decode cX5_undo 57 = .ok (.iaload, 1) := dk_46 (dk_at dksX5_undo_2 12 rfl rfl)
theorem dX5_undo_58 : decode cX5_undo 58 = .ok (.invokevirtual 161, 3) := dk_182 0 161 (dk_at dksX5_undo_2 13 rfl rfl)
theorem dX5_undo_61 : decode cX5_undo 61 = .ok (.aload_n 0, 1) := dk_42 (dk_at dksX5_undo_2 16 rfl rfl)
theorem dX5_undo_62 : decode cX5_undo 62 = .ok (.getfield 158, 3) := dk_180 0 158 (dk_at dksX5_undo_2 17 rfl rfl)
theorem dX5_undo_65 : decode cX5_undo 65 = .ok (.ireturn, 1) := dk_172 (dk_at dksX5_undo_2 20 rfl rfl)
abbrev cX5_lays : ByteArray := prog_25_method_18_code
def yX5_lays : MethodName := ⟨RX5, "lays", "(III)V"⟩
def dkwX5_lays_0 : List UInt8 := [27, 154, 0, 13, 42, 180, 0, 13, 28, 29, 79, 167, 0, 10, 42, 180, 0, 28, 28, 29, 79, 177]
abbrev dktX5_lays_0 : List UInt8 := dkwX5_lays_0 ++ []
theorem dksX5_lays_0 : cX5_lays.data.toList.drop 0 = dktX5_lays_0 := by decide +kernel
theorem dX5_lays_0 : decode cX5_lays 0 = .ok (.iload_n 1, 1) := dk_27 (dk_at dksX5_lays_0 0 rfl rfl)
theorem dX5_lays_1 : decode cX5_lays 1 = .ok (.ifCond .ne 13, 3) := dk_154 0 13 (dk_at dksX5_lays_0 1 rfl rfl)
theorem dX5_lays_4 : decode cX5_lays 4 = .ok (.aload_n 0, 1) := dk_42 (dk_at dksX5_lays_0 4 rfl rfl)
theorem dX5_lays_5 : decode cX5_lays 5 = .ok (.getfield 13, 3) := dk_180 0 13 (dk_at dksX5_lays_0 5 rfl rfl)
theorem dX5_lays_8 : decode cX5_lays 8 = .ok (.iload_n 2, 1) := dk_28 (dk_at dksX5_lays_0 8 rfl rfl)
theorem dX5_lays_9 : decode cX5_lays 9 = .ok (.iload_n 3, 1) := dk_29 (dk_at dksX5_lays_0 9 rfl rfl)
theorem dX5_lays_10 : decode cX5_lays 10 = .ok (.iastore, 1) := dk_79 (dk_at dksX5_lays_0 10 rfl rfl)
theorem dX5_lays_11 : decode cX5_lays 11 = .ok (.goto 10, 3) := dk_167 0 10 (dk_at dksX5_lays_0 11 rfl rfl)
theorem dX5_lays_14 : decode cX5_lays 14 = .ok (.aload_n 0, 1) := dk_42 (dk_at dksX5_lays_0 14 rfl rfl)
theorem dX5_lays_15 : decode cX5_lays 15 = .ok (.getfield 28, 3) := dk_180 0 28 (dk_at dksX5_lays_0 15 rfl rfl)
theorem dX5_lays_18 : decode cX5_lays 18 = .ok (.iload_n 2, 1) := dk_28 (dk_at dksX5_lays_0 18 rfl rfl)
theorem dX5_lays_19 : decode cX5_lays 19 = .ok (.iload_n 3, 1) := dk_29 (dk_at dksX5_lays_0 19 rfl rfl)
theorem dX5_lays_20 : decode cX5_lays 20 = .ok (.iastore, 1) := dk_79 (dk_at dksX5_lays_0 20 rfl rfl)
theorem dX5_lays_21 : decode cX5_lays 21 = .ok (.return_, 1) := dk_177 (dk_at dksX5_lays_0 21 rfl rfl)
abbrev cX5_redo : ByteArray := prog_25_method_21_code
def yX5_redo : MethodName := ⟨RX5, "redo", "()I"⟩
def dkwX5_redo_2 : List UInt8 := [181, 0, 158, 42, 89, 180, 0, 155, 4, 100, 181, 0, 155, 42, 180, 0, 155, 172]
abbrev dktX5_redo_2 : List UInt8 := dkwX5_redo_2 ++ []
def dkwX5_redo_1 : List UInt8 := [42, 180, 0, 158, 46, 42, 180, 0, 43, 42, 180, 0, 158, 46, 182, 0, 161, 42, 89, 180, 0, 158, 4, 96]
abbrev dktX5_redo_1 : List UInt8 := dkwX5_redo_1 ++ dktX5_redo_2
def dkwX5_redo_0 : List UInt8 := [42, 180, 0, 155, 154, 0, 6, 16, 251, 172, 42, 42, 180, 0, 34, 42, 180, 0, 158, 46, 42, 180, 0, 37]
abbrev dktX5_redo_0 : List UInt8 := dkwX5_redo_0 ++ dktX5_redo_1
theorem dksX5_redo_0 : cX5_redo.data.toList.drop 0 = dktX5_redo_0 := by decide +kernel
theorem dksX5_redo_1 : cX5_redo.data.toList.drop 24 = dktX5_redo_1 := dk_seg dksX5_redo_0 24 rfl rfl
theorem dksX5_redo_2 : cX5_redo.data.toList.drop 48 = dktX5_redo_2 := dk_seg dksX5_redo_1 24 rfl rfl
theorem dX5_redo_0 : decode cX5_redo 0 = .ok (.aload_n 0, 1) := dk_42 (dk_at dksX5_redo_0 0 rfl rfl)
theorem dX5_redo_1 : decode cX5_redo 1 = .ok (.getfield 155, 3) := dk_180 0 155 (dk_at dksX5_redo_0 1 rfl rfl)
theorem dX5_redo_4 : decode cX5_redo 4 = .ok (.ifCond .ne 6, 3) := dk_154 0 6 (dk_at dksX5_redo_0 4 rfl rfl)
theorem dX5_redo_7 : decode cX5_redo 7 = .ok (.bipush (-5), 2) := dk_16 251 (dk_at dksX5_redo_0 7 rfl rfl)
theorem dX5_redo_9 : decode cX5_redo 9 = .ok (.ireturn, 1) := dk_172 (dk_at dksX5_redo_0 9 rfl rfl)
theorem dX5_redo_10 : decode cX5_redo 10 = .ok (.aload_n 0, 1) := dk_42 (dk_at dksX5_redo_0 10 rfl rfl)
theorem dX5_redo_11 : decode cX5_redo 11 = .ok (.aload_n 0, 1) := dk_42 (dk_at dksX5_redo_0 11 rfl rfl)
theorem dX5_redo_12 : decode cX5_redo 12 = .ok (.getfield 34, 3) := dk_180 0 34 (dk_at dksX5_redo_0 12 rfl rfl)
theorem dX5_redo_15 : decode cX5_redo 15 = .ok (.aload_n 0, 1) := dk_42 (dk_at dksX5_redo_0 15 rfl rfl)
theorem dX5_redo_16 : decode cX5_redo 16 = .ok (.getfield 158, 3) := dk_180 0 158 (dk_at dksX5_redo_0 16 rfl rfl)
theorem dX5_redo_19 : decode cX5_redo 19 = .ok (.iaload, 1) := dk_46 (dk_at dksX5_redo_0 19 rfl rfl)
theorem dX5_redo_20 : decode cX5_redo 20 = .ok (.aload_n 0, 1) := dk_42 (dk_at dksX5_redo_0 20 rfl rfl)
theorem dX5_redo_21 : decode cX5_redo 21 = .ok (.getfield 37, 3) := dk_180 0 37 (dk_at dksX5_redo_0 21 rfl rfl)
theorem dX5_redo_24 : decode cX5_redo 24 = .ok (.aload_n 0, 1) := dk_42 (dk_at dksX5_redo_1 0 rfl rfl)
theorem dX5_redo_25 : decode cX5_redo 25 = .ok (.getfield 158, 3) := dk_180 0 158 (dk_at dksX5_redo_1 1 rfl rfl)
theorem dX5_redo_28 : decode cX5_redo 28 = .ok (.iaload, 1) := dk_46 (dk_at dksX5_redo_1 4 rfl rfl)
theorem dX5_redo_29 : decode cX5_redo 29 = .ok (.aload_n 0, 1) := dk_42 (dk_at dksX5_redo_1 5 rfl rfl)
theorem dX5_redo_30 : decode cX5_redo 30 = .ok (.getfield 43, 3) := dk_180 0 43 (dk_at dksX5_redo_1 6 rfl rfl)
theorem dX5_redo_33 : decode cX5_redo 33 = .ok (.aload_n 0, 1) := dk_42 (dk_at dksX5_redo_1 9 rfl rfl)
theorem dX5_redo_34 : decode cX5_redo 34 = .ok (.getfield 158, 3) := dk_180 0 158 (dk_at dksX5_redo_1 10 rfl rfl)
theorem dX5_redo_37 : decode cX5_redo 37 = .ok (.iaload, 1) := dk_46 (dk_at dksX5_redo_1 13 rfl rfl)
theorem dX5_redo_38 : decode cX5_redo 38 = .ok (.invokevirtual 161, 3) := dk_182 0 161 (dk_at dksX5_redo_1 14 rfl rfl)
theorem dX5_redo_41 : decode cX5_redo 41 = .ok (.aload_n 0, 1) := dk_42 (dk_at dksX5_redo_1 17 rfl rfl)
theorem dX5_redo_42 : decode cX5_redo 42 = .ok (.dup, 1) := dk_89 (dk_at dksX5_redo_1 18 rfl rfl)
theorem dX5_redo_43 : decode cX5_redo 43 = .ok (.getfield 158, 3) := dk_180 0 158 (dk_at dksX5_redo_1 19 rfl rfl)
theorem dX5_redo_46 : decode cX5_redo 46 = .ok (.iconst 1, 1) := dk_4 (dk_at dksX5_redo_1 22 rfl rfl)
theorem dX5_redo_47 : decode cX5_redo 47 = .ok (.iadd, 1) := dk_96 (dk_at dksX5_redo_1 23 rfl rfl)
theorem dX5_redo_48 : decode cX5_redo 48 = .ok (.putfield 158, 3) := dk_181 0 158 (dk_at dksX5_redo_2 0 rfl rfl)
theorem dX5_redo_51 : decode cX5_redo 51 = .ok (.aload_n 0, 1) := dk_42 (dk_at dksX5_redo_2 3 rfl rfl)
theorem dX5_redo_52 : decode cX5_redo 52 = .ok (.dup, 1) := dk_89 (dk_at dksX5_redo_2 4 rfl rfl)
theorem dX5_redo_53 : decode cX5_redo 53 = .ok (.getfield 155, 3) := dk_180 0 155 (dk_at dksX5_redo_2 5 rfl rfl)
theorem dX5_redo_56 : decode cX5_redo 56 = .ok (.iconst 1, 1) := dk_4 (dk_at dksX5_redo_2 8 rfl rfl)
theorem dX5_redo_57 : decode cX5_redo 57 = .ok (.isub, 1) := dk_100 (dk_at dksX5_redo_2 9 rfl rfl)
theorem dX5_redo_58 : decode cX5_redo 58 = .ok (.putfield 155, 3) := dk_181 0 155 (dk_at dksX5_redo_2 10 rfl rfl)
theorem dX5_redo_61 : decode cX5_redo 61 = .ok (.aload_n 0, 1) := dk_42 (dk_at dksX5_redo_2 13 rfl rfl)
theorem dX5_redo_62 : decode cX5_redo 62 = .ok (.getfield 155, 3) := dk_180 0 155 (dk_at dksX5_redo_2 14 rfl rfl)
theorem dX5_redo_65 : decode cX5_redo 65 = .ok (.ireturn, 1) := dk_172 (dk_at dksX5_redo_2 17 rfl rfl)
abbrev cX5_mend : ByteArray := prog_25_method_22_code
def yX5_mend : MethodName := ⟨RX5, "mend", "(III)I"⟩
def dkwX5_mend_3 : List UInt8 := [167, 0, 4, 2, 172]
abbrev dktX5_mend_3 : List UInt8 := dkwX5_mend_3 ++ []
def dkwX5_mend_2 : List UInt8 := [184, 0, 148, 153, 0, 23, 29, 3, 16, 9, 184, 0, 114, 153, 0, 13, 42, 4, 27, 29, 182, 0, 165]
abbrev dktX5_mend_2 : List UInt8 := dkwX5_mend_2 ++ dktX5_mend_3
def dkwX5_mend_1 : List UInt8 := [184, 0, 114, 153, 0, 13, 42, 3, 27, 29, 182, 0, 165, 167, 0, 4, 2, 172, 28, 4, 160, 0, 30, 27]
abbrev dktX5_mend_1 : List UInt8 := dkwX5_mend_1 ++ dktX5_mend_2
def dkwX5_mend_0 : List UInt8 := [28, 154, 0, 40, 42, 27, 182, 0, 135, 153, 0, 30, 29, 42, 180, 0, 7, 27, 46, 4, 96, 16, 100]
abbrev dktX5_mend_0 : List UInt8 := dkwX5_mend_0 ++ dktX5_mend_1
theorem dksX5_mend_0 : cX5_mend.data.toList.drop 0 = dktX5_mend_0 := by decide +kernel
theorem dksX5_mend_1 : cX5_mend.data.toList.drop 23 = dktX5_mend_1 := dk_seg dksX5_mend_0 23 rfl rfl
theorem dksX5_mend_2 : cX5_mend.data.toList.drop 47 = dktX5_mend_2 := dk_seg dksX5_mend_1 24 rfl rfl
theorem dksX5_mend_3 : cX5_mend.data.toList.drop 70 = dktX5_mend_3 := dk_seg dksX5_mend_2 23 rfl rfl
theorem dX5_mend_0 : decode cX5_mend 0 = .ok (.iload_n 2, 1) := dk_28 (dk_at dksX5_mend_0 0 rfl rfl)
theorem dX5_mend_1 : decode cX5_mend 1 = .ok (.ifCond .ne 40, 3) := dk_154 0 40 (dk_at dksX5_mend_0 1 rfl rfl)
theorem dX5_mend_4 : decode cX5_mend 4 = .ok (.aload_n 0, 1) := dk_42 (dk_at dksX5_mend_0 4 rfl rfl)
theorem dX5_mend_5 : decode cX5_mend 5 = .ok (.iload_n 1, 1) := dk_27 (dk_at dksX5_mend_0 5 rfl rfl)
theorem dX5_mend_6 : decode cX5_mend 6 = .ok (.invokevirtual 135, 3) := dk_182 0 135 (dk_at dksX5_mend_0 6 rfl rfl)
theorem dX5_mend_9 : decode cX5_mend 9 = .ok (.ifCond .eq 30, 3) := dk_153 0 30 (dk_at dksX5_mend_0 9 rfl rfl)
theorem dX5_mend_12 : decode cX5_mend 12 = .ok (.iload_n 3, 1) := dk_29 (dk_at dksX5_mend_0 12 rfl rfl)
theorem dX5_mend_13 : decode cX5_mend 13 = .ok (.aload_n 0, 1) := dk_42 (dk_at dksX5_mend_0 13 rfl rfl)
theorem dX5_mend_14 : decode cX5_mend 14 = .ok (.getfield 7, 3) := dk_180 0 7 (dk_at dksX5_mend_0 14 rfl rfl)
theorem dX5_mend_17 : decode cX5_mend 17 = .ok (.iload_n 1, 1) := dk_27 (dk_at dksX5_mend_0 17 rfl rfl)
theorem dX5_mend_18 : decode cX5_mend 18 = .ok (.iaload, 1) := dk_46 (dk_at dksX5_mend_0 18 rfl rfl)
theorem dX5_mend_19 : decode cX5_mend 19 = .ok (.iconst 1, 1) := dk_4 (dk_at dksX5_mend_0 19 rfl rfl)
theorem dX5_mend_20 : decode cX5_mend 20 = .ok (.iadd, 1) := dk_96 (dk_at dksX5_mend_0 20 rfl rfl)
theorem dX5_mend_21 : decode cX5_mend 21 = .ok (.bipush 100, 2) := dk_16 100 (dk_at dksX5_mend_0 21 rfl rfl)
theorem dX5_mend_23 : decode cX5_mend 23 = .ok (.invokestatic 114, 3) := dk_184 0 114 (dk_at dksX5_mend_1 0 rfl rfl)
theorem dX5_mend_26 : decode cX5_mend 26 = .ok (.ifCond .eq 13, 3) := dk_153 0 13 (dk_at dksX5_mend_1 3 rfl rfl)
theorem dX5_mend_29 : decode cX5_mend 29 = .ok (.aload_n 0, 1) := dk_42 (dk_at dksX5_mend_1 6 rfl rfl)
theorem dX5_mend_30 : decode cX5_mend 30 = .ok (.iconst 0, 1) := dk_3 (dk_at dksX5_mend_1 7 rfl rfl)
theorem dX5_mend_31 : decode cX5_mend 31 = .ok (.iload_n 1, 1) := dk_27 (dk_at dksX5_mend_1 8 rfl rfl)
theorem dX5_mend_32 : decode cX5_mend 32 = .ok (.iload_n 3, 1) := dk_29 (dk_at dksX5_mend_1 9 rfl rfl)
theorem dX5_mend_33 : decode cX5_mend 33 = .ok (.invokevirtual 165, 3) := dk_182 0 165 (dk_at dksX5_mend_1 10 rfl rfl)
theorem dX5_mend_36 : decode cX5_mend 36 = .ok (.goto 4, 3) := dk_167 0 4 (dk_at dksX5_mend_1 13 rfl rfl)
theorem dX5_mend_39 : decode cX5_mend 39 = .ok (.iconst (-1), 1) := dk_2 (dk_at dksX5_mend_1 16 rfl rfl)
theorem dX5_mend_40 : decode cX5_mend 40 = .ok (.ireturn, 1) := dk_172 (dk_at dksX5_mend_1 17 rfl rfl)
theorem dX5_mend_41 : decode cX5_mend 41 = .ok (.iload_n 2, 1) := dk_28 (dk_at dksX5_mend_1 18 rfl rfl)
theorem dX5_mend_42 : decode cX5_mend 42 = .ok (.iconst 1, 1) := dk_4 (dk_at dksX5_mend_1 19 rfl rfl)
theorem dX5_mend_43 : decode cX5_mend 43 = .ok (.if_icmp .ne 30, 3) := dk_160 0 30 (dk_at dksX5_mend_1 20 rfl rfl)
theorem dX5_mend_46 : decode cX5_mend 46 = .ok (.iload_n 1, 1) := dk_27 (dk_at dksX5_mend_1 23 rfl rfl)
theorem dX5_mend_47 : decode cX5_mend 47 = .ok (.invokestatic 148, 3) := dk_184 0 148 (dk_at dksX5_mend_2 0 rfl rfl)
theorem dX5_mend_50 : decode cX5_mend 50 = .ok (.ifCond .eq 23, 3) := dk_153 0 23 (dk_at dksX5_mend_2 3 rfl rfl)
theorem dX5_mend_53 : decode cX5_mend 53 = .ok (.iload_n 3, 1) := dk_29 (dk_at dksX5_mend_2 6 rfl rfl)
theorem dX5_mend_54 : decode cX5_mend 54 = .ok (.iconst 0, 1) := dk_3 (dk_at dksX5_mend_2 7 rfl rfl)
theorem dX5_mend_55 : decode cX5_mend 55 = .ok (.bipush 9, 2) := dk_16 9 (dk_at dksX5_mend_2 8 rfl rfl)
theorem dX5_mend_57 : decode cX5_mend 57 = .ok (.invokestatic 114, 3) := dk_184 0 114 (dk_at dksX5_mend_2 10 rfl rfl)
theorem dX5_mend_60 : decode cX5_mend 60 = .ok (.ifCond .eq 13, 3) := dk_153 0 13 (dk_at dksX5_mend_2 13 rfl rfl)
theorem dX5_mend_63 : decode cX5_mend 63 = .ok (.aload_n 0, 1) := dk_42 (dk_at dksX5_mend_2 16 rfl rfl)
theorem dX5_mend_64 : decode cX5_mend 64 = .ok (.iconst 1, 1) := dk_4 (dk_at dksX5_mend_2 17 rfl rfl)
theorem dX5_mend_65 : decode cX5_mend 65 = .ok (.iload_n 1, 1) := dk_27 (dk_at dksX5_mend_2 18 rfl rfl)
theorem dX5_mend_66 : decode cX5_mend 66 = .ok (.iload_n 3, 1) := dk_29 (dk_at dksX5_mend_2 19 rfl rfl)
theorem dX5_mend_67 : decode cX5_mend 67 = .ok (.invokevirtual 165, 3) := dk_182 0 165 (dk_at dksX5_mend_2 20 rfl rfl)
theorem dX5_mend_70 : decode cX5_mend 70 = .ok (.goto 4, 3) := dk_167 0 4 (dk_at dksX5_mend_3 0 rfl rfl)
theorem dX5_mend_73 : decode cX5_mend 73 = .ok (.iconst (-1), 1) := dk_2 (dk_at dksX5_mend_3 3 rfl rfl)
theorem dX5_mend_74 : decode cX5_mend 74 = .ok (.ireturn, 1) := dk_172 (dk_at dksX5_mend_3 4 rfl rfl)
abbrev cX5_changes : ByteArray := prog_25_method_19_code
def yX5_changes : MethodName := ⟨RX5, "changes", "(III)I"⟩
def dkwX5_changes_7 : List UInt8 := [180, 0, 158, 4, 96, 181, 0, 158, 42, 27, 28, 29, 182, 0, 161, 21, 4, 172]
abbrev dktX5_changes_7 : List UInt8 := dkwX5_changes_7 ++ []
def dkwX5_changes_6 : List UInt8 := [180, 0, 40, 42, 180, 0, 158, 21, 4, 79, 42, 180, 0, 43, 42, 180, 0, 158, 29, 79, 42, 89]
abbrev dktX5_changes_6 : List UInt8 := dkwX5_changes_6 ++ dktX5_changes_7
def dkwX5_changes_5 : List UInt8 := [181, 0, 158, 42, 180, 0, 34, 42, 180, 0, 158, 27, 79, 42, 180, 0, 37, 42, 180, 0, 158, 28, 79, 42]
abbrev dktX5_changes_5 : List UInt8 := dkwX5_changes_5 ++ dktX5_changes_6
def dkwX5_changes_4 : List UInt8 := [4, 100, 42, 180, 0, 43, 21, 5, 46, 79, 132, 5, 1, 167, 255, 182, 42, 89, 180, 0, 158, 4, 100]
abbrev dktX5_changes_4 : List UInt8 := dkwX5_changes_4 ++ dktX5_changes_5
def dkwX5_changes_3 : List UInt8 := [46, 79, 42, 180, 0, 40, 21, 5, 4, 100, 42, 180, 0, 40, 21, 5, 46, 79, 42, 180, 0, 43, 21, 5]
abbrev dktX5_changes_3 : List UInt8 := dkwX5_changes_3 ++ dktX5_changes_4
def dkwX5_changes_2 : List UInt8 := [4, 100, 42, 180, 0, 34, 21, 5, 46, 79, 42, 180, 0, 37, 21, 5, 4, 100, 42, 180, 0, 37, 21, 5]
abbrev dktX5_changes_2 : List UInt8 := dkwX5_changes_2 ++ dktX5_changes_3
def dkwX5_changes_1 : List UInt8 := [180, 0, 158, 16, 40, 160, 0, 93, 4, 54, 5, 21, 5, 16, 40, 162, 0, 73, 42, 180, 0, 34, 21, 5]
abbrev dktX5_changes_1 : List UInt8 := dkwX5_changes_1 ++ dktX5_changes_2
def dkwX5_changes_0 : List UInt8 := [42, 27, 28, 182, 0, 151, 54, 4, 21, 4, 29, 160, 0, 6, 21, 4, 172, 42, 3, 181, 0, 155, 42]
abbrev dktX5_changes_0 : List UInt8 := dkwX5_changes_0 ++ dktX5_changes_1
theorem dksX5_changes_0 : cX5_changes.data.toList.drop 0 = dktX5_changes_0 := by decide +kernel
theorem dksX5_changes_1 : cX5_changes.data.toList.drop 23 = dktX5_changes_1 := dk_seg dksX5_changes_0 23 rfl rfl
theorem dksX5_changes_2 : cX5_changes.data.toList.drop 47 = dktX5_changes_2 := dk_seg dksX5_changes_1 24 rfl rfl
theorem dksX5_changes_3 : cX5_changes.data.toList.drop 71 = dktX5_changes_3 := dk_seg dksX5_changes_2 24 rfl rfl
theorem dksX5_changes_4 : cX5_changes.data.toList.drop 95 = dktX5_changes_4 := dk_seg dksX5_changes_3 24 rfl rfl
theorem dksX5_changes_5 : cX5_changes.data.toList.drop 118 = dktX5_changes_5 := dk_seg dksX5_changes_4 23 rfl rfl
theorem dksX5_changes_6 : cX5_changes.data.toList.drop 142 = dktX5_changes_6 := dk_seg dksX5_changes_5 24 rfl rfl
theorem dksX5_changes_7 : cX5_changes.data.toList.drop 164 = dktX5_changes_7 := dk_seg dksX5_changes_6 22 rfl rfl
theorem dX5_changes_0 : decode cX5_changes 0 = .ok (.aload_n 0, 1) := dk_42 (dk_at dksX5_changes_0 0 rfl rfl)
theorem dX5_changes_1 : decode cX5_changes 1 = .ok (.iload_n 1, 1) := dk_27 (dk_at dksX5_changes_0 1 rfl rfl)
theorem dX5_changes_2 : decode cX5_changes 2 = .ok (.iload_n 2, 1) := dk_28 (dk_at dksX5_changes_0 2 rfl rfl)
theorem dX5_changes_3 : decode cX5_changes 3 = .ok (.invokevirtual 151, 3) := dk_182 0 151 (dk_at dksX5_changes_0 3 rfl rfl)
theorem dX5_changes_6 : decode cX5_changes 6 = .ok (.istore 4, 2) := dk_54 4 (dk_at dksX5_changes_0 6 rfl rfl)
theorem dX5_changes_8 : decode cX5_changes 8 = .ok (.iload 4, 2) := dk_21 4 (dk_at dksX5_changes_0 8 rfl rfl)
theorem dX5_changes_10 : decode cX5_changes 10 = .ok (.iload_n 3, 1) := dk_29 (dk_at dksX5_changes_0 10 rfl rfl)
theorem dX5_changes_11 : decode cX5_changes 11 = .ok (.if_icmp .ne 6, 3) := dk_160 0 6 (dk_at dksX5_changes_0 11 rfl rfl)
theorem dX5_changes_14 : decode cX5_changes 14 = .ok (.iload 4, 2) := dk_21 4 (dk_at dksX5_changes_0 14 rfl rfl)
theorem dX5_changes_16 : decode cX5_changes 16 = .ok (.ireturn, 1) := dk_172 (dk_at dksX5_changes_0 16 rfl rfl)
theorem dX5_changes_17 : decode cX5_changes 17 = .ok (.aload_n 0, 1) := dk_42 (dk_at dksX5_changes_0 17 rfl rfl)
theorem dX5_changes_18 : decode cX5_changes 18 = .ok (.iconst 0, 1) := dk_3 (dk_at dksX5_changes_0 18 rfl rfl)
theorem dX5_changes_19 : decode cX5_changes 19 = .ok (.putfield 155, 3) := dk_181 0 155 (dk_at dksX5_changes_0 19 rfl rfl)
theorem dX5_changes_22 : decode cX5_changes 22 = .ok (.aload_n 0, 1) := dk_42 (dk_at dksX5_changes_0 22 rfl rfl)
theorem dX5_changes_23 : decode cX5_changes 23 = .ok (.getfield 158, 3) := dk_180 0 158 (dk_at dksX5_changes_1 0 rfl rfl)
theorem dX5_changes_26 : decode cX5_changes 26 = .ok (.bipush 40, 2) := dk_16 40 (dk_at dksX5_changes_1 3 rfl rfl)
theorem dX5_changes_28 : decode cX5_changes 28 = .ok (.if_icmp .ne 93, 3) := dk_160 0 93 (dk_at dksX5_changes_1 5 rfl rfl)
theorem dX5_changes_31 : decode cX5_changes 31 = .ok (.iconst 1, 1) := dk_4 (dk_at dksX5_changes_1 8 rfl rfl)
theorem dX5_changes_32 : decode cX5_changes 32 = .ok (.istore 5, 2) := dk_54 5 (dk_at dksX5_changes_1 9 rfl rfl)
theorem dX5_changes_34 : decode cX5_changes 34 = .ok (.iload 5, 2) := dk_21 5 (dk_at dksX5_changes_1 11 rfl rfl)
theorem dX5_changes_36 : decode cX5_changes 36 = .ok (.bipush 40, 2) := dk_16 40 (dk_at dksX5_changes_1 13 rfl rfl)
theorem dX5_changes_38 : decode cX5_changes 38 = .ok (.if_icmp .ge 73, 3) := dk_162 0 73 (dk_at dksX5_changes_1 15 rfl rfl)
theorem dX5_changes_41 : decode cX5_changes 41 = .ok (.aload_n 0, 1) := dk_42 (dk_at dksX5_changes_1 18 rfl rfl)
theorem dX5_changes_42 : decode cX5_changes 42 = .ok (.getfield 34, 3) := dk_180 0 34 (dk_at dksX5_changes_1 19 rfl rfl)
theorem dX5_changes_45 : decode cX5_changes 45 = .ok (.iload 5, 2) := dk_21 5 (dk_at dksX5_changes_1 22 rfl rfl)
theorem dX5_changes_47 : decode cX5_changes 47 = .ok (.iconst 1, 1) := dk_4 (dk_at dksX5_changes_2 0 rfl rfl)
theorem dX5_changes_48 : decode cX5_changes 48 = .ok (.isub, 1) := dk_100 (dk_at dksX5_changes_2 1 rfl rfl)
theorem dX5_changes_49 : decode cX5_changes 49 = .ok (.aload_n 0, 1) := dk_42 (dk_at dksX5_changes_2 2 rfl rfl)
theorem dX5_changes_50 : decode cX5_changes 50 = .ok (.getfield 34, 3) := dk_180 0 34 (dk_at dksX5_changes_2 3 rfl rfl)
theorem dX5_changes_53 : decode cX5_changes 53 = .ok (.iload 5, 2) := dk_21 5 (dk_at dksX5_changes_2 6 rfl rfl)
theorem dX5_changes_55 : decode cX5_changes 55 = .ok (.iaload, 1) := dk_46 (dk_at dksX5_changes_2 8 rfl rfl)
theorem dX5_changes_56 : decode cX5_changes 56 = .ok (.iastore, 1) := dk_79 (dk_at dksX5_changes_2 9 rfl rfl)
theorem dX5_changes_57 : decode cX5_changes 57 = .ok (.aload_n 0, 1) := dk_42 (dk_at dksX5_changes_2 10 rfl rfl)
theorem dX5_changes_58 : decode cX5_changes 58 = .ok (.getfield 37, 3) := dk_180 0 37 (dk_at dksX5_changes_2 11 rfl rfl)
theorem dX5_changes_61 : decode cX5_changes 61 = .ok (.iload 5, 2) := dk_21 5 (dk_at dksX5_changes_2 14 rfl rfl)
theorem dX5_changes_63 : decode cX5_changes 63 = .ok (.iconst 1, 1) := dk_4 (dk_at dksX5_changes_2 16 rfl rfl)
theorem dX5_changes_64 : decode cX5_changes 64 = .ok (.isub, 1) := dk_100 (dk_at dksX5_changes_2 17 rfl rfl)
theorem dX5_changes_65 : decode cX5_changes 65 = .ok (.aload_n 0, 1) := dk_42 (dk_at dksX5_changes_2 18 rfl rfl)
theorem dX5_changes_66 : decode cX5_changes 66 = .ok (.getfield 37, 3) := dk_180 0 37 (dk_at dksX5_changes_2 19 rfl rfl)
theorem dX5_changes_69 : decode cX5_changes 69 = .ok (.iload 5, 2) := dk_21 5 (dk_at dksX5_changes_2 22 rfl rfl)
theorem dX5_changes_71 : decode cX5_changes 71 = .ok (.iaload, 1) := dk_46 (dk_at dksX5_changes_3 0 rfl rfl)
theorem dX5_changes_72 : decode cX5_changes 72 = .ok (.iastore, 1) := dk_79 (dk_at dksX5_changes_3 1 rfl rfl)
theorem dX5_changes_73 : decode cX5_changes 73 = .ok (.aload_n 0, 1) := dk_42 (dk_at dksX5_changes_3 2 rfl rfl)
theorem dX5_changes_74 : decode cX5_changes 74 = .ok (.getfield 40, 3) := dk_180 0 40 (dk_at dksX5_changes_3 3 rfl rfl)
theorem dX5_changes_77 : decode cX5_changes 77 = .ok (.iload 5, 2) := dk_21 5 (dk_at dksX5_changes_3 6 rfl rfl)
theorem dX5_changes_79 : decode cX5_changes 79 = .ok (.iconst 1, 1) := dk_4 (dk_at dksX5_changes_3 8 rfl rfl)
theorem dX5_changes_80 : decode cX5_changes 80 = .ok (.isub, 1) := dk_100 (dk_at dksX5_changes_3 9 rfl rfl)
theorem dX5_changes_81 : decode cX5_changes 81 = .ok (.aload_n 0, 1) := dk_42 (dk_at dksX5_changes_3 10 rfl rfl)
theorem dX5_changes_82 : decode cX5_changes 82 = .ok (.getfield 40, 3) := dk_180 0 40 (dk_at dksX5_changes_3 11 rfl rfl)
theorem dX5_changes_85 : decode cX5_changes 85 = .ok (.iload 5, 2) := dk_21 5 (dk_at dksX5_changes_3 14 rfl rfl)
theorem dX5_changes_87 : decode cX5_changes 87 = .ok (.iaload, 1) := dk_46 (dk_at dksX5_changes_3 16 rfl rfl)
theorem dX5_changes_88 : decode cX5_changes 88 = .ok (.iastore, 1) := dk_79 (dk_at dksX5_changes_3 17 rfl rfl)
theorem dX5_changes_89 : decode cX5_changes 89 = .ok (.aload_n 0, 1) := dk_42 (dk_at dksX5_changes_3 18 rfl rfl)
theorem dX5_changes_90 : decode cX5_changes 90 = .ok (.getfield 43, 3) := dk_180 0 43 (dk_at dksX5_changes_3 19 rfl rfl)
theorem dX5_changes_93 : decode cX5_changes 93 = .ok (.iload 5, 2) := dk_21 5 (dk_at dksX5_changes_3 22 rfl rfl)
theorem dX5_changes_95 : decode cX5_changes 95 = .ok (.iconst 1, 1) := dk_4 (dk_at dksX5_changes_4 0 rfl rfl)
theorem dX5_changes_96 : decode cX5_changes 96 = .ok (.isub, 1) := dk_100 (dk_at dksX5_changes_4 1 rfl rfl)
theorem dX5_changes_97 : decode cX5_changes 97 = .ok (.aload_n 0, 1) := dk_42 (dk_at dksX5_changes_4 2 rfl rfl)
theorem dX5_changes_98 : decode cX5_changes 98 = .ok (.getfield 43, 3) := dk_180 0 43 (dk_at dksX5_changes_4 3 rfl rfl)
theorem dX5_changes_101 : decode cX5_changes 101 = .ok (.iload 5, 2) := dk_21 5 (dk_at dksX5_changes_4 6 rfl rfl)
theorem dX5_changes_103 : decode cX5_changes 103 = .ok (.iaload, 1) := dk_46 (dk_at dksX5_changes_4 8 rfl rfl)
theorem dX5_changes_104 : decode cX5_changes 104 = .ok (.iastore, 1) := dk_79 (dk_at dksX5_changes_4 9 rfl rfl)
theorem dX5_changes_105 : decode cX5_changes 105 = .ok (.iinc 5 1, 3) := dk_132 5 1 (dk_at dksX5_changes_4 10 rfl rfl)
theorem dX5_changes_108 : decode cX5_changes 108 = .ok (.goto (-74), 3) := dk_167 255 182 (dk_at dksX5_changes_4 13 rfl rfl)
theorem dX5_changes_111 : decode cX5_changes 111 = .ok (.aload_n 0, 1) := dk_42 (dk_at dksX5_changes_4 16 rfl rfl)
theorem dX5_changes_112 : decode cX5_changes 112 = .ok (.dup, 1) := dk_89 (dk_at dksX5_changes_4 17 rfl rfl)
theorem dX5_changes_113 : decode cX5_changes 113 = .ok (.getfield 158, 3) := dk_180 0 158 (dk_at dksX5_changes_4 18 rfl rfl)
theorem dX5_changes_116 : decode cX5_changes 116 = .ok (.iconst 1, 1) := dk_4 (dk_at dksX5_changes_4 21 rfl rfl)
theorem dX5_changes_117 : decode cX5_changes 117 = .ok (.isub, 1) := dk_100 (dk_at dksX5_changes_4 22 rfl rfl)
theorem dX5_changes_118 : decode cX5_changes 118 = .ok (.putfield 158, 3) := dk_181 0 158 (dk_at dksX5_changes_5 0 rfl rfl)
theorem dX5_changes_121 : decode cX5_changes 121 = .ok (.aload_n 0, 1) := dk_42 (dk_at dksX5_changes_5 3 rfl rfl)
theorem dX5_changes_122 : decode cX5_changes 122 = .ok (.getfield 34, 3) := dk_180 0 34 (dk_at dksX5_changes_5 4 rfl rfl)
theorem dX5_changes_125 : decode cX5_changes 125 = .ok (.aload_n 0, 1) := dk_42 (dk_at dksX5_changes_5 7 rfl rfl)
theorem dX5_changes_126 : decode cX5_changes 126 = .ok (.getfield 158, 3) := dk_180 0 158 (dk_at dksX5_changes_5 8 rfl rfl)
theorem dX5_changes_129 : decode cX5_changes 129 = .ok (.iload_n 1, 1) := dk_27 (dk_at dksX5_changes_5 11 rfl rfl)
theorem dX5_changes_130 : decode cX5_changes 130 = .ok (.iastore, 1) := dk_79 (dk_at dksX5_changes_5 12 rfl rfl)
theorem dX5_changes_131 : decode cX5_changes 131 = .ok (.aload_n 0, 1) := dk_42 (dk_at dksX5_changes_5 13 rfl rfl)
theorem dX5_changes_132 : decode cX5_changes 132 = .ok (.getfield 37, 3) := dk_180 0 37 (dk_at dksX5_changes_5 14 rfl rfl)
theorem dX5_changes_135 : decode cX5_changes 135 = .ok (.aload_n 0, 1) := dk_42 (dk_at dksX5_changes_5 17 rfl rfl)
theorem dX5_changes_136 : decode cX5_changes 136 = .ok (.getfield 158, 3) := dk_180 0 158 (dk_at dksX5_changes_5 18 rfl rfl)
theorem dX5_changes_139 : decode cX5_changes 139 = .ok (.iload_n 2, 1) := dk_28 (dk_at dksX5_changes_5 21 rfl rfl)
theorem dX5_changes_140 : decode cX5_changes 140 = .ok (.iastore, 1) := dk_79 (dk_at dksX5_changes_5 22 rfl rfl)
theorem dX5_changes_141 : decode cX5_changes 141 = .ok (.aload_n 0, 1) := dk_42 (dk_at dksX5_changes_5 23 rfl rfl)
theorem dX5_changes_142 : decode cX5_changes 142 = .ok (.getfield 40, 3) := dk_180 0 40 (dk_at dksX5_changes_6 0 rfl rfl)
theorem dX5_changes_145 : decode cX5_changes 145 = .ok (.aload_n 0, 1) := dk_42 (dk_at dksX5_changes_6 3 rfl rfl)
theorem dX5_changes_146 : decode cX5_changes 146 = .ok (.getfield 158, 3) := dk_180 0 158 (dk_at dksX5_changes_6 4 rfl rfl)
theorem dX5_changes_149 : decode cX5_changes 149 = .ok (.iload 4, 2) := dk_21 4 (dk_at dksX5_changes_6 7 rfl rfl)
theorem dX5_changes_151 : decode cX5_changes 151 = .ok (.iastore, 1) := dk_79 (dk_at dksX5_changes_6 9 rfl rfl)
theorem dX5_changes_152 : decode cX5_changes 152 = .ok (.aload_n 0, 1) := dk_42 (dk_at dksX5_changes_6 10 rfl rfl)
theorem dX5_changes_153 : decode cX5_changes 153 = .ok (.getfield 43, 3) := dk_180 0 43 (dk_at dksX5_changes_6 11 rfl rfl)
theorem dX5_changes_156 : decode cX5_changes 156 = .ok (.aload_n 0, 1) := dk_42 (dk_at dksX5_changes_6 14 rfl rfl)
theorem dX5_changes_157 : decode cX5_changes 157 = .ok (.getfield 158, 3) := dk_180 0 158 (dk_at dksX5_changes_6 15 rfl rfl)
theorem dX5_changes_160 : decode cX5_changes 160 = .ok (.iload_n 3, 1) := dk_29 (dk_at dksX5_changes_6 18 rfl rfl)
theorem dX5_changes_161 : decode cX5_changes 161 = .ok (.iastore, 1) := dk_79 (dk_at dksX5_changes_6 19 rfl rfl)
theorem dX5_changes_162 : decode cX5_changes 162 = .ok (.aload_n 0, 1) := dk_42 (dk_at dksX5_changes_6 20 rfl rfl)
theorem dX5_changes_163 : decode cX5_changes 163 = .ok (.dup, 1) := dk_89 (dk_at dksX5_changes_6 21 rfl rfl)
theorem dX5_changes_164 : decode cX5_changes 164 = .ok (.getfield 158, 3) := dk_180 0 158 (dk_at dksX5_changes_7 0 rfl rfl)
theorem dX5_changes_167 : decode cX5_changes 167 = .ok (.iconst 1, 1) := dk_4 (dk_at dksX5_changes_7 3 rfl rfl)
theorem dX5_changes_168 : decode cX5_changes 168 = .ok (.iadd, 1) := dk_96 (dk_at dksX5_changes_7 4 rfl rfl)
theorem dX5_changes_169 : decode cX5_changes 169 = .ok (.putfield 158, 3) := dk_181 0 158 (dk_at dksX5_changes_7 5 rfl rfl)
theorem dX5_changes_172 : decode cX5_changes 172 = .ok (.aload_n 0, 1) := dk_42 (dk_at dksX5_changes_7 8 rfl rfl)
theorem dX5_changes_173 : decode cX5_changes 173 = .ok (.iload_n 1, 1) := dk_27 (dk_at dksX5_changes_7 9 rfl rfl)
theorem dX5_changes_174 : decode cX5_changes 174 = .ok (.iload_n 2, 1) := dk_28 (dk_at dksX5_changes_7 10 rfl rfl)
theorem dX5_changes_175 : decode cX5_changes 175 = .ok (.iload_n 3, 1) := dk_29 (dk_at dksX5_changes_7 11 rfl rfl)
theorem dX5_changes_176 : decode cX5_changes 176 = .ok (.invokevirtual 161, 3) := dk_182 0 161 (dk_at dksX5_changes_7 12 rfl rfl)
theorem dX5_changes_179 : decode cX5_changes 179 = .ok (.iload 4, 2) := dk_21 4 (dk_at dksX5_changes_7 15 rfl rfl)
theorem dX5_changes_181 : decode cX5_changes 181 = .ok (.ireturn, 1) := dk_172 (dk_at dksX5_changes_7 17 rfl rfl)
abbrev cX5_valueAt : ByteArray := prog_25_method_17_code
def yX5_valueAt : MethodName := ⟨RX5, "valueAt", "(II)I"⟩
def dkwX5_valueAt_0 : List UInt8 := [27, 154, 0, 12, 42, 180, 0, 13, 28, 46, 167, 0, 9, 42, 180, 0, 28, 28, 46, 172]
abbrev dktX5_valueAt_0 : List UInt8 := dkwX5_valueAt_0 ++ []
theorem dksX5_valueAt_0 : cX5_valueAt.data.toList.drop 0 = dktX5_valueAt_0 := by decide +kernel
theorem dX5_valueAt_0 : decode cX5_valueAt 0 = .ok (.iload_n 1, 1) := dk_27 (dk_at dksX5_valueAt_0 0 rfl rfl)
theorem dX5_valueAt_1 : decode cX5_valueAt 1 = .ok (.ifCond .ne 12, 3) := dk_154 0 12 (dk_at dksX5_valueAt_0 1 rfl rfl)
theorem dX5_valueAt_4 : decode cX5_valueAt 4 = .ok (.aload_n 0, 1) := dk_42 (dk_at dksX5_valueAt_0 4 rfl rfl)
theorem dX5_valueAt_5 : decode cX5_valueAt 5 = .ok (.getfield 13, 3) := dk_180 0 13 (dk_at dksX5_valueAt_0 5 rfl rfl)
theorem dX5_valueAt_8 : decode cX5_valueAt 8 = .ok (.iload_n 2, 1) := dk_28 (dk_at dksX5_valueAt_0 8 rfl rfl)
theorem dX5_valueAt_9 : decode cX5_valueAt 9 = .ok (.iaload, 1) := dk_46 (dk_at dksX5_valueAt_0 9 rfl rfl)
theorem dX5_valueAt_10 : decode cX5_valueAt 10 = .ok (.goto 9, 3) := dk_167 0 9 (dk_at dksX5_valueAt_0 10 rfl rfl)
theorem dX5_valueAt_13 : decode cX5_valueAt 13 = .ok (.aload_n 0, 1) := dk_42 (dk_at dksX5_valueAt_0 13 rfl rfl)
theorem dX5_valueAt_14 : decode cX5_valueAt 14 = .ok (.getfield 28, 3) := dk_180 0 28 (dk_at dksX5_valueAt_0 14 rfl rfl)
theorem dX5_valueAt_17 : decode cX5_valueAt 17 = .ok (.iload_n 2, 1) := dk_28 (dk_at dksX5_valueAt_0 17 rfl rfl)
theorem dX5_valueAt_18 : decode cX5_valueAt 18 = .ok (.iaload, 1) := dk_46 (dk_at dksX5_valueAt_0 18 rfl rfl)
theorem dX5_valueAt_19 : decode cX5_valueAt 19 = .ok (.ireturn, 1) := dk_172 (dk_at dksX5_valueAt_0 19 rfl rfl)
abbrev cX5_of : ByteArray := prog_25_method_28_code
def yX5_of : MethodName := ⟨RX5, "of", "(II)I"⟩
def dkwX5_of_8 : List UInt8 := [167, 0, 16, 42, 27, 182, 0, 178, 153, 0, 7, 4, 167, 0, 4, 3, 172]
abbrev dktX5_of_8 : List UInt8 := dkwX5_of_8 ++ []
def dkwX5_of_7 : List UInt8 := [104, 42, 180, 0, 22, 27, 46, 96, 167, 0, 31, 28, 16, 21, 160, 0, 12, 42, 180, 0, 25, 27, 46]
abbrev dktX5_of_7 : List UInt8 := dkwX5_of_7 ++ dktX5_of_8
def dkwX5_of_6 : List UInt8 := [100, 184, 0, 114, 154, 0, 6, 18, 147, 172, 28, 16, 20, 160, 0, 22, 16, 100, 42, 180, 0, 19, 27, 46]
abbrev dktX5_of_6 : List UInt8 := dkwX5_of_6 ++ dktX5_of_7
def dkwX5_of_5 : List UInt8 := [42, 27, 182, 0, 175, 172, 28, 16, 20, 16, 22, 184, 0, 114, 153, 0, 17, 27, 3, 42, 180, 0, 141, 4]
abbrev dktX5_of_5 : List UInt8 := dkwX5_of_5 ++ dktX5_of_6
def dkwX5_of_4 : List UInt8 := [42, 180, 0, 28, 27, 46, 167, 0, 23, 28, 16, 11, 160, 0, 12, 42, 180, 0, 31, 27, 46, 167, 0, 8]
abbrev dktX5_of_4 : List UInt8 := dkwX5_of_4 ++ dktX5_of_5
def dkwX5_of_3 : List UInt8 := [184, 0, 114, 153, 0, 51, 27, 184, 0, 148, 154, 0, 8, 18, 147, 167, 0, 38, 28, 16, 10, 160, 0, 12]
abbrev dktX5_of_3 : List UInt8 := dkwX5_of_3 ++ dktX5_of_4
def dkwX5_of_2 : List UInt8 := [5, 160, 0, 12, 42, 180, 0, 16, 27, 46, 167, 0, 8, 42, 27, 182, 0, 171, 172, 28, 16, 10, 16, 12]
abbrev dktX5_of_2 : List UInt8 := dkwX5_of_2 ++ dktX5_of_3
def dkwX5_of_1 : List UInt8 := [42, 180, 0, 7, 27, 46, 167, 0, 36, 28, 4, 160, 0, 12, 42, 180, 0, 13, 27, 46, 167, 0, 22, 28]
abbrev dktX5_of_1 : List UInt8 := dkwX5_of_1 ++ dktX5_of_2
def dkwX5_of_0 : List UInt8 := [28, 3, 6, 184, 0, 114, 153, 0, 61, 42, 27, 182, 0, 135, 154, 0, 6, 18, 147, 172, 28, 154, 0, 12]
abbrev dktX5_of_0 : List UInt8 := dkwX5_of_0 ++ dktX5_of_1
theorem dksX5_of_0 : cX5_of.data.toList.drop 0 = dktX5_of_0 := by decide +kernel
theorem dksX5_of_1 : cX5_of.data.toList.drop 24 = dktX5_of_1 := dk_seg dksX5_of_0 24 rfl rfl
theorem dksX5_of_2 : cX5_of.data.toList.drop 48 = dktX5_of_2 := dk_seg dksX5_of_1 24 rfl rfl
theorem dksX5_of_3 : cX5_of.data.toList.drop 72 = dktX5_of_3 := dk_seg dksX5_of_2 24 rfl rfl
theorem dksX5_of_4 : cX5_of.data.toList.drop 96 = dktX5_of_4 := dk_seg dksX5_of_3 24 rfl rfl
theorem dksX5_of_5 : cX5_of.data.toList.drop 120 = dktX5_of_5 := dk_seg dksX5_of_4 24 rfl rfl
theorem dksX5_of_6 : cX5_of.data.toList.drop 144 = dktX5_of_6 := dk_seg dksX5_of_5 24 rfl rfl
theorem dksX5_of_7 : cX5_of.data.toList.drop 168 = dktX5_of_7 := dk_seg dksX5_of_6 24 rfl rfl
theorem dksX5_of_8 : cX5_of.data.toList.drop 191 = dktX5_of_8 := dk_seg dksX5_of_7 23 rfl rfl
theorem dX5_of_0 : decode cX5_of 0 = .ok (.iload_n 2, 1) := dk_28 (dk_at dksX5_of_0 0 rfl rfl)
theorem dX5_of_1 : decode cX5_of 1 = .ok (.iconst 0, 1) := dk_3 (dk_at dksX5_of_0 1 rfl rfl)
theorem dX5_of_2 : decode cX5_of 2 = .ok (.iconst 3, 1) := dk_6 (dk_at dksX5_of_0 2 rfl rfl)
theorem dX5_of_3 : decode cX5_of 3 = .ok (.invokestatic 114, 3) := dk_184 0 114 (dk_at dksX5_of_0 3 rfl rfl)
theorem dX5_of_6 : decode cX5_of 6 = .ok (.ifCond .eq 61, 3) := dk_153 0 61 (dk_at dksX5_of_0 6 rfl rfl)
theorem dX5_of_9 : decode cX5_of 9 = .ok (.aload_n 0, 1) := dk_42 (dk_at dksX5_of_0 9 rfl rfl)
theorem dX5_of_10 : decode cX5_of 10 = .ok (.iload_n 1, 1) := dk_27 (dk_at dksX5_of_0 10 rfl rfl)
theorem dX5_of_11 : decode cX5_of 11 = .ok (.invokevirtual 135, 3) := dk_182 0 135 (dk_at dksX5_of_0 11 rfl rfl)
theorem dX5_of_14 : decode cX5_of 14 = .ok (.ifCond .ne 6, 3) := dk_154 0 6 (dk_at dksX5_of_0 14 rfl rfl)
theorem dX5_of_17 : decode cX5_of 17 = .ok (.ldc 147, 2) := dk_18 147 (dk_at dksX5_of_0 17 rfl rfl)
theorem dX5_of_19 : decode cX5_of 19 = .ok (.ireturn, 1) := dk_172 (dk_at dksX5_of_0 19 rfl rfl)
theorem dX5_of_20 : decode cX5_of 20 = .ok (.iload_n 2, 1) := dk_28 (dk_at dksX5_of_0 20 rfl rfl)
theorem dX5_of_21 : decode cX5_of 21 = .ok (.ifCond .ne 12, 3) := dk_154 0 12 (dk_at dksX5_of_0 21 rfl rfl)
theorem dX5_of_24 : decode cX5_of 24 = .ok (.aload_n 0, 1) := dk_42 (dk_at dksX5_of_1 0 rfl rfl)
theorem dX5_of_25 : decode cX5_of 25 = .ok (.getfield 7, 3) := dk_180 0 7 (dk_at dksX5_of_1 1 rfl rfl)
theorem dX5_of_28 : decode cX5_of 28 = .ok (.iload_n 1, 1) := dk_27 (dk_at dksX5_of_1 4 rfl rfl)
theorem dX5_of_29 : decode cX5_of 29 = .ok (.iaload, 1) := dk_46 (dk_at dksX5_of_1 5 rfl rfl)
theorem dX5_of_30 : decode cX5_of 30 = .ok (.goto 36, 3) := dk_167 0 36 (dk_at dksX5_of_1 6 rfl rfl)
theorem dX5_of_33 : decode cX5_of 33 = .ok (.iload_n 2, 1) := dk_28 (dk_at dksX5_of_1 9 rfl rfl)
theorem dX5_of_34 : decode cX5_of 34 = .ok (.iconst 1, 1) := dk_4 (dk_at dksX5_of_1 10 rfl rfl)
theorem dX5_of_35 : decode cX5_of 35 = .ok (.if_icmp .ne 12, 3) := dk_160 0 12 (dk_at dksX5_of_1 11 rfl rfl)
theorem dX5_of_38 : decode cX5_of 38 = .ok (.aload_n 0, 1) := dk_42 (dk_at dksX5_of_1 14 rfl rfl)
theorem dX5_of_39 : decode cX5_of 39 = .ok (.getfield 13, 3) := dk_180 0 13 (dk_at dksX5_of_1 15 rfl rfl)
theorem dX5_of_42 : decode cX5_of 42 = .ok (.iload_n 1, 1) := dk_27 (dk_at dksX5_of_1 18 rfl rfl)
theorem dX5_of_43 : decode cX5_of 43 = .ok (.iaload, 1) := dk_46 (dk_at dksX5_of_1 19 rfl rfl)
theorem dX5_of_44 : decode cX5_of 44 = .ok (.goto 22, 3) := dk_167 0 22 (dk_at dksX5_of_1 20 rfl rfl)
theorem dX5_of_47 : decode cX5_of 47 = .ok (.iload_n 2, 1) := dk_28 (dk_at dksX5_of_1 23 rfl rfl)
theorem dX5_of_48 : decode cX5_of 48 = .ok (.iconst 2, 1) := dk_5 (dk_at dksX5_of_2 0 rfl rfl)
theorem dX5_of_49 : decode cX5_of 49 = .ok (.if_icmp .ne 12, 3) := dk_160 0 12 (dk_at dksX5_of_2 1 rfl rfl)
theorem dX5_of_52 : decode cX5_of 52 = .ok (.aload_n 0, 1) := dk_42 (dk_at dksX5_of_2 4 rfl rfl)
theorem dX5_of_53 : decode cX5_of 53 = .ok (.getfield 16, 3) := dk_180 0 16 (dk_at dksX5_of_2 5 rfl rfl)
theorem dX5_of_56 : decode cX5_of 56 = .ok (.iload_n 1, 1) := dk_27 (dk_at dksX5_of_2 8 rfl rfl)
theorem dX5_of_57 : decode cX5_of 57 = .ok (.iaload, 1) := dk_46 (dk_at dksX5_of_2 9 rfl rfl)
theorem dX5_of_58 : decode cX5_of 58 = .ok (.goto 8, 3) := dk_167 0 8 (dk_at dksX5_of_2 10 rfl rfl)
theorem dX5_of_61 : decode cX5_of 61 = .ok (.aload_n 0, 1) := dk_42 (dk_at dksX5_of_2 13 rfl rfl)
theorem dX5_of_62 : decode cX5_of 62 = .ok (.iload_n 1, 1) := dk_27 (dk_at dksX5_of_2 14 rfl rfl)
theorem dX5_of_63 : decode cX5_of 63 = .ok (.invokevirtual 171, 3) := dk_182 0 171 (dk_at dksX5_of_2 15 rfl rfl)
theorem dX5_of_66 : decode cX5_of 66 = .ok (.ireturn, 1) := dk_172 (dk_at dksX5_of_2 18 rfl rfl)
theorem dX5_of_67 : decode cX5_of 67 = .ok (.iload_n 2, 1) := dk_28 (dk_at dksX5_of_2 19 rfl rfl)
theorem dX5_of_68 : decode cX5_of 68 = .ok (.bipush 10, 2) := dk_16 10 (dk_at dksX5_of_2 20 rfl rfl)
theorem dX5_of_70 : decode cX5_of 70 = .ok (.bipush 12, 2) := dk_16 12 (dk_at dksX5_of_2 22 rfl rfl)
theorem dX5_of_72 : decode cX5_of 72 = .ok (.invokestatic 114, 3) := dk_184 0 114 (dk_at dksX5_of_3 0 rfl rfl)
theorem dX5_of_75 : decode cX5_of 75 = .ok (.ifCond .eq 51, 3) := dk_153 0 51 (dk_at dksX5_of_3 3 rfl rfl)
theorem dX5_of_78 : decode cX5_of 78 = .ok (.iload_n 1, 1) := dk_27 (dk_at dksX5_of_3 6 rfl rfl)
theorem dX5_of_79 : decode cX5_of 79 = .ok (.invokestatic 148, 3) := dk_184 0 148 (dk_at dksX5_of_3 7 rfl rfl)
theorem dX5_of_82 : decode cX5_of 82 = .ok (.ifCond .ne 8, 3) := dk_154 0 8 (dk_at dksX5_of_3 10 rfl rfl)
theorem dX5_of_85 : decode cX5_of 85 = .ok (.ldc 147, 2) := dk_18 147 (dk_at dksX5_of_3 13 rfl rfl)
theorem dX5_of_87 : decode cX5_of 87 = .ok (.goto 38, 3) := dk_167 0 38 (dk_at dksX5_of_3 15 rfl rfl)
theorem dX5_of_90 : decode cX5_of 90 = .ok (.iload_n 2, 1) := dk_28 (dk_at dksX5_of_3 18 rfl rfl)
theorem dX5_of_91 : decode cX5_of 91 = .ok (.bipush 10, 2) := dk_16 10 (dk_at dksX5_of_3 19 rfl rfl)
theorem dX5_of_93 : decode cX5_of 93 = .ok (.if_icmp .ne 12, 3) := dk_160 0 12 (dk_at dksX5_of_3 21 rfl rfl)
theorem dX5_of_96 : decode cX5_of 96 = .ok (.aload_n 0, 1) := dk_42 (dk_at dksX5_of_4 0 rfl rfl)
theorem dX5_of_97 : decode cX5_of 97 = .ok (.getfield 28, 3) := dk_180 0 28 (dk_at dksX5_of_4 1 rfl rfl)
theorem dX5_of_100 : decode cX5_of 100 = .ok (.iload_n 1, 1) := dk_27 (dk_at dksX5_of_4 4 rfl rfl)
theorem dX5_of_101 : decode cX5_of 101 = .ok (.iaload, 1) := dk_46 (dk_at dksX5_of_4 5 rfl rfl)
theorem dX5_of_102 : decode cX5_of 102 = .ok (.goto 23, 3) := dk_167 0 23 (dk_at dksX5_of_4 6 rfl rfl)
theorem dX5_of_105 : decode cX5_of 105 = .ok (.iload_n 2, 1) := dk_28 (dk_at dksX5_of_4 9 rfl rfl)
theorem dX5_of_106 : decode cX5_of 106 = .ok (.bipush 11, 2) := dk_16 11 (dk_at dksX5_of_4 10 rfl rfl)
theorem dX5_of_108 : decode cX5_of 108 = .ok (.if_icmp .ne 12, 3) := dk_160 0 12 (dk_at dksX5_of_4 12 rfl rfl)
theorem dX5_of_111 : decode cX5_of 111 = .ok (.aload_n 0, 1) := dk_42 (dk_at dksX5_of_4 15 rfl rfl)
theorem dX5_of_112 : decode cX5_of 112 = .ok (.getfield 31, 3) := dk_180 0 31 (dk_at dksX5_of_4 16 rfl rfl)
theorem dX5_of_115 : decode cX5_of 115 = .ok (.iload_n 1, 1) := dk_27 (dk_at dksX5_of_4 19 rfl rfl)
theorem dX5_of_116 : decode cX5_of 116 = .ok (.iaload, 1) := dk_46 (dk_at dksX5_of_4 20 rfl rfl)
theorem dX5_of_117 : decode cX5_of 117 = .ok (.goto 8, 3) := dk_167 0 8 (dk_at dksX5_of_4 21 rfl rfl)
theorem dX5_of_120 : decode cX5_of 120 = .ok (.aload_n 0, 1) := dk_42 (dk_at dksX5_of_5 0 rfl rfl)
theorem dX5_of_121 : decode cX5_of 121 = .ok (.iload_n 1, 1) := dk_27 (dk_at dksX5_of_5 1 rfl rfl)
theorem dX5_of_122 : decode cX5_of 122 = .ok (.invokevirtual 175, 3) := dk_182 0 175 (dk_at dksX5_of_5 2 rfl rfl)
theorem dX5_of_125 : decode cX5_of 125 = .ok (.ireturn, 1) := dk_172 (dk_at dksX5_of_5 5 rfl rfl)
theorem dX5_of_126 : decode cX5_of 126 = .ok (.iload_n 2, 1) := dk_28 (dk_at dksX5_of_5 6 rfl rfl)
theorem dX5_of_127 : decode cX5_of 127 = .ok (.bipush 20, 2) := dk_16 20 (dk_at dksX5_of_5 7 rfl rfl)
theorem dX5_of_129 : decode cX5_of 129 = .ok (.bipush 22, 2) := dk_16 22 (dk_at dksX5_of_5 9 rfl rfl)
theorem dX5_of_131 : decode cX5_of 131 = .ok (.invokestatic 114, 3) := dk_184 0 114 (dk_at dksX5_of_5 11 rfl rfl)
theorem dX5_of_134 : decode cX5_of 134 = .ok (.ifCond .eq 17, 3) := dk_153 0 17 (dk_at dksX5_of_5 14 rfl rfl)
theorem dX5_of_137 : decode cX5_of 137 = .ok (.iload_n 1, 1) := dk_27 (dk_at dksX5_of_5 17 rfl rfl)
theorem dX5_of_138 : decode cX5_of 138 = .ok (.iconst 0, 1) := dk_3 (dk_at dksX5_of_5 18 rfl rfl)
theorem dX5_of_139 : decode cX5_of 139 = .ok (.aload_n 0, 1) := dk_42 (dk_at dksX5_of_5 19 rfl rfl)
theorem dX5_of_140 : decode cX5_of 140 = .ok (.getfield 141, 3) := dk_180 0 141 (dk_at dksX5_of_5 20 rfl rfl)
theorem dX5_of_143 : decode cX5_of 143 = .ok (.iconst 1, 1) := dk_4 (dk_at dksX5_of_5 23 rfl rfl)
theorem dX5_of_144 : decode cX5_of 144 = .ok (.isub, 1) := dk_100 (dk_at dksX5_of_6 0 rfl rfl)
theorem dX5_of_145 : decode cX5_of 145 = .ok (.invokestatic 114, 3) := dk_184 0 114 (dk_at dksX5_of_6 1 rfl rfl)
theorem dX5_of_148 : decode cX5_of 148 = .ok (.ifCond .ne 6, 3) := dk_154 0 6 (dk_at dksX5_of_6 4 rfl rfl)
theorem dX5_of_151 : decode cX5_of 151 = .ok (.ldc 147, 2) := dk_18 147 (dk_at dksX5_of_6 7 rfl rfl)
theorem dX5_of_153 : decode cX5_of 153 = .ok (.ireturn, 1) := dk_172 (dk_at dksX5_of_6 9 rfl rfl)
theorem dX5_of_154 : decode cX5_of 154 = .ok (.iload_n 2, 1) := dk_28 (dk_at dksX5_of_6 10 rfl rfl)
theorem dX5_of_155 : decode cX5_of 155 = .ok (.bipush 20, 2) := dk_16 20 (dk_at dksX5_of_6 11 rfl rfl)
theorem dX5_of_157 : decode cX5_of 157 = .ok (.if_icmp .ne 22, 3) := dk_160 0 22 (dk_at dksX5_of_6 13 rfl rfl)
theorem dX5_of_160 : decode cX5_of 160 = .ok (.bipush 100, 2) := dk_16 100 (dk_at dksX5_of_6 16 rfl rfl)
theorem dX5_of_162 : decode cX5_of 162 = .ok (.aload_n 0, 1) := dk_42 (dk_at dksX5_of_6 18 rfl rfl)
theorem dX5_of_163 : decode cX5_of 163 = .ok (.getfield 19, 3) := dk_180 0 19 (dk_at dksX5_of_6 19 rfl rfl)
theorem dX5_of_166 : decode cX5_of 166 = .ok (.iload_n 1, 1) := dk_27 (dk_at dksX5_of_6 22 rfl rfl)
theorem dX5_of_167 : decode cX5_of 167 = .ok (.iaload, 1) := dk_46 (dk_at dksX5_of_6 23 rfl rfl)
theorem dX5_of_168 : decode cX5_of 168 = .ok (.imul, 1) := dk_104 (dk_at dksX5_of_7 0 rfl rfl)
theorem dX5_of_169 : decode cX5_of 169 = .ok (.aload_n 0, 1) := dk_42 (dk_at dksX5_of_7 1 rfl rfl)
theorem dX5_of_170 : decode cX5_of 170 = .ok (.getfield 22, 3) := dk_180 0 22 (dk_at dksX5_of_7 2 rfl rfl)
theorem dX5_of_173 : decode cX5_of 173 = .ok (.iload_n 1, 1) := dk_27 (dk_at dksX5_of_7 5 rfl rfl)
theorem dX5_of_174 : decode cX5_of 174 = .ok (.iaload, 1) := dk_46 (dk_at dksX5_of_7 6 rfl rfl)
theorem dX5_of_175 : decode cX5_of 175 = .ok (.iadd, 1) := dk_96 (dk_at dksX5_of_7 7 rfl rfl)
theorem dX5_of_176 : decode cX5_of 176 = .ok (.goto 31, 3) := dk_167 0 31 (dk_at dksX5_of_7 8 rfl rfl)
theorem dX5_of_179 : decode cX5_of 179 = .ok (.iload_n 2, 1) := dk_28 (dk_at dksX5_of_7 11 rfl rfl)
theorem dX5_of_180 : decode cX5_of 180 = .ok (.bipush 21, 2) := dk_16 21 (dk_at dksX5_of_7 12 rfl rfl)
theorem dX5_of_182 : decode cX5_of 182 = .ok (.if_icmp .ne 12, 3) := dk_160 0 12 (dk_at dksX5_of_7 14 rfl rfl)
theorem dX5_of_185 : decode cX5_of 185 = .ok (.aload_n 0, 1) := dk_42 (dk_at dksX5_of_7 17 rfl rfl)
theorem dX5_of_186 : decode cX5_of 186 = .ok (.getfield 25, 3) := dk_180 0 25 (dk_at dksX5_of_7 18 rfl rfl)
theorem dX5_of_189 : decode cX5_of 189 = .ok (.iload_n 1, 1) := dk_27 (dk_at dksX5_of_7 21 rfl rfl)
theorem dX5_of_190 : decode cX5_of 190 = .ok (.iaload, 1) := dk_46 (dk_at dksX5_of_7 22 rfl rfl)
theorem dX5_of_191 : decode cX5_of 191 = .ok (.goto 16, 3) := dk_167 0 16 (dk_at dksX5_of_8 0 rfl rfl)
theorem dX5_of_194 : decode cX5_of 194 = .ok (.aload_n 0, 1) := dk_42 (dk_at dksX5_of_8 3 rfl rfl)
theorem dX5_of_195 : decode cX5_of 195 = .ok (.iload_n 1, 1) := dk_27 (dk_at dksX5_of_8 4 rfl rfl)
theorem dX5_of_196 : decode cX5_of 196 = .ok (.invokevirtual 178, 3) := dk_182 0 178 (dk_at dksX5_of_8 5 rfl rfl)
theorem dX5_of_199 : decode cX5_of 199 = .ok (.ifCond .eq 7, 3) := dk_153 0 7 (dk_at dksX5_of_8 8 rfl rfl)
theorem dX5_of_202 : decode cX5_of 202 = .ok (.iconst 1, 1) := dk_4 (dk_at dksX5_of_8 11 rfl rfl)
theorem dX5_of_203 : decode cX5_of 203 = .ok (.goto 4, 3) := dk_167 0 4 (dk_at dksX5_of_8 12 rfl rfl)
theorem dX5_of_206 : decode cX5_of 206 = .ok (.iconst 0, 1) := dk_3 (dk_at dksX5_of_8 15 rfl rfl)
theorem dX5_of_207 : decode cX5_of 207 = .ok (.ireturn, 1) := dk_172 (dk_at dksX5_of_8 16 rfl rfl)
abbrev cX5_placeOf : ByteArray := prog_25_method_24_code
def yX5_placeOf : MethodName := ⟨RX5, "placeOf", "(I)I"⟩
def dkwX5_placeOf_1 : List UInt8 := [132, 3, 1, 167, 255, 233, 28, 172]
abbrev dktX5_placeOf_1 : List UInt8 := dkwX5_placeOf_1 ++ []
def dkwX5_placeOf_0 : List UInt8 := [3, 61, 3, 62, 29, 42, 180, 0, 111, 162, 0, 21, 42, 29, 27, 182, 0, 168, 153, 0, 6, 132, 2, 1]
abbrev dktX5_placeOf_0 : List UInt8 := dkwX5_placeOf_0 ++ dktX5_placeOf_1
theorem dksX5_placeOf_0 : cX5_placeOf.data.toList.drop 0 = dktX5_placeOf_0 := by decide +kernel
theorem dksX5_placeOf_1 : cX5_placeOf.data.toList.drop 24 = dktX5_placeOf_1 := dk_seg dksX5_placeOf_0 24 rfl rfl
theorem dX5_placeOf_0 : decode cX5_placeOf 0 = .ok (.iconst 0, 1) := dk_3 (dk_at dksX5_placeOf_0 0 rfl rfl)
theorem dX5_placeOf_1 : decode cX5_placeOf 1 = .ok (.istore_n 2, 1) := dk_61 (dk_at dksX5_placeOf_0 1 rfl rfl)
theorem dX5_placeOf_2 : decode cX5_placeOf 2 = .ok (.iconst 0, 1) := dk_3 (dk_at dksX5_placeOf_0 2 rfl rfl)
theorem dX5_placeOf_3 : decode cX5_placeOf 3 = .ok (.istore_n 3, 1) := dk_62 (dk_at dksX5_placeOf_0 3 rfl rfl)
theorem dX5_placeOf_4 : decode cX5_placeOf 4 = .ok (.iload_n 3, 1) := dk_29 (dk_at dksX5_placeOf_0 4 rfl rfl)
theorem dX5_placeOf_5 : decode cX5_placeOf 5 = .ok (.aload_n 0, 1) := dk_42 (dk_at dksX5_placeOf_0 5 rfl rfl)
theorem dX5_placeOf_6 : decode cX5_placeOf 6 = .ok (.getfield 111, 3) := dk_180 0 111 (dk_at dksX5_placeOf_0 6 rfl rfl)
theorem dX5_placeOf_9 : decode cX5_placeOf 9 = .ok (.if_icmp .ge 21, 3) := dk_162 0 21 (dk_at dksX5_placeOf_0 9 rfl rfl)
theorem dX5_placeOf_12 : decode cX5_placeOf 12 = .ok (.aload_n 0, 1) := dk_42 (dk_at dksX5_placeOf_0 12 rfl rfl)
theorem dX5_placeOf_13 : decode cX5_placeOf 13 = .ok (.iload_n 3, 1) := dk_29 (dk_at dksX5_placeOf_0 13 rfl rfl)
theorem dX5_placeOf_14 : decode cX5_placeOf 14 = .ok (.iload_n 1, 1) := dk_27 (dk_at dksX5_placeOf_0 14 rfl rfl)
theorem dX5_placeOf_15 : decode cX5_placeOf 15 = .ok (.invokevirtual 168, 3) := dk_182 0 168 (dk_at dksX5_placeOf_0 15 rfl rfl)
theorem dX5_placeOf_18 : decode cX5_placeOf 18 = .ok (.ifCond .eq 6, 3) := dk_153 0 6 (dk_at dksX5_placeOf_0 18 rfl rfl)
theorem dX5_placeOf_21 : decode cX5_placeOf 21 = .ok (.iinc 2 1, 3) := dk_132 2 1 (dk_at dksX5_placeOf_0 21 rfl rfl)
theorem dX5_placeOf_24 : decode cX5_placeOf 24 = .ok (.iinc 3 1, 3) := dk_132 3 1 (dk_at dksX5_placeOf_1 0 rfl rfl)
theorem dX5_placeOf_27 : decode cX5_placeOf 27 = .ok (.goto (-23), 3) := dk_167 255 233 (dk_at dksX5_placeOf_1 3 rfl rfl)
theorem dX5_placeOf_30 : decode cX5_placeOf 30 = .ok (.iload_n 2, 1) := dk_28 (dk_at dksX5_placeOf_1 6 rfl rfl)
theorem dX5_placeOf_31 : decode cX5_placeOf 31 = .ok (.ireturn, 1) := dk_172 (dk_at dksX5_placeOf_1 7 rfl rfl)
abbrev cX5_isAhead : ByteArray := prog_25_method_23_code
def yX5_isAhead : MethodName := ⟨RX5, "isAhead", "(II)Z"⟩
def dkwX5_isAhead_1 : List UInt8 := [180, 0, 7, 28, 46, 160, 0, 12, 27, 28, 162, 0, 7, 4, 167, 0, 4, 3, 172]
abbrev dktX5_isAhead_1 : List UInt8 := dkwX5_isAhead_1 ++ []
def dkwX5_isAhead_0 : List UInt8 := [42, 180, 0, 7, 27, 46, 42, 180, 0, 7, 28, 46, 161, 0, 23, 42, 180, 0, 7, 27, 46, 42]
abbrev dktX5_isAhead_0 : List UInt8 := dkwX5_isAhead_0 ++ dktX5_isAhead_1
theorem dksX5_isAhead_0 : cX5_isAhead.data.toList.drop 0 = dktX5_isAhead_0 := by decide +kernel
theorem dksX5_isAhead_1 : cX5_isAhead.data.toList.drop 22 = dktX5_isAhead_1 := dk_seg dksX5_isAhead_0 22 rfl rfl
theorem dX5_isAhead_0 : decode cX5_isAhead 0 = .ok (.aload_n 0, 1) := dk_42 (dk_at dksX5_isAhead_0 0 rfl rfl)
theorem dX5_isAhead_1 : decode cX5_isAhead 1 = .ok (.getfield 7, 3) := dk_180 0 7 (dk_at dksX5_isAhead_0 1 rfl rfl)
theorem dX5_isAhead_4 : decode cX5_isAhead 4 = .ok (.iload_n 1, 1) := dk_27 (dk_at dksX5_isAhead_0 4 rfl rfl)
theorem dX5_isAhead_5 : decode cX5_isAhead 5 = .ok (.iaload, 1) := dk_46 (dk_at dksX5_isAhead_0 5 rfl rfl)
theorem dX5_isAhead_6 : decode cX5_isAhead 6 = .ok (.aload_n 0, 1) := dk_42 (dk_at dksX5_isAhead_0 6 rfl rfl)
theorem dX5_isAhead_7 : decode cX5_isAhead 7 = .ok (.getfield 7, 3) := dk_180 0 7 (dk_at dksX5_isAhead_0 7 rfl rfl)
theorem dX5_isAhead_10 : decode cX5_isAhead 10 = .ok (.iload_n 2, 1) := dk_28 (dk_at dksX5_isAhead_0 10 rfl rfl)
theorem dX5_isAhead_11 : decode cX5_isAhead 11 = .ok (.iaload, 1) := dk_46 (dk_at dksX5_isAhead_0 11 rfl rfl)
theorem dX5_isAhead_12 : decode cX5_isAhead 12 = .ok (.if_icmp .lt 23, 3) := dk_161 0 23 (dk_at dksX5_isAhead_0 12 rfl rfl)
theorem dX5_isAhead_15 : decode cX5_isAhead 15 = .ok (.aload_n 0, 1) := dk_42 (dk_at dksX5_isAhead_0 15 rfl rfl)
theorem dX5_isAhead_16 : decode cX5_isAhead 16 = .ok (.getfield 7, 3) := dk_180 0 7 (dk_at dksX5_isAhead_0 16 rfl rfl)
theorem dX5_isAhead_19 : decode cX5_isAhead 19 = .ok (.iload_n 1, 1) := dk_27 (dk_at dksX5_isAhead_0 19 rfl rfl)
theorem dX5_isAhead_20 : decode cX5_isAhead 20 = .ok (.iaload, 1) := dk_46 (dk_at dksX5_isAhead_0 20 rfl rfl)
theorem dX5_isAhead_21 : decode cX5_isAhead 21 = .ok (.aload_n 0, 1) := dk_42 (dk_at dksX5_isAhead_0 21 rfl rfl)
theorem dX5_isAhead_22 : decode cX5_isAhead 22 = .ok (.getfield 7, 3) := dk_180 0 7 (dk_at dksX5_isAhead_1 0 rfl rfl)
theorem dX5_isAhead_25 : decode cX5_isAhead 25 = .ok (.iload_n 2, 1) := dk_28 (dk_at dksX5_isAhead_1 3 rfl rfl)
theorem dX5_isAhead_26 : decode cX5_isAhead 26 = .ok (.iaload, 1) := dk_46 (dk_at dksX5_isAhead_1 4 rfl rfl)
theorem dX5_isAhead_27 : decode cX5_isAhead 27 = .ok (.if_icmp .ne 12, 3) := dk_160 0 12 (dk_at dksX5_isAhead_1 5 rfl rfl)
theorem dX5_isAhead_30 : decode cX5_isAhead 30 = .ok (.iload_n 1, 1) := dk_27 (dk_at dksX5_isAhead_1 8 rfl rfl)
theorem dX5_isAhead_31 : decode cX5_isAhead 31 = .ok (.iload_n 2, 1) := dk_28 (dk_at dksX5_isAhead_1 9 rfl rfl)
theorem dX5_isAhead_32 : decode cX5_isAhead 32 = .ok (.if_icmp .ge 7, 3) := dk_162 0 7 (dk_at dksX5_isAhead_1 10 rfl rfl)
theorem dX5_isAhead_35 : decode cX5_isAhead 35 = .ok (.iconst 1, 1) := dk_4 (dk_at dksX5_isAhead_1 13 rfl rfl)
theorem dX5_isAhead_36 : decode cX5_isAhead 36 = .ok (.goto 4, 3) := dk_167 0 4 (dk_at dksX5_isAhead_1 14 rfl rfl)
theorem dX5_isAhead_39 : decode cX5_isAhead 39 = .ok (.iconst 0, 1) := dk_3 (dk_at dksX5_isAhead_1 17 rfl rfl)
theorem dX5_isAhead_40 : decode cX5_isAhead 40 = .ok (.ireturn, 1) := dk_172 (dk_at dksX5_isAhead_1 18 rfl rfl)
abbrev cX5_bearersOf : ByteArray := prog_25_method_27_code
def yX5_bearersOf : MethodName := ⟨RX5, "bearersOf", "(I)I"⟩
def dkwX5_bearersOf_1 : List UInt8 := [29, 120, 128, 61, 132, 3, 1, 167, 255, 229, 28, 172]
abbrev dktX5_bearersOf_1 : List UInt8 := dkwX5_bearersOf_1 ++ []
def dkwX5_bearersOf_0 : List UInt8 := [3, 61, 3, 62, 29, 42, 180, 0, 111, 162, 0, 25, 42, 180, 0, 16, 29, 46, 27, 160, 0, 9, 28, 4]
abbrev dktX5_bearersOf_0 : List UInt8 := dkwX5_bearersOf_0 ++ dktX5_bearersOf_1
theorem dksX5_bearersOf_0 : cX5_bearersOf.data.toList.drop 0 = dktX5_bearersOf_0 := by decide +kernel
theorem dksX5_bearersOf_1 : cX5_bearersOf.data.toList.drop 24 = dktX5_bearersOf_1 := dk_seg dksX5_bearersOf_0 24 rfl rfl
theorem dX5_bearersOf_0 : decode cX5_bearersOf 0 = .ok (.iconst 0, 1) := dk_3 (dk_at dksX5_bearersOf_0 0 rfl rfl)
theorem dX5_bearersOf_1 : decode cX5_bearersOf 1 = .ok (.istore_n 2, 1) := dk_61 (dk_at dksX5_bearersOf_0 1 rfl rfl)
theorem dX5_bearersOf_2 : decode cX5_bearersOf 2 = .ok (.iconst 0, 1) := dk_3 (dk_at dksX5_bearersOf_0 2 rfl rfl)
theorem dX5_bearersOf_3 : decode cX5_bearersOf 3 = .ok (.istore_n 3, 1) := dk_62 (dk_at dksX5_bearersOf_0 3 rfl rfl)
theorem dX5_bearersOf_4 : decode cX5_bearersOf 4 = .ok (.iload_n 3, 1) := dk_29 (dk_at dksX5_bearersOf_0 4 rfl rfl)
theorem dX5_bearersOf_5 : decode cX5_bearersOf 5 = .ok (.aload_n 0, 1) := dk_42 (dk_at dksX5_bearersOf_0 5 rfl rfl)
theorem dX5_bearersOf_6 : decode cX5_bearersOf 6 = .ok (.getfield 111, 3) := dk_180 0 111 (dk_at dksX5_bearersOf_0 6 rfl rfl)
theorem dX5_bearersOf_9 : decode cX5_bearersOf 9 = .ok (.if_icmp .ge 25, 3) := dk_162 0 25 (dk_at dksX5_bearersOf_0 9 rfl rfl)
theorem dX5_bearersOf_12 : decode cX5_bearersOf 12 = .ok (.aload_n 0, 1) := dk_42 (dk_at dksX5_bearersOf_0 12 rfl rfl)
theorem dX5_bearersOf_13 : decode cX5_bearersOf 13 = .ok (.getfield 16, 3) := dk_180 0 16 (dk_at dksX5_bearersOf_0 13 rfl rfl)
theorem dX5_bearersOf_16 : decode cX5_bearersOf 16 = .ok (.iload_n 3, 1) := dk_29 (dk_at dksX5_bearersOf_0 16 rfl rfl)
theorem dX5_bearersOf_17 : decode cX5_bearersOf 17 = .ok (.iaload, 1) := dk_46 (dk_at dksX5_bearersOf_0 17 rfl rfl)
theorem dX5_bearersOf_18 : decode cX5_bearersOf 18 = .ok (.iload_n 1, 1) := dk_27 (dk_at dksX5_bearersOf_0 18 rfl rfl)
theorem dX5_bearersOf_19 : decode cX5_bearersOf 19 = .ok (.if_icmp .ne 9, 3) := dk_160 0 9 (dk_at dksX5_bearersOf_0 19 rfl rfl)
theorem dX5_bearersOf_22 : decode cX5_bearersOf 22 = .ok (.iload_n 2, 1) := dk_28 (dk_at dksX5_bearersOf_0 22 rfl rfl)
theorem dX5_bearersOf_23 : decode cX5_bearersOf 23 = .ok (.iconst 1, 1) := dk_4 (dk_at dksX5_bearersOf_0 23 rfl rfl)
theorem dX5_bearersOf_24 : decode cX5_bearersOf 24 = .ok (.iload_n 3, 1) := dk_29 (dk_at dksX5_bearersOf_1 0 rfl rfl)
theorem dX5_bearersOf_25 : decode cX5_bearersOf 25 = .ok (.ishl, 1) := dk_120 (dk_at dksX5_bearersOf_1 1 rfl rfl)
theorem dX5_bearersOf_26 : decode cX5_bearersOf 26 = .ok (.ior, 1) := dk_128 (dk_at dksX5_bearersOf_1 2 rfl rfl)
theorem dX5_bearersOf_27 : decode cX5_bearersOf 27 = .ok (.istore_n 2, 1) := dk_61 (dk_at dksX5_bearersOf_1 3 rfl rfl)
theorem dX5_bearersOf_28 : decode cX5_bearersOf 28 = .ok (.iinc 3 1, 3) := dk_132 3 1 (dk_at dksX5_bearersOf_1 4 rfl rfl)
theorem dX5_bearersOf_31 : decode cX5_bearersOf 31 = .ok (.goto (-27), 3) := dk_167 255 229 (dk_at dksX5_bearersOf_1 7 rfl rfl)
theorem dX5_bearersOf_34 : decode cX5_bearersOf 34 = .ok (.iload_n 2, 1) := dk_28 (dk_at dksX5_bearersOf_1 10 rfl rfl)
theorem dX5_bearersOf_35 : decode cX5_bearersOf 35 = .ok (.ireturn, 1) := dk_172 (dk_at dksX5_bearersOf_1 11 rfl rfl)
abbrev cX5_counts : ByteArray := prog_25_method_26_code
def yX5_counts : MethodName := ⟨RX5, "counts", "(I)Z"⟩
def dkwX5_counts_1 : List UInt8 := [27, 46, 42, 180, 0, 25, 27, 46, 182, 0, 138, 153, 0, 7, 4, 167, 0, 4, 3, 172]
abbrev dktX5_counts_1 : List UInt8 := dkwX5_counts_1 ++ []
def dkwX5_counts_0 : List UInt8 := [42, 42, 180, 0, 19, 27, 46, 42, 180, 0, 25, 27, 46, 182, 0, 138, 153, 0, 26, 42, 42, 180, 0, 22]
abbrev dktX5_counts_0 : List UInt8 := dkwX5_counts_0 ++ dktX5_counts_1
theorem dksX5_counts_0 : cX5_counts.data.toList.drop 0 = dktX5_counts_0 := by decide +kernel
theorem dksX5_counts_1 : cX5_counts.data.toList.drop 24 = dktX5_counts_1 := dk_seg dksX5_counts_0 24 rfl rfl
theorem dX5_counts_0 : decode cX5_counts 0 = .ok (.aload_n 0, 1) := dk_42 (dk_at dksX5_counts_0 0 rfl rfl)
theorem dX5_counts_1 : decode cX5_counts 1 = .ok (.aload_n 0, 1) := dk_42 (dk_at dksX5_counts_0 1 rfl rfl)
theorem dX5_counts_2 : decode cX5_counts 2 = .ok (.getfield 19, 3) := dk_180 0 19 (dk_at dksX5_counts_0 2 rfl rfl)
theorem dX5_counts_5 : decode cX5_counts 5 = .ok (.iload_n 1, 1) := dk_27 (dk_at dksX5_counts_0 5 rfl rfl)
theorem dX5_counts_6 : decode cX5_counts 6 = .ok (.iaload, 1) := dk_46 (dk_at dksX5_counts_0 6 rfl rfl)
theorem dX5_counts_7 : decode cX5_counts 7 = .ok (.aload_n 0, 1) := dk_42 (dk_at dksX5_counts_0 7 rfl rfl)
theorem dX5_counts_8 : decode cX5_counts 8 = .ok (.getfield 25, 3) := dk_180 0 25 (dk_at dksX5_counts_0 8 rfl rfl)
theorem dX5_counts_11 : decode cX5_counts 11 = .ok (.iload_n 1, 1) := dk_27 (dk_at dksX5_counts_0 11 rfl rfl)
theorem dX5_counts_12 : decode cX5_counts 12 = .ok (.iaload, 1) := dk_46 (dk_at dksX5_counts_0 12 rfl rfl)
theorem dX5_counts_13 : decode cX5_counts 13 = .ok (.invokevirtual 138, 3) := dk_182 0 138 (dk_at dksX5_counts_0 13 rfl rfl)
theorem dX5_counts_16 : decode cX5_counts 16 = .ok (.ifCond .eq 26, 3) := dk_153 0 26 (dk_at dksX5_counts_0 16 rfl rfl)
theorem dX5_counts_19 : decode cX5_counts 19 = .ok (.aload_n 0, 1) := dk_42 (dk_at dksX5_counts_0 19 rfl rfl)
theorem dX5_counts_20 : decode cX5_counts 20 = .ok (.aload_n 0, 1) := dk_42 (dk_at dksX5_counts_0 20 rfl rfl)
theorem dX5_counts_21 : decode cX5_counts 21 = .ok (.getfield 22, 3) := dk_180 0 22 (dk_at dksX5_counts_0 21 rfl rfl)
theorem dX5_counts_24 : decode cX5_counts 24 = .ok (.iload_n 1, 1) := dk_27 (dk_at dksX5_counts_1 0 rfl rfl)
theorem dX5_counts_25 : decode cX5_counts 25 = .ok (.iaload, 1) := dk_46 (dk_at dksX5_counts_1 1 rfl rfl)
theorem dX5_counts_26 : decode cX5_counts 26 = .ok (.aload_n 0, 1) := dk_42 (dk_at dksX5_counts_1 2 rfl rfl)
theorem dX5_counts_27 : decode cX5_counts 27 = .ok (.getfield 25, 3) := dk_180 0 25 (dk_at dksX5_counts_1 3 rfl rfl)
theorem dX5_counts_30 : decode cX5_counts 30 = .ok (.iload_n 1, 1) := dk_27 (dk_at dksX5_counts_1 6 rfl rfl)
theorem dX5_counts_31 : decode cX5_counts 31 = .ok (.iaload, 1) := dk_46 (dk_at dksX5_counts_1 7 rfl rfl)
theorem dX5_counts_32 : decode cX5_counts 32 = .ok (.invokevirtual 138, 3) := dk_182 0 138 (dk_at dksX5_counts_1 8 rfl rfl)
theorem dX5_counts_35 : decode cX5_counts 35 = .ok (.ifCond .eq 7, 3) := dk_153 0 7 (dk_at dksX5_counts_1 11 rfl rfl)
theorem dX5_counts_38 : decode cX5_counts 38 = .ok (.iconst 1, 1) := dk_4 (dk_at dksX5_counts_1 14 rfl rfl)
theorem dX5_counts_39 : decode cX5_counts 39 = .ok (.goto 4, 3) := dk_167 0 4 (dk_at dksX5_counts_1 15 rfl rfl)
theorem dX5_counts_42 : decode cX5_counts 42 = .ok (.iconst 0, 1) := dk_3 (dk_at dksX5_counts_1 18 rfl rfl)
theorem dX5_counts_43 : decode cX5_counts 43 = .ok (.ireturn, 1) := dk_172 (dk_at dksX5_counts_1 19 rfl rfl)
abbrev cX5_feed : ByteArray := prog_25_method_29_code
def yX5_feed : MethodName := ⟨RX5, "feed", "(I)I"⟩
def dkwX5_feed_2 : List UInt8 := [180, 0, 181, 172]
abbrev dktX5_feed_2 : List UInt8 := dkwX5_feed_2 ++ []
def dkwX5_feed_1 : List UInt8 := [172, 42, 180, 0, 46, 42, 180, 0, 181, 27, 145, 84, 42, 89, 180, 0, 181, 4, 96, 181, 0, 181, 42]
abbrev dktX5_feed_1 : List UInt8 := dkwX5_feed_1 ++ dktX5_feed_2
def dkwX5_feed_0 : List UInt8 := [27, 3, 17, 0, 255, 184, 0, 114, 154, 0, 5, 2, 172, 42, 180, 0, 181, 16, 120, 160, 0, 6, 16, 253]
abbrev dktX5_feed_0 : List UInt8 := dkwX5_feed_0 ++ dktX5_feed_1
theorem dksX5_feed_0 : cX5_feed.data.toList.drop 0 = dktX5_feed_0 := by decide +kernel
theorem dksX5_feed_1 : cX5_feed.data.toList.drop 24 = dktX5_feed_1 := dk_seg dksX5_feed_0 24 rfl rfl
theorem dksX5_feed_2 : cX5_feed.data.toList.drop 47 = dktX5_feed_2 := dk_seg dksX5_feed_1 23 rfl rfl
theorem dX5_feed_0 : decode cX5_feed 0 = .ok (.iload_n 1, 1) := dk_27 (dk_at dksX5_feed_0 0 rfl rfl)
theorem dX5_feed_1 : decode cX5_feed 1 = .ok (.iconst 0, 1) := dk_3 (dk_at dksX5_feed_0 1 rfl rfl)
theorem dX5_feed_2 : decode cX5_feed 2 = .ok (.sipush 255, 3) := dk_17 0 255 (dk_at dksX5_feed_0 2 rfl rfl)
theorem dX5_feed_5 : decode cX5_feed 5 = .ok (.invokestatic 114, 3) := dk_184 0 114 (dk_at dksX5_feed_0 5 rfl rfl)
theorem dX5_feed_8 : decode cX5_feed 8 = .ok (.ifCond .ne 5, 3) := dk_154 0 5 (dk_at dksX5_feed_0 8 rfl rfl)
theorem dX5_feed_11 : decode cX5_feed 11 = .ok (.iconst (-1), 1) := dk_2 (dk_at dksX5_feed_0 11 rfl rfl)
theorem dX5_feed_12 : decode cX5_feed 12 = .ok (.ireturn, 1) := dk_172 (dk_at dksX5_feed_0 12 rfl rfl)
theorem dX5_feed_13 : decode cX5_feed 13 = .ok (.aload_n 0, 1) := dk_42 (dk_at dksX5_feed_0 13 rfl rfl)
theorem dX5_feed_14 : decode cX5_feed 14 = .ok (.getfield 181, 3) := dk_180 0 181 (dk_at dksX5_feed_0 14 rfl rfl)
theorem dX5_feed_17 : decode cX5_feed 17 = .ok (.bipush 120, 2) := dk_16 120 (dk_at dksX5_feed_0 17 rfl rfl)
theorem dX5_feed_19 : decode cX5_feed 19 = .ok (.if_icmp .ne 6, 3) := dk_160 0 6 (dk_at dksX5_feed_0 19 rfl rfl)
theorem dX5_feed_22 : decode cX5_feed 22 = .ok (.bipush (-3), 2) := dk_16 253 (dk_at dksX5_feed_0 22 rfl rfl)
theorem dX5_feed_24 : decode cX5_feed 24 = .ok (.ireturn, 1) := dk_172 (dk_at dksX5_feed_1 0 rfl rfl)
theorem dX5_feed_25 : decode cX5_feed 25 = .ok (.aload_n 0, 1) := dk_42 (dk_at dksX5_feed_1 1 rfl rfl)
theorem dX5_feed_26 : decode cX5_feed 26 = .ok (.getfield 46, 3) := dk_180 0 46 (dk_at dksX5_feed_1 2 rfl rfl)
theorem dX5_feed_29 : decode cX5_feed 29 = .ok (.aload_n 0, 1) := dk_42 (dk_at dksX5_feed_1 5 rfl rfl)
theorem dX5_feed_30 : decode cX5_feed 30 = .ok (.getfield 181, 3) := dk_180 0 181 (dk_at dksX5_feed_1 6 rfl rfl)
theorem dX5_feed_33 : decode cX5_feed 33 = .ok (.iload_n 1, 1) := dk_27 (dk_at dksX5_feed_1 9 rfl rfl)
theorem dX5_feed_34 : decode cX5_feed 34 = .ok (.i2b, 1) := dk_145 (dk_at dksX5_feed_1 10 rfl rfl)
theorem dX5_feed_35 : decode cX5_feed 35 = .ok (.bastore, 1) := dk_84 (dk_at dksX5_feed_1 11 rfl rfl)
theorem dX5_feed_36 : decode cX5_feed 36 = .ok (.aload_n 0, 1) := dk_42 (dk_at dksX5_feed_1 12 rfl rfl)
theorem dX5_feed_37 : decode cX5_feed 37 = .ok (.dup, 1) := dk_89 (dk_at dksX5_feed_1 13 rfl rfl)
theorem dX5_feed_38 : decode cX5_feed 38 = .ok (.getfield 181, 3) := dk_180 0 181 (dk_at dksX5_feed_1 14 rfl rfl)
theorem dX5_feed_41 : decode cX5_feed 41 = .ok (.iconst 1, 1) := dk_4 (dk_at dksX5_feed_1 17 rfl rfl)
theorem dX5_feed_42 : decode cX5_feed 42 = .ok (.iadd, 1) := dk_96 (dk_at dksX5_feed_1 18 rfl rfl)
theorem dX5_feed_43 : decode cX5_feed 43 = .ok (.putfield 181, 3) := dk_181 0 181 (dk_at dksX5_feed_1 19 rfl rfl)
theorem dX5_feed_46 : decode cX5_feed 46 = .ok (.aload_n 0, 1) := dk_42 (dk_at dksX5_feed_1 22 rfl rfl)
theorem dX5_feed_47 : decode cX5_feed 47 = .ok (.getfield 181, 3) := dk_180 0 181 (dk_at dksX5_feed_2 0 rfl rfl)
theorem dX5_feed_50 : decode cX5_feed 50 = .ok (.ireturn, 1) := dk_172 (dk_at dksX5_feed_2 3 rfl rfl)
abbrev cX5_law : ByteArray := prog_25_method_47_code
def yX5_law : MethodName := ⟨RX5, "law", "()I"⟩
def dkwX5_law_0 : List UInt8 := [42, 3, 182, 0, 244, 60, 27, 155, 0, 8, 16, 156, 27, 100, 172, 42, 4, 181, 0, 247, 4, 172]
abbrev dktX5_law_0 : List UInt8 := dkwX5_law_0 ++ []
theorem dksX5_law_0 : cX5_law.data.toList.drop 0 = dktX5_law_0 := by decide +kernel
theorem dX5_law_0 : decode cX5_law 0 = .ok (.aload_n 0, 1) := dk_42 (dk_at dksX5_law_0 0 rfl rfl)
theorem dX5_law_1 : decode cX5_law 1 = .ok (.iconst 0, 1) := dk_3 (dk_at dksX5_law_0 1 rfl rfl)
theorem dX5_law_2 : decode cX5_law 2 = .ok (.invokevirtual 244, 3) := dk_182 0 244 (dk_at dksX5_law_0 2 rfl rfl)
theorem dX5_law_5 : decode cX5_law 5 = .ok (.istore_n 1, 1) := dk_60 (dk_at dksX5_law_0 5 rfl rfl)
theorem dX5_law_6 : decode cX5_law 6 = .ok (.iload_n 1, 1) := dk_27 (dk_at dksX5_law_0 6 rfl rfl)
theorem dX5_law_7 : decode cX5_law 7 = .ok (.ifCond .lt 8, 3) := dk_155 0 8 (dk_at dksX5_law_0 7 rfl rfl)
theorem dX5_law_10 : decode cX5_law 10 = .ok (.bipush (-100), 2) := dk_16 156 (dk_at dksX5_law_0 10 rfl rfl)
theorem dX5_law_12 : decode cX5_law 12 = .ok (.iload_n 1, 1) := dk_27 (dk_at dksX5_law_0 12 rfl rfl)
theorem dX5_law_13 : decode cX5_law 13 = .ok (.isub, 1) := dk_100 (dk_at dksX5_law_0 13 rfl rfl)
theorem dX5_law_14 : decode cX5_law 14 = .ok (.ireturn, 1) := dk_172 (dk_at dksX5_law_0 14 rfl rfl)
theorem dX5_law_15 : decode cX5_law 15 = .ok (.aload_n 0, 1) := dk_42 (dk_at dksX5_law_0 15 rfl rfl)
theorem dX5_law_16 : decode cX5_law 16 = .ok (.iconst 1, 1) := dk_4 (dk_at dksX5_law_0 16 rfl rfl)
theorem dX5_law_17 : decode cX5_law 17 = .ok (.putfield 247, 3) := dk_181 0 247 (dk_at dksX5_law_0 17 rfl rfl)
theorem dX5_law_20 : decode cX5_law 20 = .ok (.iconst 1, 1) := dk_4 (dk_at dksX5_law_0 20 rfl rfl)
theorem dX5_law_21 : decode cX5_law 21 = .ok (.ireturn, 1) := dk_172 (dk_at dksX5_law_0 21 rfl rfl)
abbrev cX5_readText : ByteArray := prog_25_method_43_code
def yX5_readText : MethodName := ⟨RX5, "readText", "(I)I"⟩
def dkwX5_readText_9 : List UInt8 := [16, 61, 27, 104, 28, 96, 42, 180, 0, 63, 16, 61, 28, 96, 53, 86, 132, 2, 1, 167, 255, 203, 2, 172]
abbrev dktX5_readText_9 : List UInt8 := dkwX5_readText_9 ++ []
def dkwX5_readText_8 : List UInt8 := [42, 180, 0, 59, 16, 61, 27, 104, 28, 96, 42, 180, 0, 59, 16, 61, 28, 96, 53, 86, 42, 180, 0, 63]
abbrev dktX5_readText_8 : List UInt8 := dkwX5_readText_8 ++ dktX5_readText_9
def dkwX5_readText_7 : List UInt8 := [42, 180, 0, 56, 27, 42, 180, 0, 56, 4, 46, 79, 3, 61, 28, 42, 180, 0, 56, 27, 46, 162, 0, 49]
abbrev dktX5_readText_7 : List UInt8 := dkwX5_readText_7 ++ dktX5_readText_8
def dkwX5_readText_6 : List UInt8 := [17, 0, 130, 27, 104, 28, 96, 42, 180, 0, 53, 17, 0, 130, 28, 96, 46, 79, 132, 2, 1, 167, 255, 201]
abbrev dktX5_readText_6 : List UInt8 := dkwX5_readText_6 ++ dktX5_readText_7
def dkwX5_readText_5 : List UInt8 := [17, 0, 130, 27, 104, 28, 96, 42, 180, 0, 50, 17, 0, 130, 28, 96, 51, 84, 42, 180, 0, 53]
abbrev dktX5_readText_5 : List UInt8 := dkwX5_readText_5 ++ dktX5_readText_6
def dkwX5_readText_4 : List UInt8 := [155, 0, 8, 42, 180, 0, 187, 172, 3, 61, 28, 42, 180, 0, 190, 162, 0, 53, 42, 180, 0, 50]
abbrev dktX5_readText_4 : List UInt8 := dkwX5_readText_4 ++ dktX5_readText_5
def dkwX5_readText_3 : List UInt8 := [180, 0, 184, 42, 180, 0, 181, 162, 0, 7, 42, 182, 0, 196, 42, 3, 181, 0, 181, 42, 180, 0, 187]
abbrev dktX5_readText_3 : List UInt8 := dkwX5_readText_3 ++ dktX5_readText_4
def dkwX5_readText_2 : List UInt8 := [89, 180, 0, 184, 4, 96, 181, 0, 184, 42, 182, 0, 235, 167, 255, 226, 42, 180, 0, 187, 156, 0, 18, 42]
abbrev dktX5_readText_2 : List UInt8 := dkwX5_readText_2 ++ dktX5_readText_3
def dkwX5_readText_1 : List UInt8 := [4, 3, 79, 42, 182, 0, 235, 42, 180, 0, 187, 156, 0, 29, 42, 182, 0, 199, 16, 59, 160, 0, 20, 42]
abbrev dktX5_readText_1 : List UInt8 := dkwX5_readText_1 ++ dktX5_readText_2
def dkwX5_readText_0 : List UInt8 := [42, 3, 181, 0, 184, 42, 2, 181, 0, 187, 42, 3, 181, 0, 193, 42, 3, 181, 0, 190, 42, 180, 0, 56]
abbrev dktX5_readText_0 : List UInt8 := dkwX5_readText_0 ++ dktX5_readText_1
theorem dksX5_readText_0 : cX5_readText.data.toList.drop 0 = dktX5_readText_0 := by decide +kernel
theorem dksX5_readText_1 : cX5_readText.data.toList.drop 24 = dktX5_readText_1 := dk_seg dksX5_readText_0 24 rfl rfl
theorem dksX5_readText_2 : cX5_readText.data.toList.drop 48 = dktX5_readText_2 := dk_seg dksX5_readText_1 24 rfl rfl
theorem dksX5_readText_3 : cX5_readText.data.toList.drop 72 = dktX5_readText_3 := dk_seg dksX5_readText_2 24 rfl rfl
theorem dksX5_readText_4 : cX5_readText.data.toList.drop 95 = dktX5_readText_4 := dk_seg dksX5_readText_3 23 rfl rfl
theorem dksX5_readText_5 : cX5_readText.data.toList.drop 117 = dktX5_readText_5 := dk_seg dksX5_readText_4 22 rfl rfl
theorem dksX5_readText_6 : cX5_readText.data.toList.drop 139 = dktX5_readText_6 := dk_seg dksX5_readText_5 22 rfl rfl
theorem dksX5_readText_7 : cX5_readText.data.toList.drop 163 = dktX5_readText_7 := dk_seg dksX5_readText_6 24 rfl rfl
theorem dksX5_readText_8 : cX5_readText.data.toList.drop 187 = dktX5_readText_8 := dk_seg dksX5_readText_7 24 rfl rfl
theorem dksX5_readText_9 : cX5_readText.data.toList.drop 211 = dktX5_readText_9 := dk_seg dksX5_readText_8 24 rfl rfl
theorem dX5_readText_0 : decode cX5_readText 0 = .ok (.aload_n 0, 1) := dk_42 (dk_at dksX5_readText_0 0 rfl rfl)
theorem dX5_readText_1 : decode cX5_readText 1 = .ok (.iconst 0, 1) := dk_3 (dk_at dksX5_readText_0 1 rfl rfl)
theorem dX5_readText_2 : decode cX5_readText 2 = .ok (.putfield 184, 3) := dk_181 0 184 (dk_at dksX5_readText_0 2 rfl rfl)
theorem dX5_readText_5 : decode cX5_readText 5 = .ok (.aload_n 0, 1) := dk_42 (dk_at dksX5_readText_0 5 rfl rfl)
theorem dX5_readText_6 : decode cX5_readText 6 = .ok (.iconst (-1), 1) := dk_2 (dk_at dksX5_readText_0 6 rfl rfl)
theorem dX5_readText_7 : decode cX5_readText 7 = .ok (.putfield 187, 3) := dk_181 0 187 (dk_at dksX5_readText_0 7 rfl rfl)
theorem dX5_readText_10 : decode cX5_readText 10 = .ok (.aload_n 0, 1) := dk_42 (dk_at dksX5_readText_0 10 rfl rfl)
theorem dX5_readText_11 : decode cX5_readText 11 = .ok (.iconst 0, 1) := dk_3 (dk_at dksX5_readText_0 11 rfl rfl)
theorem dX5_readText_12 : decode cX5_readText 12 = .ok (.putfield 193, 3) := dk_181 0 193 (dk_at dksX5_readText_0 12 rfl rfl)
theorem dX5_readText_15 : decode cX5_readText 15 = .ok (.aload_n 0, 1) := dk_42 (dk_at dksX5_readText_0 15 rfl rfl)
theorem dX5_readText_16 : decode cX5_readText 16 = .ok (.iconst 0, 1) := dk_3 (dk_at dksX5_readText_0 16 rfl rfl)
theorem dX5_readText_17 : decode cX5_readText 17 = .ok (.putfield 190, 3) := dk_181 0 190 (dk_at dksX5_readText_0 17 rfl rfl)
theorem dX5_readText_20 : decode cX5_readText 20 = .ok (.aload_n 0, 1) := dk_42 (dk_at dksX5_readText_0 20 rfl rfl)
theorem dX5_readText_21 : decode cX5_readText 21 = .ok (.getfield 56, 3) := dk_180 0 56 (dk_at dksX5_readText_0 21 rfl rfl)
theorem dX5_readText_24 : decode cX5_readText 24 = .ok (.iconst 1, 1) := dk_4 (dk_at dksX5_readText_1 0 rfl rfl)
theorem dX5_readText_25 : decode cX5_readText 25 = .ok (.iconst 0, 1) := dk_3 (dk_at dksX5_readText_1 1 rfl rfl)
theorem dX5_readText_26 : decode cX5_readText 26 = .ok (.iastore, 1) := dk_79 (dk_at dksX5_readText_1 2 rfl rfl)
theorem dX5_readText_27 : decode cX5_readText 27 = .ok (.aload_n 0, 1) := dk_42 (dk_at dksX5_readText_1 3 rfl rfl)
theorem dX5_readText_28 : decode cX5_readText 28 = .ok (.invokevirtual 235, 3) := dk_182 0 235 (dk_at dksX5_readText_1 4 rfl rfl)
theorem dX5_readText_31 : decode cX5_readText 31 = .ok (.aload_n 0, 1) := dk_42 (dk_at dksX5_readText_1 7 rfl rfl)
theorem dX5_readText_32 : decode cX5_readText 32 = .ok (.getfield 187, 3) := dk_180 0 187 (dk_at dksX5_readText_1 8 rfl rfl)
theorem dX5_readText_35 : decode cX5_readText 35 = .ok (.ifCond .ge 29, 3) := dk_156 0 29 (dk_at dksX5_readText_1 11 rfl rfl)
theorem dX5_readText_38 : decode cX5_readText 38 = .ok (.aload_n 0, 1) := dk_42 (dk_at dksX5_readText_1 14 rfl rfl)
theorem dX5_readText_39 : decode cX5_readText 39 = .ok (.invokevirtual 199, 3) := dk_182 0 199 (dk_at dksX5_readText_1 15 rfl rfl)
theorem dX5_readText_42 : decode cX5_readText 42 = .ok (.bipush 59, 2) := dk_16 59 (dk_at dksX5_readText_1 18 rfl rfl)
theorem dX5_readText_44 : decode cX5_readText 44 = .ok (.if_icmp .ne 20, 3) := dk_160 0 20 (dk_at dksX5_readText_1 20 rfl rfl)
theorem dX5_readText_47 : decode cX5_readText 47 = .ok (.aload_n 0, 1) := dk_42 (dk_at dksX5_readText_1 23 rfl rfl)
theorem dX5_readText_48 : decode cX5_readText 48 = .ok (.dup, 1) := dk_89 (dk_at dksX5_readText_2 0 rfl rfl)
theorem dX5_readText_49 : decode cX5_readText 49 = .ok (.getfield 184, 3) := dk_180 0 184 (dk_at dksX5_readText_2 1 rfl rfl)
theorem dX5_readText_52 : decode cX5_readText 52 = .ok (.iconst 1, 1) := dk_4 (dk_at dksX5_readText_2 4 rfl rfl)
theorem dX5_readText_53 : decode cX5_readText 53 = .ok (.iadd, 1) := dk_96 (dk_at dksX5_readText_2 5 rfl rfl)
theorem dX5_readText_54 : decode cX5_readText 54 = .ok (.putfield 184, 3) := dk_181 0 184 (dk_at dksX5_readText_2 6 rfl rfl)
theorem dX5_readText_57 : decode cX5_readText 57 = .ok (.aload_n 0, 1) := dk_42 (dk_at dksX5_readText_2 9 rfl rfl)
theorem dX5_readText_58 : decode cX5_readText 58 = .ok (.invokevirtual 235, 3) := dk_182 0 235 (dk_at dksX5_readText_2 10 rfl rfl)
theorem dX5_readText_61 : decode cX5_readText 61 = .ok (.goto (-30), 3) := dk_167 255 226 (dk_at dksX5_readText_2 13 rfl rfl)
theorem dX5_readText_64 : decode cX5_readText 64 = .ok (.aload_n 0, 1) := dk_42 (dk_at dksX5_readText_2 16 rfl rfl)
theorem dX5_readText_65 : decode cX5_readText 65 = .ok (.getfield 187, 3) := dk_180 0 187 (dk_at dksX5_readText_2 17 rfl rfl)
theorem dX5_readText_68 : decode cX5_readText 68 = .ok (.ifCond .ge 18, 3) := dk_156 0 18 (dk_at dksX5_readText_2 20 rfl rfl)
theorem dX5_readText_71 : decode cX5_readText 71 = .ok (.aload_n 0, 1) := dk_42 (dk_at dksX5_readText_2 23 rfl rfl)
theorem dX5_readText_72 : decode cX5_readText 72 = .ok (.getfield 184, 3) := dk_180 0 184 (dk_at dksX5_readText_3 0 rfl rfl)
theorem dX5_readText_75 : decode cX5_readText 75 = .ok (.aload_n 0, 1) := dk_42 (dk_at dksX5_readText_3 3 rfl rfl)
theorem dX5_readText_76 : decode cX5_readText 76 = .ok (.getfield 181, 3) := dk_180 0 181 (dk_at dksX5_readText_3 4 rfl rfl)
theorem dX5_readText_79 : decode cX5_readText 79 = .ok (.if_icmp .ge 7, 3) := dk_162 0 7 (dk_at dksX5_readText_3 7 rfl rfl)
theorem dX5_readText_82 : decode cX5_readText 82 = .ok (.aload_n 0, 1) := dk_42 (dk_at dksX5_readText_3 10 rfl rfl)
theorem dX5_readText_83 : decode cX5_readText 83 = .ok (.invokevirtual 196, 3) := dk_182 0 196 (dk_at dksX5_readText_3 11 rfl rfl)
theorem dX5_readText_86 : decode cX5_readText 86 = .ok (.aload_n 0, 1) := dk_42 (dk_at dksX5_readText_3 14 rfl rfl)
theorem dX5_readText_87 : decode cX5_readText 87 = .ok (.iconst 0, 1) := dk_3 (dk_at dksX5_readText_3 15 rfl rfl)
theorem dX5_readText_88 : decode cX5_readText 88 = .ok (.putfield 181, 3) := dk_181 0 181 (dk_at dksX5_readText_3 16 rfl rfl)
theorem dX5_readText_91 : decode cX5_readText 91 = .ok (.aload_n 0, 1) := dk_42 (dk_at dksX5_readText_3 19 rfl rfl)
theorem dX5_readText_92 : decode cX5_readText 92 = .ok (.getfield 187, 3) := dk_180 0 187 (dk_at dksX5_readText_3 20 rfl rfl)
theorem dX5_readText_95 : decode cX5_readText 95 = .ok (.ifCond .lt 8, 3) := dk_155 0 8 (dk_at dksX5_readText_4 0 rfl rfl)
theorem dX5_readText_98 : decode cX5_readText 98 = .ok (.aload_n 0, 1) := dk_42 (dk_at dksX5_readText_4 3 rfl rfl)
theorem dX5_readText_99 : decode cX5_readText 99 = .ok (.getfield 187, 3) := dk_180 0 187 (dk_at dksX5_readText_4 4 rfl rfl)
theorem dX5_readText_102 : decode cX5_readText 102 = .ok (.ireturn, 1) := dk_172 (dk_at dksX5_readText_4 7 rfl rfl)
theorem dX5_readText_103 : decode cX5_readText 103 = .ok (.iconst 0, 1) := dk_3 (dk_at dksX5_readText_4 8 rfl rfl)
theorem dX5_readText_104 : decode cX5_readText 104 = .ok (.istore_n 2, 1) := dk_61 (dk_at dksX5_readText_4 9 rfl rfl)
theorem dX5_readText_105 : decode cX5_readText 105 = .ok (.iload_n 2, 1) := dk_28 (dk_at dksX5_readText_4 10 rfl rfl)
theorem dX5_readText_106 : decode cX5_readText 106 = .ok (.aload_n 0, 1) := dk_42 (dk_at dksX5_readText_4 11 rfl rfl)
theorem dX5_readText_107 : decode cX5_readText 107 = .ok (.getfield 190, 3) := dk_180 0 190 (dk_at dksX5_readText_4 12 rfl rfl)
theorem dX5_readText_110 : decode cX5_readText 110 = .ok (.if_icmp .ge 53, 3) := dk_162 0 53 (dk_at dksX5_readText_4 15 rfl rfl)
theorem dX5_readText_113 : decode cX5_readText 113 = .ok (.aload_n 0, 1) := dk_42 (dk_at dksX5_readText_4 18 rfl rfl)
theorem dX5_readText_114 : decode cX5_readText 114 = .ok (.getfield 50, 3) := dk_180 0 50 (dk_at dksX5_readText_4 19 rfl rfl)
theorem dX5_readText_117 : decode cX5_readText 117 = .ok (.sipush 130, 3) := dk_17 0 130 (dk_at dksX5_readText_5 0 rfl rfl)
theorem dX5_readText_120 : decode cX5_readText 120 = .ok (.iload_n 1, 1) := dk_27 (dk_at dksX5_readText_5 3 rfl rfl)
theorem dX5_readText_121 : decode cX5_readText 121 = .ok (.imul, 1) := dk_104 (dk_at dksX5_readText_5 4 rfl rfl)
theorem dX5_readText_122 : decode cX5_readText 122 = .ok (.iload_n 2, 1) := dk_28 (dk_at dksX5_readText_5 5 rfl rfl)
theorem dX5_readText_123 : decode cX5_readText 123 = .ok (.iadd, 1) := dk_96 (dk_at dksX5_readText_5 6 rfl rfl)
theorem dX5_readText_124 : decode cX5_readText 124 = .ok (.aload_n 0, 1) := dk_42 (dk_at dksX5_readText_5 7 rfl rfl)
theorem dX5_readText_125 : decode cX5_readText 125 = .ok (.getfield 50, 3) := dk_180 0 50 (dk_at dksX5_readText_5 8 rfl rfl)
theorem dX5_readText_128 : decode cX5_readText 128 = .ok (.sipush 130, 3) := dk_17 0 130 (dk_at dksX5_readText_5 11 rfl rfl)
theorem dX5_readText_131 : decode cX5_readText 131 = .ok (.iload_n 2, 1) := dk_28 (dk_at dksX5_readText_5 14 rfl rfl)
theorem dX5_readText_132 : decode cX5_readText 132 = .ok (.iadd, 1) := dk_96 (dk_at dksX5_readText_5 15 rfl rfl)
theorem dX5_readText_133 : decode cX5_readText 133 = .ok (.baload, 1) := dk_51 (dk_at dksX5_readText_5 16 rfl rfl)
theorem dX5_readText_134 : decode cX5_readText 134 = .ok (.bastore, 1) := dk_84 (dk_at dksX5_readText_5 17 rfl rfl)
theorem dX5_readText_135 : decode cX5_readText 135 = .ok (.aload_n 0, 1) := dk_42 (dk_at dksX5_readText_5 18 rfl rfl)
theorem dX5_readText_136 : decode cX5_readText 136 = .ok (.getfield 53, 3) := dk_180 0 53 (dk_at dksX5_readText_5 19 rfl rfl)
theorem dX5_readText_139 : decode cX5_readText 139 = .ok (.sipush 130, 3) := dk_17 0 130 (dk_at dksX5_readText_6 0 rfl rfl)
theorem dX5_readText_142 : decode cX5_readText 142 = .ok (.iload_n 1, 1) := dk_27 (dk_at dksX5_readText_6 3 rfl rfl)
theorem dX5_readText_143 : decode cX5_readText 143 = .ok (.imul, 1) := dk_104 (dk_at dksX5_readText_6 4 rfl rfl)
theorem dX5_readText_144 : decode cX5_readText 144 = .ok (.iload_n 2, 1) := dk_28 (dk_at dksX5_readText_6 5 rfl rfl)
theorem dX5_readText_145 : decode cX5_readText 145 = .ok (.iadd, 1) := dk_96 (dk_at dksX5_readText_6 6 rfl rfl)
theorem dX5_readText_146 : decode cX5_readText 146 = .ok (.aload_n 0, 1) := dk_42 (dk_at dksX5_readText_6 7 rfl rfl)
theorem dX5_readText_147 : decode cX5_readText 147 = .ok (.getfield 53, 3) := dk_180 0 53 (dk_at dksX5_readText_6 8 rfl rfl)
theorem dX5_readText_150 : decode cX5_readText 150 = .ok (.sipush 130, 3) := dk_17 0 130 (dk_at dksX5_readText_6 11 rfl rfl)
theorem dX5_readText_153 : decode cX5_readText 153 = .ok (.iload_n 2, 1) := dk_28 (dk_at dksX5_readText_6 14 rfl rfl)
theorem dX5_readText_154 : decode cX5_readText 154 = .ok (.iadd, 1) := dk_96 (dk_at dksX5_readText_6 15 rfl rfl)
theorem dX5_readText_155 : decode cX5_readText 155 = .ok (.iaload, 1) := dk_46 (dk_at dksX5_readText_6 16 rfl rfl)
theorem dX5_readText_156 : decode cX5_readText 156 = .ok (.iastore, 1) := dk_79 (dk_at dksX5_readText_6 17 rfl rfl)
theorem dX5_readText_157 : decode cX5_readText 157 = .ok (.iinc 2 1, 3) := dk_132 2 1 (dk_at dksX5_readText_6 18 rfl rfl)
theorem dX5_readText_160 : decode cX5_readText 160 = .ok (.goto (-55), 3) := dk_167 255 201 (dk_at dksX5_readText_6 21 rfl rfl)
theorem dX5_readText_163 : decode cX5_readText 163 = .ok (.aload_n 0, 1) := dk_42 (dk_at dksX5_readText_7 0 rfl rfl)
theorem dX5_readText_164 : decode cX5_readText 164 = .ok (.getfield 56, 3) := dk_180 0 56 (dk_at dksX5_readText_7 1 rfl rfl)
theorem dX5_readText_167 : decode cX5_readText 167 = .ok (.iload_n 1, 1) := dk_27 (dk_at dksX5_readText_7 4 rfl rfl)
theorem dX5_readText_168 : decode cX5_readText 168 = .ok (.aload_n 0, 1) := dk_42 (dk_at dksX5_readText_7 5 rfl rfl)
theorem dX5_readText_169 : decode cX5_readText 169 = .ok (.getfield 56, 3) := dk_180 0 56 (dk_at dksX5_readText_7 6 rfl rfl)
theorem dX5_readText_172 : decode cX5_readText 172 = .ok (.iconst 1, 1) := dk_4 (dk_at dksX5_readText_7 9 rfl rfl)
theorem dX5_readText_173 : decode cX5_readText 173 = .ok (.iaload, 1) := dk_46 (dk_at dksX5_readText_7 10 rfl rfl)
theorem dX5_readText_174 : decode cX5_readText 174 = .ok (.iastore, 1) := dk_79 (dk_at dksX5_readText_7 11 rfl rfl)
theorem dX5_readText_175 : decode cX5_readText 175 = .ok (.iconst 0, 1) := dk_3 (dk_at dksX5_readText_7 12 rfl rfl)
theorem dX5_readText_176 : decode cX5_readText 176 = .ok (.istore_n 2, 1) := dk_61 (dk_at dksX5_readText_7 13 rfl rfl)
theorem dX5_readText_177 : decode cX5_readText 177 = .ok (.iload_n 2, 1) := dk_28 (dk_at dksX5_readText_7 14 rfl rfl)
theorem dX5_readText_178 : decode cX5_readText 178 = .ok (.aload_n 0, 1) := dk_42 (dk_at dksX5_readText_7 15 rfl rfl)
theorem dX5_readText_179 : decode cX5_readText 179 = .ok (.getfield 56, 3) := dk_180 0 56 (dk_at dksX5_readText_7 16 rfl rfl)
theorem dX5_readText_182 : decode cX5_readText 182 = .ok (.iload_n 1, 1) := dk_27 (dk_at dksX5_readText_7 19 rfl rfl)
theorem dX5_readText_183 : decode cX5_readText 183 = .ok (.iaload, 1) := dk_46 (dk_at dksX5_readText_7 20 rfl rfl)
theorem dX5_readText_184 : decode cX5_readText 184 = .ok (.if_icmp .ge 49, 3) := dk_162 0 49 (dk_at dksX5_readText_7 21 rfl rfl)
theorem dX5_readText_187 : decode cX5_readText 187 = .ok (.aload_n 0, 1) := dk_42 (dk_at dksX5_readText_8 0 rfl rfl)
theorem dX5_readText_188 : decode cX5_readText 188 = .ok (.getfield 59, 3) := dk_180 0 59 (dk_at dksX5_readText_8 1 rfl rfl)
theorem dX5_readText_191 : decode cX5_readText 191 = .ok (.bipush 61, 2) := dk_16 61 (dk_at dksX5_readText_8 4 rfl rfl)
theorem dX5_readText_193 : decode cX5_readText 193 = .ok (.iload_n 1, 1) := dk_27 (dk_at dksX5_readText_8 6 rfl rfl)
theorem dX5_readText_194 : decode cX5_readText 194 = .ok (.imul, 1) := dk_104 (dk_at dksX5_readText_8 7 rfl rfl)
theorem dX5_readText_195 : decode cX5_readText 195 = .ok (.iload_n 2, 1) := dk_28 (dk_at dksX5_readText_8 8 rfl rfl)
theorem dX5_readText_196 : decode cX5_readText 196 = .ok (.iadd, 1) := dk_96 (dk_at dksX5_readText_8 9 rfl rfl)
theorem dX5_readText_197 : decode cX5_readText 197 = .ok (.aload_n 0, 1) := dk_42 (dk_at dksX5_readText_8 10 rfl rfl)
theorem dX5_readText_198 : decode cX5_readText 198 = .ok (.getfield 59, 3) := dk_180 0 59 (dk_at dksX5_readText_8 11 rfl rfl)
theorem dX5_readText_201 : decode cX5_readText 201 = .ok (.bipush 61, 2) := dk_16 61 (dk_at dksX5_readText_8 14 rfl rfl)
theorem dX5_readText_203 : decode cX5_readText 203 = .ok (.iload_n 2, 1) := dk_28 (dk_at dksX5_readText_8 16 rfl rfl)
theorem dX5_readText_204 : decode cX5_readText 204 = .ok (.iadd, 1) := dk_96 (dk_at dksX5_readText_8 17 rfl rfl)
theorem dX5_readText_205 : decode cX5_readText 205 = .ok (.saload, 1) := dk_53 (dk_at dksX5_readText_8 18 rfl rfl)
theorem dX5_readText_206 : decode cX5_readText 206 = .ok (.sastore, 1) := dk_86 (dk_at dksX5_readText_8 19 rfl rfl)
theorem dX5_readText_207 : decode cX5_readText 207 = .ok (.aload_n 0, 1) := dk_42 (dk_at dksX5_readText_8 20 rfl rfl)
theorem dX5_readText_208 : decode cX5_readText 208 = .ok (.getfield 63, 3) := dk_180 0 63 (dk_at dksX5_readText_8 21 rfl rfl)
theorem dX5_readText_211 : decode cX5_readText 211 = .ok (.bipush 61, 2) := dk_16 61 (dk_at dksX5_readText_9 0 rfl rfl)
theorem dX5_readText_213 : decode cX5_readText 213 = .ok (.iload_n 1, 1) := dk_27 (dk_at dksX5_readText_9 2 rfl rfl)
theorem dX5_readText_214 : decode cX5_readText 214 = .ok (.imul, 1) := dk_104 (dk_at dksX5_readText_9 3 rfl rfl)
theorem dX5_readText_215 : decode cX5_readText 215 = .ok (.iload_n 2, 1) := dk_28 (dk_at dksX5_readText_9 4 rfl rfl)
theorem dX5_readText_216 : decode cX5_readText 216 = .ok (.iadd, 1) := dk_96 (dk_at dksX5_readText_9 5 rfl rfl)
theorem dX5_readText_217 : decode cX5_readText 217 = .ok (.aload_n 0, 1) := dk_42 (dk_at dksX5_readText_9 6 rfl rfl)
theorem dX5_readText_218 : decode cX5_readText 218 = .ok (.getfield 63, 3) := dk_180 0 63 (dk_at dksX5_readText_9 7 rfl rfl)
theorem dX5_readText_221 : decode cX5_readText 221 = .ok (.bipush 61, 2) := dk_16 61 (dk_at dksX5_readText_9 10 rfl rfl)
theorem dX5_readText_223 : decode cX5_readText 223 = .ok (.iload_n 2, 1) := dk_28 (dk_at dksX5_readText_9 12 rfl rfl)
theorem dX5_readText_224 : decode cX5_readText 224 = .ok (.iadd, 1) := dk_96 (dk_at dksX5_readText_9 13 rfl rfl)
theorem dX5_readText_225 : decode cX5_readText 225 = .ok (.saload, 1) := dk_53 (dk_at dksX5_readText_9 14 rfl rfl)
theorem dX5_readText_226 : decode cX5_readText 226 = .ok (.sastore, 1) := dk_86 (dk_at dksX5_readText_9 15 rfl rfl)
theorem dX5_readText_227 : decode cX5_readText 227 = .ok (.iinc 2 1, 3) := dk_132 2 1 (dk_at dksX5_readText_9 16 rfl rfl)
theorem dX5_readText_230 : decode cX5_readText 230 = .ok (.goto (-53), 3) := dk_167 255 203 (dk_at dksX5_readText_9 19 rfl rfl)
theorem dX5_readText_233 : decode cX5_readText 233 = .ok (.iconst (-1), 1) := dk_2 (dk_at dksX5_readText_9 22 rfl rfl)
theorem dX5_readText_234 : decode cX5_readText 234 = .ok (.ireturn, 1) := dk_172 (dk_at dksX5_readText_9 23 rfl rfl)
abbrev cX5_line : ByteArray := prog_25_method_42_code
def yX5_line : MethodName := ⟨RX5, "line", "()V"⟩
def dkwX5_line_3 : List UInt8 := [27, 42, 180, 0, 190, 147, 86, 42, 180, 0, 56, 4, 92, 46, 4, 96, 79, 177]
abbrev dktX5_line_3 : List UInt8 := dkwX5_line_3 ++ []
def dkwX5_line_2 : List UInt8 := [4, 96, 181, 0, 184, 42, 180, 0, 59, 27, 42, 180, 0, 190, 147, 86, 42, 182, 0, 217, 42, 180, 0, 63]
abbrev dktX5_line_2 : List UInt8 := dkwX5_line_2 ++ dktX5_line_3
def dkwX5_line_1 : List UInt8 := [182, 0, 217, 42, 180, 0, 187, 156, 0, 37, 42, 182, 0, 199, 16, 63, 160, 0, 28, 42, 89, 180, 0, 184]
abbrev dktX5_line_1 : List UInt8 := dkwX5_line_1 ++ dktX5_line_2
def dkwX5_line_0 : List UInt8 := [16, 61, 42, 180, 0, 56, 4, 46, 96, 60, 42, 180, 0, 59, 27, 42, 180, 0, 190, 147, 86, 42]
abbrev dktX5_line_0 : List UInt8 := dkwX5_line_0 ++ dktX5_line_1
theorem dksX5_line_0 : cX5_line.data.toList.drop 0 = dktX5_line_0 := by decide +kernel
theorem dksX5_line_1 : cX5_line.data.toList.drop 22 = dktX5_line_1 := dk_seg dksX5_line_0 22 rfl rfl
theorem dksX5_line_2 : cX5_line.data.toList.drop 46 = dktX5_line_2 := dk_seg dksX5_line_1 24 rfl rfl
theorem dksX5_line_3 : cX5_line.data.toList.drop 70 = dktX5_line_3 := dk_seg dksX5_line_2 24 rfl rfl
theorem dX5_line_0 : decode cX5_line 0 = .ok (.bipush 61, 2) := dk_16 61 (dk_at dksX5_line_0 0 rfl rfl)
theorem dX5_line_2 : decode cX5_line 2 = .ok (.aload_n 0, 1) := dk_42 (dk_at dksX5_line_0 2 rfl rfl)
theorem dX5_line_3 : decode cX5_line 3 = .ok (.getfield 56, 3) := dk_180 0 56 (dk_at dksX5_line_0 3 rfl rfl)
theorem dX5_line_6 : decode cX5_line 6 = .ok (.iconst 1, 1) := dk_4 (dk_at dksX5_line_0 6 rfl rfl)
theorem dX5_line_7 : decode cX5_line 7 = .ok (.iaload, 1) := dk_46 (dk_at dksX5_line_0 7 rfl rfl)
theorem dX5_line_8 : decode cX5_line 8 = .ok (.iadd, 1) := dk_96 (dk_at dksX5_line_0 8 rfl rfl)
theorem dX5_line_9 : decode cX5_line 9 = .ok (.istore_n 1, 1) := dk_60 (dk_at dksX5_line_0 9 rfl rfl)
theorem dX5_line_10 : decode cX5_line 10 = .ok (.aload_n 0, 1) := dk_42 (dk_at dksX5_line_0 10 rfl rfl)
theorem dX5_line_11 : decode cX5_line 11 = .ok (.getfield 59, 3) := dk_180 0 59 (dk_at dksX5_line_0 11 rfl rfl)
theorem dX5_line_14 : decode cX5_line 14 = .ok (.iload_n 1, 1) := dk_27 (dk_at dksX5_line_0 14 rfl rfl)
theorem dX5_line_15 : decode cX5_line 15 = .ok (.aload_n 0, 1) := dk_42 (dk_at dksX5_line_0 15 rfl rfl)
theorem dX5_line_16 : decode cX5_line 16 = .ok (.getfield 190, 3) := dk_180 0 190 (dk_at dksX5_line_0 16 rfl rfl)
theorem dX5_line_19 : decode cX5_line 19 = .ok (.i2s, 1) := dk_147 (dk_at dksX5_line_0 19 rfl rfl)
theorem dX5_line_20 : decode cX5_line 20 = .ok (.sastore, 1) := dk_86 (dk_at dksX5_line_0 20 rfl rfl)
theorem dX5_line_21 : decode cX5_line 21 = .ok (.aload_n 0, 1) := dk_42 (dk_at dksX5_line_0 21 rfl rfl)
theorem dX5_line_22 : decode cX5_line 22 = .ok (.invokevirtual 217, 3) := dk_182 0 217 (dk_at dksX5_line_1 0 rfl rfl)
theorem dX5_line_25 : decode cX5_line 25 = .ok (.aload_n 0, 1) := dk_42 (dk_at dksX5_line_1 3 rfl rfl)
theorem dX5_line_26 : decode cX5_line 26 = .ok (.getfield 187, 3) := dk_180 0 187 (dk_at dksX5_line_1 4 rfl rfl)
theorem dX5_line_29 : decode cX5_line 29 = .ok (.ifCond .ge 37, 3) := dk_156 0 37 (dk_at dksX5_line_1 7 rfl rfl)
theorem dX5_line_32 : decode cX5_line 32 = .ok (.aload_n 0, 1) := dk_42 (dk_at dksX5_line_1 10 rfl rfl)
theorem dX5_line_33 : decode cX5_line 33 = .ok (.invokevirtual 199, 3) := dk_182 0 199 (dk_at dksX5_line_1 11 rfl rfl)
theorem dX5_line_36 : decode cX5_line 36 = .ok (.bipush 63, 2) := dk_16 63 (dk_at dksX5_line_1 14 rfl rfl)
theorem dX5_line_38 : decode cX5_line 38 = .ok (.if_icmp .ne 28, 3) := dk_160 0 28 (dk_at dksX5_line_1 16 rfl rfl)
theorem dX5_line_41 : decode cX5_line 41 = .ok (.aload_n 0, 1) := dk_42 (dk_at dksX5_line_1 19 rfl rfl)
theorem dX5_line_42 : decode cX5_line 42 = .ok (.dup, 1) := dk_89 (dk_at dksX5_line_1 20 rfl rfl)
theorem dX5_line_43 : decode cX5_line 43 = .ok (.getfield 184, 3) := dk_180 0 184 (dk_at dksX5_line_1 21 rfl rfl)
theorem dX5_line_46 : decode cX5_line 46 = .ok (.iconst 1, 1) := dk_4 (dk_at dksX5_line_2 0 rfl rfl)
theorem dX5_line_47 : decode cX5_line 47 = .ok (.iadd, 1) := dk_96 (dk_at dksX5_line_2 1 rfl rfl)
theorem dX5_line_48 : decode cX5_line 48 = .ok (.putfield 184, 3) := dk_181 0 184 (dk_at dksX5_line_2 2 rfl rfl)
theorem dX5_line_51 : decode cX5_line 51 = .ok (.aload_n 0, 1) := dk_42 (dk_at dksX5_line_2 5 rfl rfl)
theorem dX5_line_52 : decode cX5_line 52 = .ok (.getfield 59, 3) := dk_180 0 59 (dk_at dksX5_line_2 6 rfl rfl)
theorem dX5_line_55 : decode cX5_line 55 = .ok (.iload_n 1, 1) := dk_27 (dk_at dksX5_line_2 9 rfl rfl)
theorem dX5_line_56 : decode cX5_line 56 = .ok (.aload_n 0, 1) := dk_42 (dk_at dksX5_line_2 10 rfl rfl)
theorem dX5_line_57 : decode cX5_line 57 = .ok (.getfield 190, 3) := dk_180 0 190 (dk_at dksX5_line_2 11 rfl rfl)
theorem dX5_line_60 : decode cX5_line 60 = .ok (.i2s, 1) := dk_147 (dk_at dksX5_line_2 14 rfl rfl)
theorem dX5_line_61 : decode cX5_line 61 = .ok (.sastore, 1) := dk_86 (dk_at dksX5_line_2 15 rfl rfl)
theorem dX5_line_62 : decode cX5_line 62 = .ok (.aload_n 0, 1) := dk_42 (dk_at dksX5_line_2 16 rfl rfl)
theorem dX5_line_63 : decode cX5_line 63 = .ok (.invokevirtual 217, 3) := dk_182 0 217 (dk_at dksX5_line_2 17 rfl rfl)
theorem dX5_line_66 : decode cX5_line 66 = .ok (.aload_n 0, 1) := dk_42 (dk_at dksX5_line_2 20 rfl rfl)
theorem dX5_line_67 : decode cX5_line 67 = .ok (.getfield 63, 3) := dk_180 0 63 (dk_at dksX5_line_2 21 rfl rfl)
theorem dX5_line_70 : decode cX5_line 70 = .ok (.iload_n 1, 1) := dk_27 (dk_at dksX5_line_3 0 rfl rfl)
theorem dX5_line_71 : decode cX5_line 71 = .ok (.aload_n 0, 1) := dk_42 (dk_at dksX5_line_3 1 rfl rfl)
theorem dX5_line_72 : decode cX5_line 72 = .ok (.getfield 190, 3) := dk_180 0 190 (dk_at dksX5_line_3 2 rfl rfl)
theorem dX5_line_75 : decode cX5_line 75 = .ok (.i2s, 1) := dk_147 (dk_at dksX5_line_3 5 rfl rfl)
theorem dX5_line_76 : decode cX5_line 76 = .ok (.sastore, 1) := dk_86 (dk_at dksX5_line_3 6 rfl rfl)
theorem dX5_line_77 : decode cX5_line 77 = .ok (.aload_n 0, 1) := dk_42 (dk_at dksX5_line_3 7 rfl rfl)
theorem dX5_line_78 : decode cX5_line 78 = .ok (.getfield 56, 3) := dk_180 0 56 (dk_at dksX5_line_3 8 rfl rfl)
theorem dX5_line_81 : decode cX5_line 81 = .ok (.iconst 1, 1) := dk_4 (dk_at dksX5_line_3 11 rfl rfl)
theorem dX5_line_82 : decode cX5_line 82 = .ok (.dup2, 1) := dk_92 (dk_at dksX5_line_3 12 rfl rfl)
theorem dX5_line_83 : decode cX5_line 83 = .ok (.iaload, 1) := dk_46 (dk_at dksX5_line_3 13 rfl rfl)
theorem dX5_line_84 : decode cX5_line 84 = .ok (.iconst 1, 1) := dk_4 (dk_at dksX5_line_3 14 rfl rfl)
theorem dX5_line_85 : decode cX5_line 85 = .ok (.iadd, 1) := dk_96 (dk_at dksX5_line_3 15 rfl rfl)
theorem dX5_line_86 : decode cX5_line 86 = .ok (.iastore, 1) := dk_79 (dk_at dksX5_line_3 16 rfl rfl)
theorem dX5_line_87 : decode cX5_line 87 = .ok (.return_, 1) := dk_177 (dk_at dksX5_line_3 17 rfl rfl)
abbrev cX5_either : ByteArray := prog_25_method_41_code
def yX5_either : MethodName := ⟨RX5, "either", "()V"⟩
def dkwX5_either_1 : List UInt8 := [180, 0, 184, 4, 96, 181, 0, 184, 42, 182, 0, 232, 42, 16, 124, 3, 182, 0, 203, 167, 255, 219, 177]
abbrev dktX5_either_1 : List UInt8 := dkwX5_either_1 ++ []
def dkwX5_either_0 : List UInt8 := [42, 182, 0, 232, 42, 180, 0, 187, 156, 0, 36, 42, 182, 0, 199, 16, 124, 160, 0, 27, 42, 89]
abbrev dktX5_either_0 : List UInt8 := dkwX5_either_0 ++ dktX5_either_1
theorem dksX5_either_0 : cX5_either.data.toList.drop 0 = dktX5_either_0 := by decide +kernel
theorem dksX5_either_1 : cX5_either.data.toList.drop 22 = dktX5_either_1 := dk_seg dksX5_either_0 22 rfl rfl
theorem dX5_either_0 : decode cX5_either 0 = .ok (.aload_n 0, 1) := dk_42 (dk_at dksX5_either_0 0 rfl rfl)
theorem dX5_either_1 : decode cX5_either 1 = .ok (.invokevirtual 232, 3) := dk_182 0 232 (dk_at dksX5_either_0 1 rfl rfl)
theorem dX5_either_4 : decode cX5_either 4 = .ok (.aload_n 0, 1) := dk_42 (dk_at dksX5_either_0 4 rfl rfl)
theorem dX5_either_5 : decode cX5_either 5 = .ok (.getfield 187, 3) := dk_180 0 187 (dk_at dksX5_either_0 5 rfl rfl)
theorem dX5_either_8 : decode cX5_either 8 = .ok (.ifCond .ge 36, 3) := dk_156 0 36 (dk_at dksX5_either_0 8 rfl rfl)
theorem dX5_either_11 : decode cX5_either 11 = .ok (.aload_n 0, 1) := dk_42 (dk_at dksX5_either_0 11 rfl rfl)
theorem dX5_either_12 : decode cX5_either 12 = .ok (.invokevirtual 199, 3) := dk_182 0 199 (dk_at dksX5_either_0 12 rfl rfl)
theorem dX5_either_15 : decode cX5_either 15 = .ok (.bipush 124, 2) := dk_16 124 (dk_at dksX5_either_0 15 rfl rfl)
theorem dX5_either_17 : decode cX5_either 17 = .ok (.if_icmp .ne 27, 3) := dk_160 0 27 (dk_at dksX5_either_0 17 rfl rfl)
theorem dX5_either_20 : decode cX5_either 20 = .ok (.aload_n 0, 1) := dk_42 (dk_at dksX5_either_0 20 rfl rfl)
theorem dX5_either_21 : decode cX5_either 21 = .ok (.dup, 1) := dk_89 (dk_at dksX5_either_0 21 rfl rfl)
theorem dX5_either_22 : decode cX5_either 22 = .ok (.getfield 184, 3) := dk_180 0 184 (dk_at dksX5_either_1 0 rfl rfl)
theorem dX5_either_25 : decode cX5_either 25 = .ok (.iconst 1, 1) := dk_4 (dk_at dksX5_either_1 3 rfl rfl)
theorem dX5_either_26 : decode cX5_either 26 = .ok (.iadd, 1) := dk_96 (dk_at dksX5_either_1 4 rfl rfl)
theorem dX5_either_27 : decode cX5_either 27 = .ok (.putfield 184, 3) := dk_181 0 184 (dk_at dksX5_either_1 5 rfl rfl)
theorem dX5_either_30 : decode cX5_either 30 = .ok (.aload_n 0, 1) := dk_42 (dk_at dksX5_either_1 8 rfl rfl)
theorem dX5_either_31 : decode cX5_either 31 = .ok (.invokevirtual 232, 3) := dk_182 0 232 (dk_at dksX5_either_1 9 rfl rfl)
theorem dX5_either_34 : decode cX5_either 34 = .ok (.aload_n 0, 1) := dk_42 (dk_at dksX5_either_1 12 rfl rfl)
theorem dX5_either_35 : decode cX5_either 35 = .ok (.bipush 124, 2) := dk_16 124 (dk_at dksX5_either_1 13 rfl rfl)
theorem dX5_either_37 : decode cX5_either 37 = .ok (.iconst 0, 1) := dk_3 (dk_at dksX5_either_1 15 rfl rfl)
theorem dX5_either_38 : decode cX5_either 38 = .ok (.invokevirtual 203, 3) := dk_182 0 203 (dk_at dksX5_either_1 16 rfl rfl)
theorem dX5_either_41 : decode cX5_either 41 = .ok (.goto (-37), 3) := dk_167 255 219 (dk_at dksX5_either_1 19 rfl rfl)
theorem dX5_either_44 : decode cX5_either 44 = .ok (.return_, 1) := dk_177 (dk_at dksX5_either_1 22 rfl rfl)
abbrev cX5_both : ByteArray := prog_25_method_40_code
def yX5_both : MethodName := ⟨RX5, "both", "()V"⟩
def dkwX5_both_1 : List UInt8 := [180, 0, 184, 4, 96, 181, 0, 184, 42, 182, 0, 229, 42, 16, 38, 3, 182, 0, 203, 167, 255, 219, 177]
abbrev dktX5_both_1 : List UInt8 := dkwX5_both_1 ++ []
def dkwX5_both_0 : List UInt8 := [42, 182, 0, 229, 42, 180, 0, 187, 156, 0, 36, 42, 182, 0, 199, 16, 38, 160, 0, 27, 42, 89]
abbrev dktX5_both_0 : List UInt8 := dkwX5_both_0 ++ dktX5_both_1
theorem dksX5_both_0 : cX5_both.data.toList.drop 0 = dktX5_both_0 := by decide +kernel
theorem dksX5_both_1 : cX5_both.data.toList.drop 22 = dktX5_both_1 := dk_seg dksX5_both_0 22 rfl rfl
theorem dX5_both_0 : decode cX5_both 0 = .ok (.aload_n 0, 1) := dk_42 (dk_at dksX5_both_0 0 rfl rfl)
theorem dX5_both_1 : decode cX5_both 1 = .ok (.invokevirtual 229, 3) := dk_182 0 229 (dk_at dksX5_both_0 1 rfl rfl)
theorem dX5_both_4 : decode cX5_both 4 = .ok (.aload_n 0, 1) := dk_42 (dk_at dksX5_both_0 4 rfl rfl)
theorem dX5_both_5 : decode cX5_both 5 = .ok (.getfield 187, 3) := dk_180 0 187 (dk_at dksX5_both_0 5 rfl rfl)
theorem dX5_both_8 : decode cX5_both 8 = .ok (.ifCond .ge 36, 3) := dk_156 0 36 (dk_at dksX5_both_0 8 rfl rfl)
theorem dX5_both_11 : decode cX5_both 11 = .ok (.aload_n 0, 1) := dk_42 (dk_at dksX5_both_0 11 rfl rfl)
theorem dX5_both_12 : decode cX5_both 12 = .ok (.invokevirtual 199, 3) := dk_182 0 199 (dk_at dksX5_both_0 12 rfl rfl)
theorem dX5_both_15 : decode cX5_both 15 = .ok (.bipush 38, 2) := dk_16 38 (dk_at dksX5_both_0 15 rfl rfl)
theorem dX5_both_17 : decode cX5_both 17 = .ok (.if_icmp .ne 27, 3) := dk_160 0 27 (dk_at dksX5_both_0 17 rfl rfl)
theorem dX5_both_20 : decode cX5_both 20 = .ok (.aload_n 0, 1) := dk_42 (dk_at dksX5_both_0 20 rfl rfl)
theorem dX5_both_21 : decode cX5_both 21 = .ok (.dup, 1) := dk_89 (dk_at dksX5_both_0 21 rfl rfl)
theorem dX5_both_22 : decode cX5_both 22 = .ok (.getfield 184, 3) := dk_180 0 184 (dk_at dksX5_both_1 0 rfl rfl)
theorem dX5_both_25 : decode cX5_both 25 = .ok (.iconst 1, 1) := dk_4 (dk_at dksX5_both_1 3 rfl rfl)
theorem dX5_both_26 : decode cX5_both 26 = .ok (.iadd, 1) := dk_96 (dk_at dksX5_both_1 4 rfl rfl)
theorem dX5_both_27 : decode cX5_both 27 = .ok (.putfield 184, 3) := dk_181 0 184 (dk_at dksX5_both_1 5 rfl rfl)
theorem dX5_both_30 : decode cX5_both 30 = .ok (.aload_n 0, 1) := dk_42 (dk_at dksX5_both_1 8 rfl rfl)
theorem dX5_both_31 : decode cX5_both 31 = .ok (.invokevirtual 229, 3) := dk_182 0 229 (dk_at dksX5_both_1 9 rfl rfl)
theorem dX5_both_34 : decode cX5_both 34 = .ok (.aload_n 0, 1) := dk_42 (dk_at dksX5_both_1 12 rfl rfl)
theorem dX5_both_35 : decode cX5_both 35 = .ok (.bipush 38, 2) := dk_16 38 (dk_at dksX5_both_1 13 rfl rfl)
theorem dX5_both_37 : decode cX5_both 37 = .ok (.iconst 0, 1) := dk_3 (dk_at dksX5_both_1 15 rfl rfl)
theorem dX5_both_38 : decode cX5_both 38 = .ok (.invokevirtual 203, 3) := dk_182 0 203 (dk_at dksX5_both_1 16 rfl rfl)
theorem dX5_both_41 : decode cX5_both 41 = .ok (.goto (-37), 3) := dk_167 255 219 (dk_at dksX5_both_1 19 rfl rfl)
theorem dX5_both_44 : decode cX5_both 44 = .ok (.return_, 1) := dk_177 (dk_at dksX5_both_1 22 rfl rfl)
abbrev cX5_compared : ByteArray := prog_25_method_39_code
def yX5_compared : MethodName := ⟨RX5, "compared", "()V"⟩
def dkwX5_compared_2 : List UInt8 := [182, 0, 226, 42, 27, 3, 182, 0, 203, 177]
abbrev dktX5_compared_2 : List UInt8 := dkwX5_compared_2 ++ []
def dkwX5_compared_1 : List UInt8 := [16, 61, 159, 0, 10, 27, 16, 62, 159, 0, 4, 177, 42, 89, 180, 0, 184, 4, 96, 181, 0, 184, 42]
abbrev dktX5_compared_1 : List UInt8 := dkwX5_compared_1 ++ dktX5_compared_2
def dkwX5_compared_0 : List UInt8 := [42, 182, 0, 226, 42, 182, 0, 199, 60, 42, 180, 0, 187, 156, 0, 21, 27, 16, 60, 159, 0, 16, 27]
abbrev dktX5_compared_0 : List UInt8 := dkwX5_compared_0 ++ dktX5_compared_1
theorem dksX5_compared_0 : cX5_compared.data.toList.drop 0 = dktX5_compared_0 := by decide +kernel
theorem dksX5_compared_1 : cX5_compared.data.toList.drop 23 = dktX5_compared_1 := dk_seg dksX5_compared_0 23 rfl rfl
theorem dksX5_compared_2 : cX5_compared.data.toList.drop 46 = dktX5_compared_2 := dk_seg dksX5_compared_1 23 rfl rfl
theorem dX5_compared_0 : decode cX5_compared 0 = .ok (.aload_n 0, 1) := dk_42 (dk_at dksX5_compared_0 0 rfl rfl)
theorem dX5_compared_1 : decode cX5_compared 1 = .ok (.invokevirtual 226, 3) := dk_182 0 226 (dk_at dksX5_compared_0 1 rfl rfl)
theorem dX5_compared_4 : decode cX5_compared 4 = .ok (.aload_n 0, 1) := dk_42 (dk_at dksX5_compared_0 4 rfl rfl)
theorem dX5_compared_5 : decode cX5_compared 5 = .ok (.invokevirtual 199, 3) := dk_182 0 199 (dk_at dksX5_compared_0 5 rfl rfl)
theorem dX5_compared_8 : decode cX5_compared 8 = .ok (.istore_n 1, 1) := dk_60 (dk_at dksX5_compared_0 8 rfl rfl)
theorem dX5_compared_9 : decode cX5_compared 9 = .ok (.aload_n 0, 1) := dk_42 (dk_at dksX5_compared_0 9 rfl rfl)
theorem dX5_compared_10 : decode cX5_compared 10 = .ok (.getfield 187, 3) := dk_180 0 187 (dk_at dksX5_compared_0 10 rfl rfl)
theorem dX5_compared_13 : decode cX5_compared 13 = .ok (.ifCond .ge 21, 3) := dk_156 0 21 (dk_at dksX5_compared_0 13 rfl rfl)
theorem dX5_compared_16 : decode cX5_compared 16 = .ok (.iload_n 1, 1) := dk_27 (dk_at dksX5_compared_0 16 rfl rfl)
theorem dX5_compared_17 : decode cX5_compared 17 = .ok (.bipush 60, 2) := dk_16 60 (dk_at dksX5_compared_0 17 rfl rfl)
theorem dX5_compared_19 : decode cX5_compared 19 = .ok (.if_icmp .eq 16, 3) := dk_159 0 16 (dk_at dksX5_compared_0 19 rfl rfl)
theorem dX5_compared_22 : decode cX5_compared 22 = .ok (.iload_n 1, 1) := dk_27 (dk_at dksX5_compared_0 22 rfl rfl)
theorem dX5_compared_23 : decode cX5_compared 23 = .ok (.bipush 61, 2) := dk_16 61 (dk_at dksX5_compared_1 0 rfl rfl)
theorem dX5_compared_25 : decode cX5_compared 25 = .ok (.if_icmp .eq 10, 3) := dk_159 0 10 (dk_at dksX5_compared_1 2 rfl rfl)
theorem dX5_compared_28 : decode cX5_compared 28 = .ok (.iload_n 1, 1) := dk_27 (dk_at dksX5_compared_1 5 rfl rfl)
theorem dX5_compared_29 : decode cX5_compared 29 = .ok (.bipush 62, 2) := dk_16 62 (dk_at dksX5_compared_1 6 rfl rfl)
theorem dX5_compared_31 : decode cX5_compared 31 = .ok (.if_icmp .eq 4, 3) := dk_159 0 4 (dk_at dksX5_compared_1 8 rfl rfl)
theorem dX5_compared_34 : decode cX5_compared 34 = .ok (.return_, 1) := dk_177 (dk_at dksX5_compared_1 11 rfl rfl)
theorem dX5_compared_35 : decode cX5_compared 35 = .ok (.aload_n 0, 1) := dk_42 (dk_at dksX5_compared_1 12 rfl rfl)
theorem dX5_compared_36 : decode cX5_compared 36 = .ok (.dup, 1) := dk_89 (dk_at dksX5_compared_1 13 rfl rfl)
theorem dX5_compared_37 : decode cX5_compared 37 = .ok (.getfield 184, 3) := dk_180 0 184 (dk_at dksX5_compared_1 14 rfl rfl)
theorem dX5_compared_40 : decode cX5_compared 40 = .ok (.iconst 1, 1) := dk_4 (dk_at dksX5_compared_1 17 rfl rfl)
theorem dX5_compared_41 : decode cX5_compared 41 = .ok (.iadd, 1) := dk_96 (dk_at dksX5_compared_1 18 rfl rfl)
theorem dX5_compared_42 : decode cX5_compared 42 = .ok (.putfield 184, 3) := dk_181 0 184 (dk_at dksX5_compared_1 19 rfl rfl)
theorem dX5_compared_45 : decode cX5_compared 45 = .ok (.aload_n 0, 1) := dk_42 (dk_at dksX5_compared_1 22 rfl rfl)
theorem dX5_compared_46 : decode cX5_compared 46 = .ok (.invokevirtual 226, 3) := dk_182 0 226 (dk_at dksX5_compared_2 0 rfl rfl)
theorem dX5_compared_49 : decode cX5_compared 49 = .ok (.aload_n 0, 1) := dk_42 (dk_at dksX5_compared_2 3 rfl rfl)
theorem dX5_compared_50 : decode cX5_compared 50 = .ok (.iload_n 1, 1) := dk_27 (dk_at dksX5_compared_2 4 rfl rfl)
theorem dX5_compared_51 : decode cX5_compared 51 = .ok (.iconst 0, 1) := dk_3 (dk_at dksX5_compared_2 5 rfl rfl)
theorem dX5_compared_52 : decode cX5_compared 52 = .ok (.invokevirtual 203, 3) := dk_182 0 203 (dk_at dksX5_compared_2 6 rfl rfl)
theorem dX5_compared_55 : decode cX5_compared 55 = .ok (.return_, 1) := dk_177 (dk_at dksX5_compared_2 9 rfl rfl)
abbrev cX5_sum : ByteArray := prog_25_method_38_code
def yX5_sum : MethodName := ⟨RX5, "sum", "()V"⟩
def dkwX5_sum_2 : List UInt8 := [42, 27, 3, 182, 0, 203, 167, 255, 206, 177]
abbrev dktX5_sum_2 : List UInt8 := dkwX5_sum_2 ++ []
def dkwX5_sum_1 : List UInt8 := [16, 45, 160, 0, 31, 42, 182, 0, 199, 60, 42, 89, 180, 0, 184, 4, 96, 181, 0, 184, 42, 182, 0, 223]
abbrev dktX5_sum_1 : List UInt8 := dkwX5_sum_1 ++ dktX5_sum_2
def dkwX5_sum_0 : List UInt8 := [42, 182, 0, 223, 42, 180, 0, 187, 156, 0, 49, 42, 182, 0, 199, 16, 43, 159, 0, 12, 42, 182, 0, 199]
abbrev dktX5_sum_0 : List UInt8 := dkwX5_sum_0 ++ dktX5_sum_1
theorem dksX5_sum_0 : cX5_sum.data.toList.drop 0 = dktX5_sum_0 := by decide +kernel
theorem dksX5_sum_1 : cX5_sum.data.toList.drop 24 = dktX5_sum_1 := dk_seg dksX5_sum_0 24 rfl rfl
theorem dksX5_sum_2 : cX5_sum.data.toList.drop 48 = dktX5_sum_2 := dk_seg dksX5_sum_1 24 rfl rfl
theorem dX5_sum_0 : decode cX5_sum 0 = .ok (.aload_n 0, 1) := dk_42 (dk_at dksX5_sum_0 0 rfl rfl)
theorem dX5_sum_1 : decode cX5_sum 1 = .ok (.invokevirtual 223, 3) := dk_182 0 223 (dk_at dksX5_sum_0 1 rfl rfl)
theorem dX5_sum_4 : decode cX5_sum 4 = .ok (.aload_n 0, 1) := dk_42 (dk_at dksX5_sum_0 4 rfl rfl)
theorem dX5_sum_5 : decode cX5_sum 5 = .ok (.getfield 187, 3) := dk_180 0 187 (dk_at dksX5_sum_0 5 rfl rfl)
theorem dX5_sum_8 : decode cX5_sum 8 = .ok (.ifCond .ge 49, 3) := dk_156 0 49 (dk_at dksX5_sum_0 8 rfl rfl)
theorem dX5_sum_11 : decode cX5_sum 11 = .ok (.aload_n 0, 1) := dk_42 (dk_at dksX5_sum_0 11 rfl rfl)
theorem dX5_sum_12 : decode cX5_sum 12 = .ok (.invokevirtual 199, 3) := dk_182 0 199 (dk_at dksX5_sum_0 12 rfl rfl)
theorem dX5_sum_15 : decode cX5_sum 15 = .ok (.bipush 43, 2) := dk_16 43 (dk_at dksX5_sum_0 15 rfl rfl)
theorem dX5_sum_17 : decode cX5_sum 17 = .ok (.if_icmp .eq 12, 3) := dk_159 0 12 (dk_at dksX5_sum_0 17 rfl rfl)
theorem dX5_sum_20 : decode cX5_sum 20 = .ok (.aload_n 0, 1) := dk_42 (dk_at dksX5_sum_0 20 rfl rfl)
theorem dX5_sum_21 : decode cX5_sum 21 = .ok (.invokevirtual 199, 3) := dk_182 0 199 (dk_at dksX5_sum_0 21 rfl rfl)
theorem dX5_sum_24 : decode cX5_sum 24 = .ok (.bipush 45, 2) := dk_16 45 (dk_at dksX5_sum_1 0 rfl rfl)
theorem dX5_sum_26 : decode cX5_sum 26 = .ok (.if_icmp .ne 31, 3) := dk_160 0 31 (dk_at dksX5_sum_1 2 rfl rfl)
theorem dX5_sum_29 : decode cX5_sum 29 = .ok (.aload_n 0, 1) := dk_42 (dk_at dksX5_sum_1 5 rfl rfl)
theorem dX5_sum_30 : decode cX5_sum 30 = .ok (.invokevirtual 199, 3) := dk_182 0 199 (dk_at dksX5_sum_1 6 rfl rfl)
theorem dX5_sum_33 : decode cX5_sum 33 = .ok (.istore_n 1, 1) := dk_60 (dk_at dksX5_sum_1 9 rfl rfl)
theorem dX5_sum_34 : decode cX5_sum 34 = .ok (.aload_n 0, 1) := dk_42 (dk_at dksX5_sum_1 10 rfl rfl)
theorem dX5_sum_35 : decode cX5_sum 35 = .ok (.dup, 1) := dk_89 (dk_at dksX5_sum_1 11 rfl rfl)
theorem dX5_sum_36 : decode cX5_sum 36 = .ok (.getfield 184, 3) := dk_180 0 184 (dk_at dksX5_sum_1 12 rfl rfl)
theorem dX5_sum_39 : decode cX5_sum 39 = .ok (.iconst 1, 1) := dk_4 (dk_at dksX5_sum_1 15 rfl rfl)
theorem dX5_sum_40 : decode cX5_sum 40 = .ok (.iadd, 1) := dk_96 (dk_at dksX5_sum_1 16 rfl rfl)
theorem dX5_sum_41 : decode cX5_sum 41 = .ok (.putfield 184, 3) := dk_181 0 184 (dk_at dksX5_sum_1 17 rfl rfl)
theorem dX5_sum_44 : decode cX5_sum 44 = .ok (.aload_n 0, 1) := dk_42 (dk_at dksX5_sum_1 20 rfl rfl)
theorem dX5_sum_45 : decode cX5_sum 45 = .ok (.invokevirtual 223, 3) := dk_182 0 223 (dk_at dksX5_sum_1 21 rfl rfl)
theorem dX5_sum_48 : decode cX5_sum 48 = .ok (.aload_n 0, 1) := dk_42 (dk_at dksX5_sum_2 0 rfl rfl)
theorem dX5_sum_49 : decode cX5_sum 49 = .ok (.iload_n 1, 1) := dk_27 (dk_at dksX5_sum_2 1 rfl rfl)
theorem dX5_sum_50 : decode cX5_sum 50 = .ok (.iconst 0, 1) := dk_3 (dk_at dksX5_sum_2 2 rfl rfl)
theorem dX5_sum_51 : decode cX5_sum 51 = .ok (.invokevirtual 203, 3) := dk_182 0 203 (dk_at dksX5_sum_2 3 rfl rfl)
theorem dX5_sum_54 : decode cX5_sum 54 = .ok (.goto (-50), 3) := dk_167 255 206 (dk_at dksX5_sum_2 6 rfl rfl)
theorem dX5_sum_57 : decode cX5_sum 57 = .ok (.return_, 1) := dk_177 (dk_at dksX5_sum_2 9 rfl rfl)
abbrev cX5_product : ByteArray := prog_25_method_37_code
def yX5_product : MethodName := ⟨RX5, "product", "()V"⟩
def dkwX5_product_2 : List UInt8 := [4, 96, 181, 0, 184, 42, 182, 0, 214, 42, 27, 3, 182, 0, 203, 167, 255, 197, 177]
abbrev dktX5_product_2 : List UInt8 := dkwX5_product_2 ++ []
def dkwX5_product_1 : List UInt8 := [16, 47, 159, 0, 12, 42, 182, 0, 199, 16, 37, 160, 0, 31, 42, 182, 0, 199, 60, 42, 89, 180, 0, 184]
abbrev dktX5_product_1 : List UInt8 := dkwX5_product_1 ++ dktX5_product_2
def dkwX5_product_0 : List UInt8 := [42, 182, 0, 214, 42, 180, 0, 187, 156, 0, 58, 42, 182, 0, 199, 16, 42, 159, 0, 21, 42, 182, 0, 199]
abbrev dktX5_product_0 : List UInt8 := dkwX5_product_0 ++ dktX5_product_1
theorem dksX5_product_0 : cX5_product.data.toList.drop 0 = dktX5_product_0 := by decide +kernel
theorem dksX5_product_1 : cX5_product.data.toList.drop 24 = dktX5_product_1 := dk_seg dksX5_product_0 24 rfl rfl
theorem dksX5_product_2 : cX5_product.data.toList.drop 48 = dktX5_product_2 := dk_seg dksX5_product_1 24 rfl rfl
theorem dX5_product_0 : decode cX5_product 0 = .ok (.aload_n 0, 1) := dk_42 (dk_at dksX5_product_0 0 rfl rfl)
theorem dX5_product_1 : decode cX5_product 1 = .ok (.invokevirtual 214, 3) := dk_182 0 214 (dk_at dksX5_product_0 1 rfl rfl)
theorem dX5_product_4 : decode cX5_product 4 = .ok (.aload_n 0, 1) := dk_42 (dk_at dksX5_product_0 4 rfl rfl)
theorem dX5_product_5 : decode cX5_product 5 = .ok (.getfield 187, 3) := dk_180 0 187 (dk_at dksX5_product_0 5 rfl rfl)
theorem dX5_product_8 : decode cX5_product 8 = .ok (.ifCond .ge 58, 3) := dk_156 0 58 (dk_at dksX5_product_0 8 rfl rfl)
theorem dX5_product_11 : decode cX5_product 11 = .ok (.aload_n 0, 1) := dk_42 (dk_at dksX5_product_0 11 rfl rfl)
theorem dX5_product_12 : decode cX5_product 12 = .ok (.invokevirtual 199, 3) := dk_182 0 199 (dk_at dksX5_product_0 12 rfl rfl)
theorem dX5_product_15 : decode cX5_product 15 = .ok (.bipush 42, 2) := dk_16 42 (dk_at dksX5_product_0 15 rfl rfl)
theorem dX5_product_17 : decode cX5_product 17 = .ok (.if_icmp .eq 21, 3) := dk_159 0 21 (dk_at dksX5_product_0 17 rfl rfl)
theorem dX5_product_20 : decode cX5_product 20 = .ok (.aload_n 0, 1) := dk_42 (dk_at dksX5_product_0 20 rfl rfl)
theorem dX5_product_21 : decode cX5_product 21 = .ok (.invokevirtual 199, 3) := dk_182 0 199 (dk_at dksX5_product_0 21 rfl rfl)
theorem dX5_product_24 : decode cX5_product 24 = .ok (.bipush 47, 2) := dk_16 47 (dk_at dksX5_product_1 0 rfl rfl)
theorem dX5_product_26 : decode cX5_product 26 = .ok (.if_icmp .eq 12, 3) := dk_159 0 12 (dk_at dksX5_product_1 2 rfl rfl)
theorem dX5_product_29 : decode cX5_product 29 = .ok (.aload_n 0, 1) := dk_42 (dk_at dksX5_product_1 5 rfl rfl)
theorem dX5_product_30 : decode cX5_product 30 = .ok (.invokevirtual 199, 3) := dk_182 0 199 (dk_at dksX5_product_1 6 rfl rfl)
theorem dX5_product_33 : decode cX5_product 33 = .ok (.bipush 37, 2) := dk_16 37 (dk_at dksX5_product_1 9 rfl rfl)
theorem dX5_product_35 : decode cX5_product 35 = .ok (.if_icmp .ne 31, 3) := dk_160 0 31 (dk_at dksX5_product_1 11 rfl rfl)
theorem dX5_product_38 : decode cX5_product 38 = .ok (.aload_n 0, 1) := dk_42 (dk_at dksX5_product_1 14 rfl rfl)
theorem dX5_product_39 : decode cX5_product 39 = .ok (.invokevirtual 199, 3) := dk_182 0 199 (dk_at dksX5_product_1 15 rfl rfl)
theorem dX5_product_42 : decode cX5_product 42 = .ok (.istore_n 1, 1) := dk_60 (dk_at dksX5_product_1 18 rfl rfl)
theorem dX5_product_43 : decode cX5_product 43 = .ok (.aload_n 0, 1) := dk_42 (dk_at dksX5_product_1 19 rfl rfl)
theorem dX5_product_44 : decode cX5_product 44 = .ok (.dup, 1) := dk_89 (dk_at dksX5_product_1 20 rfl rfl)
theorem dX5_product_45 : decode cX5_product 45 = .ok (.getfield 184, 3) := dk_180 0 184 (dk_at dksX5_product_1 21 rfl rfl)
theorem dX5_product_48 : decode cX5_product 48 = .ok (.iconst 1, 1) := dk_4 (dk_at dksX5_product_2 0 rfl rfl)
theorem dX5_product_49 : decode cX5_product 49 = .ok (.iadd, 1) := dk_96 (dk_at dksX5_product_2 1 rfl rfl)
theorem dX5_product_50 : decode cX5_product 50 = .ok (.putfield 184, 3) := dk_181 0 184 (dk_at dksX5_product_2 2 rfl rfl)
theorem dX5_product_53 : decode cX5_product 53 = .ok (.aload_n 0, 1) := dk_42 (dk_at dksX5_product_2 5 rfl rfl)
theorem dX5_product_54 : decode cX5_product 54 = .ok (.invokevirtual 214, 3) := dk_182 0 214 (dk_at dksX5_product_2 6 rfl rfl)
theorem dX5_product_57 : decode cX5_product 57 = .ok (.aload_n 0, 1) := dk_42 (dk_at dksX5_product_2 9 rfl rfl)
theorem dX5_product_58 : decode cX5_product 58 = .ok (.iload_n 1, 1) := dk_27 (dk_at dksX5_product_2 10 rfl rfl)
theorem dX5_product_59 : decode cX5_product 59 = .ok (.iconst 0, 1) := dk_3 (dk_at dksX5_product_2 11 rfl rfl)
theorem dX5_product_60 : decode cX5_product 60 = .ok (.invokevirtual 203, 3) := dk_182 0 203 (dk_at dksX5_product_2 12 rfl rfl)
theorem dX5_product_63 : decode cX5_product 63 = .ok (.goto (-59), 3) := dk_167 255 197 (dk_at dksX5_product_2 15 rfl rfl)
theorem dX5_product_66 : decode cX5_product 66 = .ok (.return_, 1) := dk_177 (dk_at dksX5_product_2 18 rfl rfl)
abbrev cX5_operand : ByteArray := prog_25_method_36_code
def yX5_operand : MethodName := ⟨RX5, "operand", "()V"⟩
def dkwX5_operand_6 : List UInt8 := [180, 0, 193, 4, 100, 181, 0, 193, 167, 0, 7, 42, 182, 0, 220, 177]
abbrev dktX5_operand_6 : List UInt8 := dkwX5_operand_6 ++ []
def dkwX5_operand_5 : List UInt8 := [16, 41, 159, 0, 8, 42, 182, 0, 196, 177, 42, 89, 180, 0, 184, 4, 96, 181, 0, 184, 42, 89]
abbrev dktX5_operand_5 : List UInt8 := dkwX5_operand_5 ++ dktX5_operand_6
def dkwX5_operand_4 : List UInt8 := [182, 0, 210, 154, 0, 4, 177, 42, 182, 0, 217, 42, 180, 0, 187, 155, 0, 4, 177, 42, 182, 0, 199]
abbrev dktX5_operand_4 : List UInt8 := dkwX5_operand_4 ++ dktX5_operand_5
def dkwX5_operand_3 : List UInt8 := [16, 33, 160, 0, 7, 6, 167, 0, 4, 7, 3, 182, 0, 203, 167, 0, 70, 27, 16, 40, 160, 0, 60, 42]
abbrev dktX5_operand_3 : List UInt8 := dkwX5_operand_3 ++ dktX5_operand_4
def dkwX5_operand_2 : List UInt8 := [182, 0, 210, 154, 0, 4, 177, 42, 182, 0, 214, 42, 89, 180, 0, 193, 4, 100, 181, 0, 193, 42, 27]
abbrev dktX5_operand_2 : List UInt8 := dkwX5_operand_2 ++ dktX5_operand_3
def dkwX5_operand_1 : List UInt8 := [180, 0, 184, 4, 96, 181, 0, 184, 167, 0, 123, 27, 16, 33, 159, 0, 9, 27, 16, 45, 160, 0, 44, 42]
abbrev dktX5_operand_1 : List UInt8 := dkwX5_operand_1 ++ dktX5_operand_2
def dkwX5_operand_0 : List UInt8 := [42, 182, 0, 199, 60, 27, 184, 0, 207, 155, 0, 25, 42, 5, 27, 184, 0, 207, 182, 0, 203, 42, 89]
abbrev dktX5_operand_0 : List UInt8 := dkwX5_operand_0 ++ dktX5_operand_1
theorem dksX5_operand_0 : cX5_operand.data.toList.drop 0 = dktX5_operand_0 := by decide +kernel
theorem dksX5_operand_1 : cX5_operand.data.toList.drop 23 = dktX5_operand_1 := dk_seg dksX5_operand_0 23 rfl rfl
theorem dksX5_operand_2 : cX5_operand.data.toList.drop 47 = dktX5_operand_2 := dk_seg dksX5_operand_1 24 rfl rfl
theorem dksX5_operand_3 : cX5_operand.data.toList.drop 70 = dktX5_operand_3 := dk_seg dksX5_operand_2 23 rfl rfl
theorem dksX5_operand_4 : cX5_operand.data.toList.drop 94 = dktX5_operand_4 := dk_seg dksX5_operand_3 24 rfl rfl
theorem dksX5_operand_5 : cX5_operand.data.toList.drop 117 = dktX5_operand_5 := dk_seg dksX5_operand_4 23 rfl rfl
theorem dksX5_operand_6 : cX5_operand.data.toList.drop 139 = dktX5_operand_6 := dk_seg dksX5_operand_5 22 rfl rfl
theorem dX5_operand_0 : decode cX5_operand 0 = .ok (.aload_n 0, 1) := dk_42 (dk_at dksX5_operand_0 0 rfl rfl)
theorem dX5_operand_1 : decode cX5_operand 1 = .ok (.invokevirtual 199, 3) := dk_182 0 199 (dk_at dksX5_operand_0 1 rfl rfl)
theorem dX5_operand_4 : decode cX5_operand 4 = .ok (.istore_n 1, 1) := dk_60 (dk_at dksX5_operand_0 4 rfl rfl)
theorem dX5_operand_5 : decode cX5_operand 5 = .ok (.iload_n 1, 1) := dk_27 (dk_at dksX5_operand_0 5 rfl rfl)
theorem dX5_operand_6 : decode cX5_operand 6 = .ok (.invokestatic 207, 3) := dk_184 0 207 (dk_at dksX5_operand_0 6 rfl rfl)
theorem dX5_operand_9 : decode cX5_operand 9 = .ok (.ifCond .lt 25, 3) := dk_155 0 25 (dk_at dksX5_operand_0 9 rfl rfl)
theorem dX5_operand_12 : decode cX5_operand 12 = .ok (.aload_n 0, 1) := dk_42 (dk_at dksX5_operand_0 12 rfl rfl)
theorem dX5_operand_13 : decode cX5_operand 13 = .ok (.iconst 2, 1) := dk_5 (dk_at dksX5_operand_0 13 rfl rfl)
theorem dX5_operand_14 : decode cX5_operand 14 = .ok (.iload_n 1, 1) := dk_27 (dk_at dksX5_operand_0 14 rfl rfl)
theorem dX5_operand_15 : decode cX5_operand 15 = .ok (.invokestatic 207, 3) := dk_184 0 207 (dk_at dksX5_operand_0 15 rfl rfl)
theorem dX5_operand_18 : decode cX5_operand 18 = .ok (.invokevirtual 203, 3) := dk_182 0 203 (dk_at dksX5_operand_0 18 rfl rfl)
theorem dX5_operand_21 : decode cX5_operand 21 = .ok (.aload_n 0, 1) := dk_42 (dk_at dksX5_operand_0 21 rfl rfl)
theorem dX5_operand_22 : decode cX5_operand 22 = .ok (.dup, 1) := dk_89 (dk_at dksX5_operand_0 22 rfl rfl)
theorem dX5_operand_23 : decode cX5_operand 23 = .ok (.getfield 184, 3) := dk_180 0 184 (dk_at dksX5_operand_1 0 rfl rfl)
theorem dX5_operand_26 : decode cX5_operand 26 = .ok (.iconst 1, 1) := dk_4 (dk_at dksX5_operand_1 3 rfl rfl)
theorem dX5_operand_27 : decode cX5_operand 27 = .ok (.iadd, 1) := dk_96 (dk_at dksX5_operand_1 4 rfl rfl)
theorem dX5_operand_28 : decode cX5_operand 28 = .ok (.putfield 184, 3) := dk_181 0 184 (dk_at dksX5_operand_1 5 rfl rfl)
theorem dX5_operand_31 : decode cX5_operand 31 = .ok (.goto 123, 3) := dk_167 0 123 (dk_at dksX5_operand_1 8 rfl rfl)
theorem dX5_operand_34 : decode cX5_operand 34 = .ok (.iload_n 1, 1) := dk_27 (dk_at dksX5_operand_1 11 rfl rfl)
theorem dX5_operand_35 : decode cX5_operand 35 = .ok (.bipush 33, 2) := dk_16 33 (dk_at dksX5_operand_1 12 rfl rfl)
theorem dX5_operand_37 : decode cX5_operand 37 = .ok (.if_icmp .eq 9, 3) := dk_159 0 9 (dk_at dksX5_operand_1 14 rfl rfl)
theorem dX5_operand_40 : decode cX5_operand 40 = .ok (.iload_n 1, 1) := dk_27 (dk_at dksX5_operand_1 17 rfl rfl)
theorem dX5_operand_41 : decode cX5_operand 41 = .ok (.bipush 45, 2) := dk_16 45 (dk_at dksX5_operand_1 18 rfl rfl)
theorem dX5_operand_43 : decode cX5_operand 43 = .ok (.if_icmp .ne 44, 3) := dk_160 0 44 (dk_at dksX5_operand_1 20 rfl rfl)
theorem dX5_operand_46 : decode cX5_operand 46 = .ok (.aload_n 0, 1) := dk_42 (dk_at dksX5_operand_1 23 rfl rfl)
theorem dX5_operand_47 : decode cX5_operand 47 = .ok (.invokevirtual 210, 3) := dk_182 0 210 (dk_at dksX5_operand_2 0 rfl rfl)
theorem dX5_operand_50 : decode cX5_operand 50 = .ok (.ifCond .ne 4, 3) := dk_154 0 4 (dk_at dksX5_operand_2 3 rfl rfl)
theorem dX5_operand_53 : decode cX5_operand 53 = .ok (.return_, 1) := dk_177 (dk_at dksX5_operand_2 6 rfl rfl)
theorem dX5_operand_54 : decode cX5_operand 54 = .ok (.aload_n 0, 1) := dk_42 (dk_at dksX5_operand_2 7 rfl rfl)
theorem dX5_operand_55 : decode cX5_operand 55 = .ok (.invokevirtual 214, 3) := dk_182 0 214 (dk_at dksX5_operand_2 8 rfl rfl)
theorem dX5_operand_58 : decode cX5_operand 58 = .ok (.aload_n 0, 1) := dk_42 (dk_at dksX5_operand_2 11 rfl rfl)
theorem dX5_operand_59 : decode cX5_operand 59 = .ok (.dup, 1) := dk_89 (dk_at dksX5_operand_2 12 rfl rfl)
theorem dX5_operand_60 : decode cX5_operand 60 = .ok (.getfield 193, 3) := dk_180 0 193 (dk_at dksX5_operand_2 13 rfl rfl)
theorem dX5_operand_63 : decode cX5_operand 63 = .ok (.iconst 1, 1) := dk_4 (dk_at dksX5_operand_2 16 rfl rfl)
theorem dX5_operand_64 : decode cX5_operand 64 = .ok (.isub, 1) := dk_100 (dk_at dksX5_operand_2 17 rfl rfl)
theorem dX5_operand_65 : decode cX5_operand 65 = .ok (.putfield 193, 3) := dk_181 0 193 (dk_at dksX5_operand_2 18 rfl rfl)
theorem dX5_operand_68 : decode cX5_operand 68 = .ok (.aload_n 0, 1) := dk_42 (dk_at dksX5_operand_2 21 rfl rfl)
theorem dX5_operand_69 : decode cX5_operand 69 = .ok (.iload_n 1, 1) := dk_27 (dk_at dksX5_operand_2 22 rfl rfl)
theorem dX5_operand_70 : decode cX5_operand 70 = .ok (.bipush 33, 2) := dk_16 33 (dk_at dksX5_operand_3 0 rfl rfl)
theorem dX5_operand_72 : decode cX5_operand 72 = .ok (.if_icmp .ne 7, 3) := dk_160 0 7 (dk_at dksX5_operand_3 2 rfl rfl)
theorem dX5_operand_75 : decode cX5_operand 75 = .ok (.iconst 3, 1) := dk_6 (dk_at dksX5_operand_3 5 rfl rfl)
theorem dX5_operand_76 : decode cX5_operand 76 = .ok (.goto 4, 3) := dk_167 0 4 (dk_at dksX5_operand_3 6 rfl rfl)
theorem dX5_operand_79 : decode cX5_operand 79 = .ok (.iconst 4, 1) := dk_7 (dk_at dksX5_operand_3 9 rfl rfl)
theorem dX5_operand_80 : decode cX5_operand 80 = .ok (.iconst 0, 1) := dk_3 (dk_at dksX5_operand_3 10 rfl rfl)
theorem dX5_operand_81 : decode cX5_operand 81 = .ok (.invokevirtual 203, 3) := dk_182 0 203 (dk_at dksX5_operand_3 11 rfl rfl)
theorem dX5_operand_84 : decode cX5_operand 84 = .ok (.goto 70, 3) := dk_167 0 70 (dk_at dksX5_operand_3 14 rfl rfl)
theorem dX5_operand_87 : decode cX5_operand 87 = .ok (.iload_n 1, 1) := dk_27 (dk_at dksX5_operand_3 17 rfl rfl)
theorem dX5_operand_88 : decode cX5_operand 88 = .ok (.bipush 40, 2) := dk_16 40 (dk_at dksX5_operand_3 18 rfl rfl)
theorem dX5_operand_90 : decode cX5_operand 90 = .ok (.if_icmp .ne 60, 3) := dk_160 0 60 (dk_at dksX5_operand_3 20 rfl rfl)
theorem dX5_operand_93 : decode cX5_operand 93 = .ok (.aload_n 0, 1) := dk_42 (dk_at dksX5_operand_3 23 rfl rfl)
theorem dX5_operand_94 : decode cX5_operand 94 = .ok (.invokevirtual 210, 3) := dk_182 0 210 (dk_at dksX5_operand_4 0 rfl rfl)
theorem dX5_operand_97 : decode cX5_operand 97 = .ok (.ifCond .ne 4, 3) := dk_154 0 4 (dk_at dksX5_operand_4 3 rfl rfl)
theorem dX5_operand_100 : decode cX5_operand 100 = .ok (.return_, 1) := dk_177 (dk_at dksX5_operand_4 6 rfl rfl)
theorem dX5_operand_101 : decode cX5_operand 101 = .ok (.aload_n 0, 1) := dk_42 (dk_at dksX5_operand_4 7 rfl rfl)
theorem dX5_operand_102 : decode cX5_operand 102 = .ok (.invokevirtual 217, 3) := dk_182 0 217 (dk_at dksX5_operand_4 8 rfl rfl)
theorem dX5_operand_105 : decode cX5_operand 105 = .ok (.aload_n 0, 1) := dk_42 (dk_at dksX5_operand_4 11 rfl rfl)
theorem dX5_operand_106 : decode cX5_operand 106 = .ok (.getfield 187, 3) := dk_180 0 187 (dk_at dksX5_operand_4 12 rfl rfl)
theorem dX5_operand_109 : decode cX5_operand 109 = .ok (.ifCond .lt 4, 3) := dk_155 0 4 (dk_at dksX5_operand_4 15 rfl rfl)
theorem dX5_operand_112 : decode cX5_operand 112 = .ok (.return_, 1) := dk_177 (dk_at dksX5_operand_4 18 rfl rfl)
theorem dX5_operand_113 : decode cX5_operand 113 = .ok (.aload_n 0, 1) := dk_42 (dk_at dksX5_operand_4 19 rfl rfl)
theorem dX5_operand_114 : decode cX5_operand 114 = .ok (.invokevirtual 199, 3) := dk_182 0 199 (dk_at dksX5_operand_4 20 rfl rfl)
theorem dX5_operand_117 : decode cX5_operand 117 = .ok (.bipush 41, 2) := dk_16 41 (dk_at dksX5_operand_5 0 rfl rfl)
theorem dX5_operand_119 : decode cX5_operand 119 = .ok (.if_icmp .eq 8, 3) := dk_159 0 8 (dk_at dksX5_operand_5 2 rfl rfl)
theorem dX5_operand_122 : decode cX5_operand 122 = .ok (.aload_n 0, 1) := dk_42 (dk_at dksX5_operand_5 5 rfl rfl)
theorem dX5_operand_123 : decode cX5_operand 123 = .ok (.invokevirtual 196, 3) := dk_182 0 196 (dk_at dksX5_operand_5 6 rfl rfl)
theorem dX5_operand_126 : decode cX5_operand 126 = .ok (.return_, 1) := dk_177 (dk_at dksX5_operand_5 9 rfl rfl)
theorem dX5_operand_127 : decode cX5_operand 127 = .ok (.aload_n 0, 1) := dk_42 (dk_at dksX5_operand_5 10 rfl rfl)
theorem dX5_operand_128 : decode cX5_operand 128 = .ok (.dup, 1) := dk_89 (dk_at dksX5_operand_5 11 rfl rfl)
theorem dX5_operand_129 : decode cX5_operand 129 = .ok (.getfield 184, 3) := dk_180 0 184 (dk_at dksX5_operand_5 12 rfl rfl)
theorem dX5_operand_132 : decode cX5_operand 132 = .ok (.iconst 1, 1) := dk_4 (dk_at dksX5_operand_5 15 rfl rfl)
theorem dX5_operand_133 : decode cX5_operand 133 = .ok (.iadd, 1) := dk_96 (dk_at dksX5_operand_5 16 rfl rfl)
theorem dX5_operand_134 : decode cX5_operand 134 = .ok (.putfield 184, 3) := dk_181 0 184 (dk_at dksX5_operand_5 17 rfl rfl)
theorem dX5_operand_137 : decode cX5_operand 137 = .ok (.aload_n 0, 1) := dk_42 (dk_at dksX5_operand_5 20 rfl rfl)
theorem dX5_operand_138 : decode cX5_operand 138 = .ok (.dup, 1) := dk_89 (dk_at dksX5_operand_5 21 rfl rfl)
theorem dX5_operand_139 : decode cX5_operand 139 = .ok (.getfield 193, 3) := dk_180 0 193 (dk_at dksX5_operand_6 0 rfl rfl)
theorem dX5_operand_142 : decode cX5_operand 142 = .ok (.iconst 1, 1) := dk_4 (dk_at dksX5_operand_6 3 rfl rfl)
theorem dX5_operand_143 : decode cX5_operand 143 = .ok (.isub, 1) := dk_100 (dk_at dksX5_operand_6 4 rfl rfl)
theorem dX5_operand_144 : decode cX5_operand 144 = .ok (.putfield 193, 3) := dk_181 0 193 (dk_at dksX5_operand_6 5 rfl rfl)
theorem dX5_operand_147 : decode cX5_operand 147 = .ok (.goto 7, 3) := dk_167 0 7 (dk_at dksX5_operand_6 8 rfl rfl)
theorem dX5_operand_150 : decode cX5_operand 150 = .ok (.aload_n 0, 1) := dk_42 (dk_at dksX5_operand_6 11 rfl rfl)
theorem dX5_operand_151 : decode cX5_operand 151 = .ok (.invokevirtual 220, 3) := dk_182 0 220 (dk_at dksX5_operand_6 12 rfl rfl)
theorem dX5_operand_154 : decode cX5_operand 154 = .ok (.return_, 1) := dk_177 (dk_at dksX5_operand_6 15 rfl rfl)
abbrev cX5_look : ByteArray := prog_25_method_30_code
def yX5_look : MethodName := ⟨RX5, "look", "()I"⟩
def dkwX5_look_1 : List UInt8 := [172]
abbrev dktX5_look_1 : List UInt8 := dkwX5_look_1 ++ []
def dkwX5_look_0 : List UInt8 := [42, 180, 0, 184, 42, 180, 0, 181, 162, 0, 15, 42, 180, 0, 46, 42, 180, 0, 184, 51, 167, 0, 4, 2]
abbrev dktX5_look_0 : List UInt8 := dkwX5_look_0 ++ dktX5_look_1
theorem dksX5_look_0 : cX5_look.data.toList.drop 0 = dktX5_look_0 := by decide +kernel
theorem dksX5_look_1 : cX5_look.data.toList.drop 24 = dktX5_look_1 := dk_seg dksX5_look_0 24 rfl rfl
theorem dX5_look_0 : decode cX5_look 0 = .ok (.aload_n 0, 1) := dk_42 (dk_at dksX5_look_0 0 rfl rfl)
theorem dX5_look_1 : decode cX5_look 1 = .ok (.getfield 184, 3) := dk_180 0 184 (dk_at dksX5_look_0 1 rfl rfl)
theorem dX5_look_4 : decode cX5_look 4 = .ok (.aload_n 0, 1) := dk_42 (dk_at dksX5_look_0 4 rfl rfl)
theorem dX5_look_5 : decode cX5_look 5 = .ok (.getfield 181, 3) := dk_180 0 181 (dk_at dksX5_look_0 5 rfl rfl)
theorem dX5_look_8 : decode cX5_look 8 = .ok (.if_icmp .ge 15, 3) := dk_162 0 15 (dk_at dksX5_look_0 8 rfl rfl)
theorem dX5_look_11 : decode cX5_look 11 = .ok (.aload_n 0, 1) := dk_42 (dk_at dksX5_look_0 11 rfl rfl)
theorem dX5_look_12 : decode cX5_look 12 = .ok (.getfield 46, 3) := dk_180 0 46 (dk_at dksX5_look_0 12 rfl rfl)
theorem dX5_look_15 : decode cX5_look 15 = .ok (.aload_n 0, 1) := dk_42 (dk_at dksX5_look_0 15 rfl rfl)
theorem dX5_look_16 : decode cX5_look 16 = .ok (.getfield 184, 3) := dk_180 0 184 (dk_at dksX5_look_0 16 rfl rfl)
theorem dX5_look_19 : decode cX5_look 19 = .ok (.baload, 1) := dk_51 (dk_at dksX5_look_0 19 rfl rfl)
theorem dX5_look_20 : decode cX5_look 20 = .ok (.goto 4, 3) := dk_167 0 4 (dk_at dksX5_look_0 20 rfl rfl)
theorem dX5_look_23 : decode cX5_look 23 = .ok (.iconst (-1), 1) := dk_2 (dk_at dksX5_look_0 23 rfl rfl)
theorem dX5_look_24 : decode cX5_look 24 = .ok (.ireturn, 1) := dk_172 (dk_at dksX5_look_1 0 rfl rfl)
abbrev cX5_nameOf : ByteArray := prog_25_method_33_code
def yX5_nameOf : MethodName := ⟨RX5, "nameOf", "(I)I"⟩
def dkwX5_nameOf_2 : List UInt8 := [3, 172, 4, 172, 5, 172, 6, 172, 7, 172, 8, 172, 2, 172]
abbrev dktX5_nameOf_2 : List UInt8 := dkwX5_nameOf_2 ++ []
def dkwX5_nameOf_1 : List UInt8 := [171, 0, 0, 0, 0, 0, 71, 0, 0, 0, 6, 0, 0, 0, 97, 0, 0, 0, 59, 0, 0, 0, 100, 0, 0, 0, 61, 0, 0, 0, 102, 0, 0, 0, 63, 0, 0, 0, 105, 0, 0, 0, 67, 0, 0, 0, 110, 0, 0, 0, 69, 0, 0, 0, 119, 0, 0, 0, 65]
abbrev dktX5_nameOf_1 : List UInt8 := dkwX5_nameOf_1 ++ dktX5_nameOf_2
def dkwX5_nameOf_0 : List UInt8 := [26]
abbrev dktX5_nameOf_0 : List UInt8 := dkwX5_nameOf_0 ++ dktX5_nameOf_1
theorem dksX5_nameOf_0 : cX5_nameOf.data.toList.drop 0 = dktX5_nameOf_0 := by decide +kernel
theorem dksX5_nameOf_1 : cX5_nameOf.data.toList.drop 1 = dktX5_nameOf_1 := dk_seg dksX5_nameOf_0 1 rfl rfl
theorem dksX5_nameOf_2 : cX5_nameOf.data.toList.drop 60 = dktX5_nameOf_2 := dk_seg dksX5_nameOf_1 59 rfl rfl
theorem dX5_nameOf_0 : decode cX5_nameOf 0 = .ok (.iload_n 0, 1) := dk_26 (dk_at dksX5_nameOf_0 0 rfl rfl)
theorem dX5_nameOf_1 : decode cX5_nameOf 1 = .ok (.lookupswitch 71 #[(97, 59), (100, 61), (102, 63), (105, 67), (110, 69), (119, 65)], 59) := by decide +kernel
theorem dX5_nameOf_60 : decode cX5_nameOf 60 = .ok (.iconst 0, 1) := dk_3 (dk_at dksX5_nameOf_2 0 rfl rfl)
theorem dX5_nameOf_61 : decode cX5_nameOf 61 = .ok (.ireturn, 1) := dk_172 (dk_at dksX5_nameOf_2 1 rfl rfl)
theorem dX5_nameOf_62 : decode cX5_nameOf 62 = .ok (.iconst 1, 1) := dk_4 (dk_at dksX5_nameOf_2 2 rfl rfl)
theorem dX5_nameOf_63 : decode cX5_nameOf 63 = .ok (.ireturn, 1) := dk_172 (dk_at dksX5_nameOf_2 3 rfl rfl)
theorem dX5_nameOf_64 : decode cX5_nameOf 64 = .ok (.iconst 2, 1) := dk_5 (dk_at dksX5_nameOf_2 4 rfl rfl)
theorem dX5_nameOf_65 : decode cX5_nameOf 65 = .ok (.ireturn, 1) := dk_172 (dk_at dksX5_nameOf_2 5 rfl rfl)
theorem dX5_nameOf_66 : decode cX5_nameOf 66 = .ok (.iconst 3, 1) := dk_6 (dk_at dksX5_nameOf_2 6 rfl rfl)
theorem dX5_nameOf_67 : decode cX5_nameOf 67 = .ok (.ireturn, 1) := dk_172 (dk_at dksX5_nameOf_2 7 rfl rfl)
theorem dX5_nameOf_68 : decode cX5_nameOf 68 = .ok (.iconst 4, 1) := dk_7 (dk_at dksX5_nameOf_2 8 rfl rfl)
theorem dX5_nameOf_69 : decode cX5_nameOf 69 = .ok (.ireturn, 1) := dk_172 (dk_at dksX5_nameOf_2 9 rfl rfl)
theorem dX5_nameOf_70 : decode cX5_nameOf 70 = .ok (.iconst 5, 1) := dk_8 (dk_at dksX5_nameOf_2 10 rfl rfl)
theorem dX5_nameOf_71 : decode cX5_nameOf 71 = .ok (.ireturn, 1) := dk_172 (dk_at dksX5_nameOf_2 11 rfl rfl)
theorem dX5_nameOf_72 : decode cX5_nameOf 72 = .ok (.iconst (-1), 1) := dk_2 (dk_at dksX5_nameOf_2 12 rfl rfl)
theorem dX5_nameOf_73 : decode cX5_nameOf 73 = .ok (.ireturn, 1) := dk_172 (dk_at dksX5_nameOf_2 13 rfl rfl)
abbrev cX5_addStep : ByteArray := prog_25_method_32_code
def yX5_addStep : MethodName := ⟨RX5, "addStep", "(II)V"⟩
def dkwX5_addStep_1 : List UInt8 := [180, 0, 190, 96, 28, 79, 42, 89, 180, 0, 190, 4, 96, 181, 0, 190, 177]
abbrev dktX5_addStep_1 : List UInt8 := dkwX5_addStep_1 ++ []
def dkwX5_addStep_0 : List UInt8 := [42, 180, 0, 50, 17, 0, 130, 42, 180, 0, 190, 96, 27, 145, 84, 42, 180, 0, 53, 17, 0, 130, 42]
abbrev dktX5_addStep_0 : List UInt8 := dkwX5_addStep_0 ++ dktX5_addStep_1
theorem dksX5_addStep_0 : cX5_addStep.data.toList.drop 0 = dktX5_addStep_0 := by decide +kernel
theorem dksX5_addStep_1 : cX5_addStep.data.toList.drop 23 = dktX5_addStep_1 := dk_seg dksX5_addStep_0 23 rfl rfl
theorem dX5_addStep_0 : decode cX5_addStep 0 = .ok (.aload_n 0, 1) := dk_42 (dk_at dksX5_addStep_0 0 rfl rfl)
theorem dX5_addStep_1 : decode cX5_addStep 1 = .ok (.getfield 50, 3) := dk_180 0 50 (dk_at dksX5_addStep_0 1 rfl rfl)
theorem dX5_addStep_4 : decode cX5_addStep 4 = .ok (.sipush 130, 3) := dk_17 0 130 (dk_at dksX5_addStep_0 4 rfl rfl)
theorem dX5_addStep_7 : decode cX5_addStep 7 = .ok (.aload_n 0, 1) := dk_42 (dk_at dksX5_addStep_0 7 rfl rfl)
theorem dX5_addStep_8 : decode cX5_addStep 8 = .ok (.getfield 190, 3) := dk_180 0 190 (dk_at dksX5_addStep_0 8 rfl rfl)
theorem dX5_addStep_11 : decode cX5_addStep 11 = .ok (.iadd, 1) := dk_96 (dk_at dksX5_addStep_0 11 rfl rfl)
theorem dX5_addStep_12 : decode cX5_addStep 12 = .ok (.iload_n 1, 1) := dk_27 (dk_at dksX5_addStep_0 12 rfl rfl)
theorem dX5_addStep_13 : decode cX5_addStep 13 = .ok (.i2b, 1) := dk_145 (dk_at dksX5_addStep_0 13 rfl rfl)
theorem dX5_addStep_14 : decode cX5_addStep 14 = .ok (.bastore, 1) := dk_84 (dk_at dksX5_addStep_0 14 rfl rfl)
theorem dX5_addStep_15 : decode cX5_addStep 15 = .ok (.aload_n 0, 1) := dk_42 (dk_at dksX5_addStep_0 15 rfl rfl)
theorem dX5_addStep_16 : decode cX5_addStep 16 = .ok (.getfield 53, 3) := dk_180 0 53 (dk_at dksX5_addStep_0 16 rfl rfl)
theorem dX5_addStep_19 : decode cX5_addStep 19 = .ok (.sipush 130, 3) := dk_17 0 130 (dk_at dksX5_addStep_0 19 rfl rfl)
theorem dX5_addStep_22 : decode cX5_addStep 22 = .ok (.aload_n 0, 1) := dk_42 (dk_at dksX5_addStep_0 22 rfl rfl)
theorem dX5_addStep_23 : decode cX5_addStep 23 = .ok (.getfield 190, 3) := dk_180 0 190 (dk_at dksX5_addStep_1 0 rfl rfl)
theorem dX5_addStep_26 : decode cX5_addStep 26 = .ok (.iadd, 1) := dk_96 (dk_at dksX5_addStep_1 3 rfl rfl)
theorem dX5_addStep_27 : decode cX5_addStep 27 = .ok (.iload_n 2, 1) := dk_28 (dk_at dksX5_addStep_1 4 rfl rfl)
theorem dX5_addStep_28 : decode cX5_addStep 28 = .ok (.iastore, 1) := dk_79 (dk_at dksX5_addStep_1 5 rfl rfl)
theorem dX5_addStep_29 : decode cX5_addStep 29 = .ok (.aload_n 0, 1) := dk_42 (dk_at dksX5_addStep_1 6 rfl rfl)
theorem dX5_addStep_30 : decode cX5_addStep 30 = .ok (.dup, 1) := dk_89 (dk_at dksX5_addStep_1 7 rfl rfl)
theorem dX5_addStep_31 : decode cX5_addStep 31 = .ok (.getfield 190, 3) := dk_180 0 190 (dk_at dksX5_addStep_1 8 rfl rfl)
theorem dX5_addStep_34 : decode cX5_addStep 34 = .ok (.iconst 1, 1) := dk_4 (dk_at dksX5_addStep_1 11 rfl rfl)
theorem dX5_addStep_35 : decode cX5_addStep 35 = .ok (.iadd, 1) := dk_96 (dk_at dksX5_addStep_1 12 rfl rfl)
theorem dX5_addStep_36 : decode cX5_addStep 36 = .ok (.putfield 190, 3) := dk_181 0 190 (dk_at dksX5_addStep_1 13 rfl rfl)
theorem dX5_addStep_39 : decode cX5_addStep 39 = .ok (.return_, 1) := dk_177 (dk_at dksX5_addStep_1 16 rfl rfl)
abbrev cX5_opens : ByteArray := prog_25_method_34_code
def yX5_opens : MethodName := ⟨RX5, "opens", "()Z"⟩
def dkwX5_opens_1 : List UInt8 := [181, 0, 193, 42, 89, 180, 0, 184, 4, 96, 181, 0, 184, 4, 172]
abbrev dktX5_opens_1 : List UInt8 := dkwX5_opens_1 ++ []
def dkwX5_opens_0 : List UInt8 := [42, 180, 0, 193, 16, 6, 160, 0, 9, 42, 182, 0, 196, 3, 172, 42, 89, 180, 0, 193, 4, 96]
abbrev dktX5_opens_0 : List UInt8 := dkwX5_opens_0 ++ dktX5_opens_1
theorem dksX5_opens_0 : cX5_opens.data.toList.drop 0 = dktX5_opens_0 := by decide +kernel
theorem dksX5_opens_1 : cX5_opens.data.toList.drop 22 = dktX5_opens_1 := dk_seg dksX5_opens_0 22 rfl rfl
theorem dX5_opens_0 : decode cX5_opens 0 = .ok (.aload_n 0, 1) := dk_42 (dk_at dksX5_opens_0 0 rfl rfl)
theorem dX5_opens_1 : decode cX5_opens 1 = .ok (.getfield 193, 3) := dk_180 0 193 (dk_at dksX5_opens_0 1 rfl rfl)
theorem dX5_opens_4 : decode cX5_opens 4 = .ok (.bipush 6, 2) := dk_16 6 (dk_at dksX5_opens_0 4 rfl rfl)
theorem dX5_opens_6 : decode cX5_opens 6 = .ok (.if_icmp .ne 9, 3) := dk_160 0 9 (dk_at dksX5_opens_0 6 rfl rfl)
theorem dX5_opens_9 : decode cX5_opens 9 = .ok (.aload_n 0, 1) := dk_42 (dk_at dksX5_opens_0 9 rfl rfl)
theorem dX5_opens_10 : decode cX5_opens 10 = .ok (.invokevirtual 196, 3) := dk_182 0 196 (dk_at dksX5_opens_0 10 rfl rfl)
theorem dX5_opens_13 : decode cX5_opens 13 = .ok (.iconst 0, 1) := dk_3 (dk_at dksX5_opens_0 13 rfl rfl)
theorem dX5_opens_14 : decode cX5_opens 14 = .ok (.ireturn, 1) := dk_172 (dk_at dksX5_opens_0 14 rfl rfl)
theorem dX5_opens_15 : decode cX5_opens 15 = .ok (.aload_n 0, 1) := dk_42 (dk_at dksX5_opens_0 15 rfl rfl)
theorem dX5_opens_16 : decode cX5_opens 16 = .ok (.dup, 1) := dk_89 (dk_at dksX5_opens_0 16 rfl rfl)
theorem dX5_opens_17 : decode cX5_opens 17 = .ok (.getfield 193, 3) := dk_180 0 193 (dk_at dksX5_opens_0 17 rfl rfl)
theorem dX5_opens_20 : decode cX5_opens 20 = .ok (.iconst 1, 1) := dk_4 (dk_at dksX5_opens_0 20 rfl rfl)
theorem dX5_opens_21 : decode cX5_opens 21 = .ok (.iadd, 1) := dk_96 (dk_at dksX5_opens_0 21 rfl rfl)
theorem dX5_opens_22 : decode cX5_opens 22 = .ok (.putfield 193, 3) := dk_181 0 193 (dk_at dksX5_opens_1 0 rfl rfl)
theorem dX5_opens_25 : decode cX5_opens 25 = .ok (.aload_n 0, 1) := dk_42 (dk_at dksX5_opens_1 3 rfl rfl)
theorem dX5_opens_26 : decode cX5_opens 26 = .ok (.dup, 1) := dk_89 (dk_at dksX5_opens_1 4 rfl rfl)
theorem dX5_opens_27 : decode cX5_opens 27 = .ok (.getfield 184, 3) := dk_180 0 184 (dk_at dksX5_opens_1 5 rfl rfl)
theorem dX5_opens_30 : decode cX5_opens 30 = .ok (.iconst 1, 1) := dk_4 (dk_at dksX5_opens_1 8 rfl rfl)
theorem dX5_opens_31 : decode cX5_opens 31 = .ok (.iadd, 1) := dk_96 (dk_at dksX5_opens_1 9 rfl rfl)
theorem dX5_opens_32 : decode cX5_opens 32 = .ok (.putfield 184, 3) := dk_181 0 184 (dk_at dksX5_opens_1 10 rfl rfl)
theorem dX5_opens_35 : decode cX5_opens 35 = .ok (.iconst 1, 1) := dk_4 (dk_at dksX5_opens_1 13 rfl rfl)
theorem dX5_opens_36 : decode cX5_opens 36 = .ok (.ireturn, 1) := dk_172 (dk_at dksX5_opens_1 14 rfl rfl)
abbrev cX5_faulty : ByteArray := prog_25_method_31_code
def yX5_faulty : MethodName := ⟨RX5, "faulty", "()V"⟩
def dkwX5_faulty_0 : List UInt8 := [42, 180, 0, 187, 156, 0, 11, 42, 42, 180, 0, 184, 181, 0, 187, 177]
abbrev dktX5_faulty_0 : List UInt8 := dkwX5_faulty_0 ++ []
theorem dksX5_faulty_0 : cX5_faulty.data.toList.drop 0 = dktX5_faulty_0 := by decide +kernel
theorem dX5_faulty_0 : decode cX5_faulty 0 = .ok (.aload_n 0, 1) := dk_42 (dk_at dksX5_faulty_0 0 rfl rfl)
theorem dX5_faulty_1 : decode cX5_faulty 1 = .ok (.getfield 187, 3) := dk_180 0 187 (dk_at dksX5_faulty_0 1 rfl rfl)
theorem dX5_faulty_4 : decode cX5_faulty 4 = .ok (.ifCond .ge 11, 3) := dk_156 0 11 (dk_at dksX5_faulty_0 4 rfl rfl)
theorem dX5_faulty_7 : decode cX5_faulty 7 = .ok (.aload_n 0, 1) := dk_42 (dk_at dksX5_faulty_0 7 rfl rfl)
theorem dX5_faulty_8 : decode cX5_faulty 8 = .ok (.aload_n 0, 1) := dk_42 (dk_at dksX5_faulty_0 8 rfl rfl)
theorem dX5_faulty_9 : decode cX5_faulty 9 = .ok (.getfield 184, 3) := dk_180 0 184 (dk_at dksX5_faulty_0 9 rfl rfl)
theorem dX5_faulty_12 : decode cX5_faulty 12 = .ok (.putfield 187, 3) := dk_181 0 187 (dk_at dksX5_faulty_0 12 rfl rfl)
theorem dX5_faulty_15 : decode cX5_faulty 15 = .ok (.return_, 1) := dk_177 (dk_at dksX5_faulty_0 15 rfl rfl)
abbrev cX5_figure : ByteArray := prog_25_method_35_code
def yX5_figure : MethodName := ⟨RX5, "figure", "()V"⟩
def dkwX5_figure_3 : List UInt8 := [42, 182, 0, 196, 42, 4, 27, 182, 0, 203, 177]
abbrev dktX5_figure_3 : List UInt8 := dkwX5_figure_3 ++ []
def dkwX5_figure_2 : List UInt8 := [181, 0, 184, 167, 255, 211, 28, 153, 0, 17, 42, 182, 0, 199, 16, 48, 16, 57, 184, 0, 114, 153, 0, 7]
abbrev dktX5_figure_2 : List UInt8 := dkwX5_figure_2 ++ dktX5_figure_3
def dkwX5_figure_1 : List UInt8 := [16, 10, 27, 104, 42, 182, 0, 199, 96, 16, 48, 100, 60, 132, 2, 1, 42, 89, 180, 0, 184, 4, 96]
abbrev dktX5_figure_1 : List UInt8 := dkwX5_figure_1 ++ dktX5_figure_2
def dkwX5_figure_0 : List UInt8 := [3, 60, 3, 61, 28, 7, 162, 0, 46, 42, 182, 0, 199, 16, 48, 16, 57, 184, 0, 114, 153, 0, 32]
abbrev dktX5_figure_0 : List UInt8 := dkwX5_figure_0 ++ dktX5_figure_1
theorem dksX5_figure_0 : cX5_figure.data.toList.drop 0 = dktX5_figure_0 := by decide +kernel
theorem dksX5_figure_1 : cX5_figure.data.toList.drop 23 = dktX5_figure_1 := dk_seg dksX5_figure_0 23 rfl rfl
theorem dksX5_figure_2 : cX5_figure.data.toList.drop 46 = dktX5_figure_2 := dk_seg dksX5_figure_1 23 rfl rfl
theorem dksX5_figure_3 : cX5_figure.data.toList.drop 70 = dktX5_figure_3 := dk_seg dksX5_figure_2 24 rfl rfl
theorem dX5_figure_0 : decode cX5_figure 0 = .ok (.iconst 0, 1) := dk_3 (dk_at dksX5_figure_0 0 rfl rfl)
theorem dX5_figure_1 : decode cX5_figure 1 = .ok (.istore_n 1, 1) := dk_60 (dk_at dksX5_figure_0 1 rfl rfl)
theorem dX5_figure_2 : decode cX5_figure 2 = .ok (.iconst 0, 1) := dk_3 (dk_at dksX5_figure_0 2 rfl rfl)
theorem dX5_figure_3 : decode cX5_figure 3 = .ok (.istore_n 2, 1) := dk_61 (dk_at dksX5_figure_0 3 rfl rfl)
theorem dX5_figure_4 : decode cX5_figure 4 = .ok (.iload_n 2, 1) := dk_28 (dk_at dksX5_figure_0 4 rfl rfl)
theorem dX5_figure_5 : decode cX5_figure 5 = .ok (.iconst 4, 1) := dk_7 (dk_at dksX5_figure_0 5 rfl rfl)
theorem dX5_figure_6 : decode cX5_figure 6 = .ok (.if_icmp .ge 46, 3) := dk_162 0 46 (dk_at dksX5_figure_0 6 rfl rfl)
theorem dX5_figure_9 : decode cX5_figure 9 = .ok (.aload_n 0, 1) := dk_42 (dk_at dksX5_figure_0 9 rfl rfl)
theorem dX5_figure_10 : decode cX5_figure 10 = .ok (.invokevirtual 199, 3) := dk_182 0 199 (dk_at dksX5_figure_0 10 rfl rfl)
theorem dX5_figure_13 : decode cX5_figure 13 = .ok (.bipush 48, 2) := dk_16 48 (dk_at dksX5_figure_0 13 rfl rfl)
theorem dX5_figure_15 : decode cX5_figure 15 = .ok (.bipush 57, 2) := dk_16 57 (dk_at dksX5_figure_0 15 rfl rfl)
theorem dX5_figure_17 : decode cX5_figure 17 = .ok (.invokestatic 114, 3) := dk_184 0 114 (dk_at dksX5_figure_0 17 rfl rfl)
theorem dX5_figure_20 : decode cX5_figure 20 = .ok (.ifCond .eq 32, 3) := dk_153 0 32 (dk_at dksX5_figure_0 20 rfl rfl)
theorem dX5_figure_23 : decode cX5_figure 23 = .ok (.bipush 10, 2) := dk_16 10 (dk_at dksX5_figure_1 0 rfl rfl)
theorem dX5_figure_25 : decode cX5_figure 25 = .ok (.iload_n 1, 1) := dk_27 (dk_at dksX5_figure_1 2 rfl rfl)
theorem dX5_figure_26 : decode cX5_figure 26 = .ok (.imul, 1) := dk_104 (dk_at dksX5_figure_1 3 rfl rfl)
theorem dX5_figure_27 : decode cX5_figure 27 = .ok (.aload_n 0, 1) := dk_42 (dk_at dksX5_figure_1 4 rfl rfl)
theorem dX5_figure_28 : decode cX5_figure 28 = .ok (.invokevirtual 199, 3) := dk_182 0 199 (dk_at dksX5_figure_1 5 rfl rfl)
theorem dX5_figure_31 : decode cX5_figure 31 = .ok (.iadd, 1) := dk_96 (dk_at dksX5_figure_1 8 rfl rfl)
theorem dX5_figure_32 : decode cX5_figure 32 = .ok (.bipush 48, 2) := dk_16 48 (dk_at dksX5_figure_1 9 rfl rfl)
theorem dX5_figure_34 : decode cX5_figure 34 = .ok (.isub, 1) := dk_100 (dk_at dksX5_figure_1 11 rfl rfl)
theorem dX5_figure_35 : decode cX5_figure 35 = .ok (.istore_n 1, 1) := dk_60 (dk_at dksX5_figure_1 12 rfl rfl)
theorem dX5_figure_36 : decode cX5_figure 36 = .ok (.iinc 2 1, 3) := dk_132 2 1 (dk_at dksX5_figure_1 13 rfl rfl)
theorem dX5_figure_39 : decode cX5_figure 39 = .ok (.aload_n 0, 1) := dk_42 (dk_at dksX5_figure_1 16 rfl rfl)
theorem dX5_figure_40 : decode cX5_figure 40 = .ok (.dup, 1) := dk_89 (dk_at dksX5_figure_1 17 rfl rfl)
theorem dX5_figure_41 : decode cX5_figure 41 = .ok (.getfield 184, 3) := dk_180 0 184 (dk_at dksX5_figure_1 18 rfl rfl)
theorem dX5_figure_44 : decode cX5_figure 44 = .ok (.iconst 1, 1) := dk_4 (dk_at dksX5_figure_1 21 rfl rfl)
theorem dX5_figure_45 : decode cX5_figure 45 = .ok (.iadd, 1) := dk_96 (dk_at dksX5_figure_1 22 rfl rfl)
theorem dX5_figure_46 : decode cX5_figure 46 = .ok (.putfield 184, 3) := dk_181 0 184 (dk_at dksX5_figure_2 0 rfl rfl)
theorem dX5_figure_49 : decode cX5_figure 49 = .ok (.goto (-45), 3) := dk_167 255 211 (dk_at dksX5_figure_2 3 rfl rfl)
theorem dX5_figure_52 : decode cX5_figure 52 = .ok (.iload_n 2, 1) := dk_28 (dk_at dksX5_figure_2 6 rfl rfl)
theorem dX5_figure_53 : decode cX5_figure 53 = .ok (.ifCond .eq 17, 3) := dk_153 0 17 (dk_at dksX5_figure_2 7 rfl rfl)
theorem dX5_figure_56 : decode cX5_figure 56 = .ok (.aload_n 0, 1) := dk_42 (dk_at dksX5_figure_2 10 rfl rfl)
theorem dX5_figure_57 : decode cX5_figure 57 = .ok (.invokevirtual 199, 3) := dk_182 0 199 (dk_at dksX5_figure_2 11 rfl rfl)
theorem dX5_figure_60 : decode cX5_figure 60 = .ok (.bipush 48, 2) := dk_16 48 (dk_at dksX5_figure_2 14 rfl rfl)
theorem dX5_figure_62 : decode cX5_figure 62 = .ok (.bipush 57, 2) := dk_16 57 (dk_at dksX5_figure_2 16 rfl rfl)
theorem dX5_figure_64 : decode cX5_figure 64 = .ok (.invokestatic 114, 3) := dk_184 0 114 (dk_at dksX5_figure_2 18 rfl rfl)
theorem dX5_figure_67 : decode cX5_figure 67 = .ok (.ifCond .eq 7, 3) := dk_153 0 7 (dk_at dksX5_figure_2 21 rfl rfl)
theorem dX5_figure_70 : decode cX5_figure 70 = .ok (.aload_n 0, 1) := dk_42 (dk_at dksX5_figure_3 0 rfl rfl)
theorem dX5_figure_71 : decode cX5_figure 71 = .ok (.invokevirtual 196, 3) := dk_182 0 196 (dk_at dksX5_figure_3 1 rfl rfl)
theorem dX5_figure_74 : decode cX5_figure 74 = .ok (.aload_n 0, 1) := dk_42 (dk_at dksX5_figure_3 4 rfl rfl)
theorem dX5_figure_75 : decode cX5_figure 75 = .ok (.iconst 1, 1) := dk_4 (dk_at dksX5_figure_3 5 rfl rfl)
theorem dX5_figure_76 : decode cX5_figure 76 = .ok (.iload_n 1, 1) := dk_27 (dk_at dksX5_figure_3 6 rfl rfl)
theorem dX5_figure_77 : decode cX5_figure 77 = .ok (.invokevirtual 203, 3) := dk_182 0 203 (dk_at dksX5_figure_3 7 rfl rfl)
theorem dX5_figure_80 : decode cX5_figure 80 = .ok (.return_, 1) := dk_177 (dk_at dksX5_figure_3 10 rfl rfl)
abbrev cX5_knows : ByteArray := prog_25_method_50_code
def yX5_knows : MethodName := ⟨RX5, "knows", "(II)I"⟩
def dkwX5_knows_1 : List UInt8 := [180, 0, 72, 27, 46, 172]
abbrev dktX5_knows_1 : List UInt8 := dkwX5_knows_1 ++ []
def dkwX5_knows_0 : List UInt8 := [42, 27, 182, 0, 135, 153, 0, 10, 28, 184, 0, 118, 154, 0, 5, 2, 172, 42, 28, 3, 182, 0, 254, 42]
abbrev dktX5_knows_0 : List UInt8 := dkwX5_knows_0 ++ dktX5_knows_1
theorem dksX5_knows_0 : cX5_knows.data.toList.drop 0 = dktX5_knows_0 := by decide +kernel
theorem dksX5_knows_1 : cX5_knows.data.toList.drop 24 = dktX5_knows_1 := dk_seg dksX5_knows_0 24 rfl rfl
theorem dX5_knows_0 : decode cX5_knows 0 = .ok (.aload_n 0, 1) := dk_42 (dk_at dksX5_knows_0 0 rfl rfl)
theorem dX5_knows_1 : decode cX5_knows 1 = .ok (.iload_n 1, 1) := dk_27 (dk_at dksX5_knows_0 1 rfl rfl)
theorem dX5_knows_2 : decode cX5_knows 2 = .ok (.invokevirtual 135, 3) := dk_182 0 135 (dk_at dksX5_knows_0 2 rfl rfl)
theorem dX5_knows_5 : decode cX5_knows 5 = .ok (.ifCond .eq 10, 3) := dk_153 0 10 (dk_at dksX5_knows_0 5 rfl rfl)
theorem dX5_knows_8 : decode cX5_knows 8 = .ok (.iload_n 2, 1) := dk_28 (dk_at dksX5_knows_0 8 rfl rfl)
theorem dX5_knows_9 : decode cX5_knows 9 = .ok (.invokestatic 118, 3) := dk_184 0 118 (dk_at dksX5_knows_0 9 rfl rfl)
theorem dX5_knows_12 : decode cX5_knows 12 = .ok (.ifCond .ne 5, 3) := dk_154 0 5 (dk_at dksX5_knows_0 12 rfl rfl)
theorem dX5_knows_15 : decode cX5_knows 15 = .ok (.iconst (-1), 1) := dk_2 (dk_at dksX5_knows_0 15 rfl rfl)
theorem dX5_knows_16 : decode cX5_knows 16 = .ok (.ireturn, 1) := dk_172 (dk_at dksX5_knows_0 16 rfl rfl)
theorem dX5_knows_17 : decode cX5_knows 17 = .ok (.aload_n 0, 1) := dk_42 (dk_at dksX5_knows_0 17 rfl rfl)
theorem dX5_knows_18 : decode cX5_knows 18 = .ok (.iload_n 2, 1) := dk_28 (dk_at dksX5_knows_0 18 rfl rfl)
theorem dX5_knows_19 : decode cX5_knows 19 = .ok (.iconst 0, 1) := dk_3 (dk_at dksX5_knows_0 19 rfl rfl)
theorem dX5_knows_20 : decode cX5_knows 20 = .ok (.invokevirtual 254, 3) := dk_182 0 254 (dk_at dksX5_knows_0 20 rfl rfl)
theorem dX5_knows_23 : decode cX5_knows 23 = .ok (.aload_n 0, 1) := dk_42 (dk_at dksX5_knows_0 23 rfl rfl)
theorem dX5_knows_24 : decode cX5_knows 24 = .ok (.getfield 72, 3) := dk_180 0 72 (dk_at dksX5_knows_1 0 rfl rfl)
theorem dX5_knows_27 : decode cX5_knows 27 = .ok (.iload_n 1, 1) := dk_27 (dk_at dksX5_knows_1 3 rfl rfl)
theorem dX5_knows_28 : decode cX5_knows 28 = .ok (.iaload, 1) := dk_46 (dk_at dksX5_knows_1 4 rfl rfl)
theorem dX5_knows_29 : decode cX5_knows 29 = .ok (.ireturn, 1) := dk_172 (dk_at dksX5_knows_1 5 rfl rfl)
abbrev cX5_findKnown : ByteArray := prog_25_method_49_code
def yX5_findKnown : MethodName := ⟨RX5, "findKnown", "(II)V"⟩
def dkwX5_findKnown_11 : List UInt8 := [128, 79, 167, 255, 80, 177]
abbrev dktX5_findKnown_11 : List UInt8 := dkwX5_findKnown_11 ++ []
def dkwX5_findKnown_10 : List UInt8 := [180, 0, 72, 21, 6, 92, 46, 42, 180, 0, 144, 4, 160, 0, 8, 21, 7, 167, 0, 7, 4, 21, 5, 120]
abbrev dktX5_findKnown_10 : List UInt8 := dkwX5_findKnown_10 ++ dktX5_findKnown_11
def dkwX5_findKnown_9 : List UInt8 := [21, 5, 92, 46, 42, 180, 0, 144, 4, 160, 0, 8, 21, 7, 167, 0, 7, 4, 21, 6, 120, 128, 79, 42]
abbrev dktX5_findKnown_9 : List UInt8 := dkwX5_findKnown_9 ++ dktX5_findKnown_10
def dkwX5_findKnown_8 : List UInt8 := [54, 6, 42, 180, 0, 72, 21, 5, 46, 42, 180, 0, 72, 21, 6, 46, 128, 54, 7, 42, 180, 0, 72]
abbrev dktX5_findKnown_8 : List UInt8 := dkwX5_findKnown_8 ++ dktX5_findKnown_9
def dkwX5_findKnown_7 : List UInt8 := [180, 0, 75, 21, 4, 4, 84, 42, 180, 0, 19, 21, 4, 46, 54, 5, 42, 180, 0, 22, 21, 4, 46]
abbrev dktX5_findKnown_7 : List UInt8 := dkwX5_findKnown_7 ++ dktX5_findKnown_8
def dkwX5_findKnown_6 : List UInt8 := [167, 255, 208, 21, 4, 155, 0, 7, 4, 167, 0, 4, 3, 62, 29, 154, 0, 6, 167, 255, 180, 42]
abbrev dktX5_findKnown_6 : List UInt8 := dkwX5_findKnown_6 ++ dktX5_findKnown_7
def dkwX5_findKnown_5 : List UInt8 := [42, 180, 0, 25, 21, 5, 46, 42, 180, 0, 25, 21, 4, 46, 162, 0, 7, 21, 5, 54, 4, 132, 5, 1]
abbrev dktX5_findKnown_5 : List UInt8 := dkwX5_findKnown_5 ++ dktX5_findKnown_6
def dkwX5_findKnown_4 : List UInt8 := [21, 5, 42, 180, 0, 141, 162, 0, 45, 42, 180, 0, 75, 21, 5, 51, 154, 0, 29, 21, 4, 155, 0, 20]
abbrev dktX5_findKnown_4 : List UInt8 := dkwX5_findKnown_4 ++ dktX5_findKnown_5
def dkwX5_findKnown_3 : List UInt8 := [167, 0, 4, 3, 84, 132, 3, 1, 167, 255, 207, 4, 62, 29, 153, 0, 178, 2, 54, 4, 3, 54, 5]
abbrev dktX5_findKnown_3 : List UInt8 := dkwX5_findKnown_3 ++ dktX5_findKnown_4
def dkwX5_findKnown_2 : List UInt8 := [27, 163, 0, 20, 28, 29, 122, 4, 126, 4, 159, 0, 11, 42, 29, 182, 0, 178, 154, 0, 7, 4]
abbrev dktX5_findKnown_2 : List UInt8 := dkwX5_findKnown_2 ++ dktX5_findKnown_3
def dkwX5_findKnown_1 : List UInt8 := [167, 255, 236, 3, 62, 29, 42, 180, 0, 141, 162, 0, 47, 42, 180, 0, 75, 29, 42, 180, 0, 25, 29, 46]
abbrev dktX5_findKnown_1 : List UInt8 := dkwX5_findKnown_1 ++ dktX5_findKnown_2
def dkwX5_findKnown_0 : List UInt8 := [3, 62, 29, 42, 180, 0, 111, 162, 0, 18, 42, 180, 0, 72, 29, 4, 29, 120, 79, 132, 3, 1]
abbrev dktX5_findKnown_0 : List UInt8 := dkwX5_findKnown_0 ++ dktX5_findKnown_1
theorem dksX5_findKnown_0 : cX5_findKnown.data.toList.drop 0 = dktX5_findKnown_0 := by decide +kernel
theorem dksX5_findKnown_1 : cX5_findKnown.data.toList.drop 22 = dktX5_findKnown_1 := dk_seg dksX5_findKnown_0 22 rfl rfl
theorem dksX5_findKnown_2 : cX5_findKnown.data.toList.drop 46 = dktX5_findKnown_2 := dk_seg dksX5_findKnown_1 24 rfl rfl
theorem dksX5_findKnown_3 : cX5_findKnown.data.toList.drop 68 = dktX5_findKnown_3 := dk_seg dksX5_findKnown_2 22 rfl rfl
theorem dksX5_findKnown_4 : cX5_findKnown.data.toList.drop 91 = dktX5_findKnown_4 := dk_seg dksX5_findKnown_3 23 rfl rfl
theorem dksX5_findKnown_5 : cX5_findKnown.data.toList.drop 115 = dktX5_findKnown_5 := dk_seg dksX5_findKnown_4 24 rfl rfl
theorem dksX5_findKnown_6 : cX5_findKnown.data.toList.drop 139 = dktX5_findKnown_6 := dk_seg dksX5_findKnown_5 24 rfl rfl
theorem dksX5_findKnown_7 : cX5_findKnown.data.toList.drop 161 = dktX5_findKnown_7 := dk_seg dksX5_findKnown_6 22 rfl rfl
theorem dksX5_findKnown_8 : cX5_findKnown.data.toList.drop 184 = dktX5_findKnown_8 := dk_seg dksX5_findKnown_7 23 rfl rfl
theorem dksX5_findKnown_9 : cX5_findKnown.data.toList.drop 207 = dktX5_findKnown_9 := dk_seg dksX5_findKnown_8 23 rfl rfl
theorem dksX5_findKnown_10 : cX5_findKnown.data.toList.drop 231 = dktX5_findKnown_10 := dk_seg dksX5_findKnown_9 24 rfl rfl
theorem dksX5_findKnown_11 : cX5_findKnown.data.toList.drop 255 = dktX5_findKnown_11 := dk_seg dksX5_findKnown_10 24 rfl rfl
theorem dX5_findKnown_0 : decode cX5_findKnown 0 = .ok (.iconst 0, 1) := dk_3 (dk_at dksX5_findKnown_0 0 rfl rfl)
theorem dX5_findKnown_1 : decode cX5_findKnown 1 = .ok (.istore_n 3, 1) := dk_62 (dk_at dksX5_findKnown_0 1 rfl rfl)
theorem dX5_findKnown_2 : decode cX5_findKnown 2 = .ok (.iload_n 3, 1) := dk_29 (dk_at dksX5_findKnown_0 2 rfl rfl)
theorem dX5_findKnown_3 : decode cX5_findKnown 3 = .ok (.aload_n 0, 1) := dk_42 (dk_at dksX5_findKnown_0 3 rfl rfl)
theorem dX5_findKnown_4 : decode cX5_findKnown 4 = .ok (.getfield 111, 3) := dk_180 0 111 (dk_at dksX5_findKnown_0 4 rfl rfl)
theorem dX5_findKnown_7 : decode cX5_findKnown 7 = .ok (.if_icmp .ge 18, 3) := dk_162 0 18 (dk_at dksX5_findKnown_0 7 rfl rfl)
theorem dX5_findKnown_10 : decode cX5_findKnown 10 = .ok (.aload_n 0, 1) := dk_42 (dk_at dksX5_findKnown_0 10 rfl rfl)
theorem dX5_findKnown_11 : decode cX5_findKnown 11 = .ok (.getfield 72, 3) := dk_180 0 72 (dk_at dksX5_findKnown_0 11 rfl rfl)
theorem dX5_findKnown_14 : decode cX5_findKnown 14 = .ok (.iload_n 3, 1) := dk_29 (dk_at dksX5_findKnown_0 14 rfl rfl)
theorem dX5_findKnown_15 : decode cX5_findKnown 15 = .ok (.iconst 1, 1) := dk_4 (dk_at dksX5_findKnown_0 15 rfl rfl)
theorem dX5_findKnown_16 : decode cX5_findKnown 16 = .ok (.iload_n 3, 1) := dk_29 (dk_at dksX5_findKnown_0 16 rfl rfl)
theorem dX5_findKnown_17 : decode cX5_findKnown 17 = .ok (.ishl, 1) := dk_120 (dk_at dksX5_findKnown_0 17 rfl rfl)
theorem dX5_findKnown_18 : decode cX5_findKnown 18 = .ok (.iastore, 1) := dk_79 (dk_at dksX5_findKnown_0 18 rfl rfl)
theorem dX5_findKnown_19 : decode cX5_findKnown 19 = .ok (.iinc 3 1, 3) := dk_132 3 1 (dk_at dksX5_findKnown_0 19 rfl rfl)
theorem dX5_findKnown_22 : decode cX5_findKnown 22 = .ok (.goto (-20), 3) := dk_167 255 236 (dk_at dksX5_findKnown_1 0 rfl rfl)
theorem dX5_findKnown_25 : decode cX5_findKnown 25 = .ok (.iconst 0, 1) := dk_3 (dk_at dksX5_findKnown_1 3 rfl rfl)
theorem dX5_findKnown_26 : decode cX5_findKnown 26 = .ok (.istore_n 3, 1) := dk_62 (dk_at dksX5_findKnown_1 4 rfl rfl)
theorem dX5_findKnown_27 : decode cX5_findKnown 27 = .ok (.iload_n 3, 1) := dk_29 (dk_at dksX5_findKnown_1 5 rfl rfl)
theorem dX5_findKnown_28 : decode cX5_findKnown 28 = .ok (.aload_n 0, 1) := dk_42 (dk_at dksX5_findKnown_1 6 rfl rfl)
theorem dX5_findKnown_29 : decode cX5_findKnown 29 = .ok (.getfield 141, 3) := dk_180 0 141 (dk_at dksX5_findKnown_1 7 rfl rfl)
theorem dX5_findKnown_32 : decode cX5_findKnown 32 = .ok (.if_icmp .ge 47, 3) := dk_162 0 47 (dk_at dksX5_findKnown_1 10 rfl rfl)
theorem dX5_findKnown_35 : decode cX5_findKnown 35 = .ok (.aload_n 0, 1) := dk_42 (dk_at dksX5_findKnown_1 13 rfl rfl)
theorem dX5_findKnown_36 : decode cX5_findKnown 36 = .ok (.getfield 75, 3) := dk_180 0 75 (dk_at dksX5_findKnown_1 14 rfl rfl)
theorem dX5_findKnown_39 : decode cX5_findKnown 39 = .ok (.iload_n 3, 1) := dk_29 (dk_at dksX5_findKnown_1 17 rfl rfl)
theorem dX5_findKnown_40 : decode cX5_findKnown 40 = .ok (.aload_n 0, 1) := dk_42 (dk_at dksX5_findKnown_1 18 rfl rfl)
theorem dX5_findKnown_41 : decode cX5_findKnown 41 = .ok (.getfield 25, 3) := dk_180 0 25 (dk_at dksX5_findKnown_1 19 rfl rfl)
theorem dX5_findKnown_44 : decode cX5_findKnown 44 = .ok (.iload_n 3, 1) := dk_29 (dk_at dksX5_findKnown_1 22 rfl rfl)
theorem dX5_findKnown_45 : decode cX5_findKnown 45 = .ok (.iaload, 1) := dk_46 (dk_at dksX5_findKnown_1 23 rfl rfl)
theorem dX5_findKnown_46 : decode cX5_findKnown 46 = .ok (.iload_n 1, 1) := dk_27 (dk_at dksX5_findKnown_2 0 rfl rfl)
theorem dX5_findKnown_47 : decode cX5_findKnown 47 = .ok (.if_icmp .gt 20, 3) := dk_163 0 20 (dk_at dksX5_findKnown_2 1 rfl rfl)
theorem dX5_findKnown_50 : decode cX5_findKnown 50 = .ok (.iload_n 2, 1) := dk_28 (dk_at dksX5_findKnown_2 4 rfl rfl)
theorem dX5_findKnown_51 : decode cX5_findKnown 51 = .ok (.iload_n 3, 1) := dk_29 (dk_at dksX5_findKnown_2 5 rfl rfl)
theorem dX5_findKnown_52 : decode cX5_findKnown 52 = .ok (.ishr, 1) := dk_122 (dk_at dksX5_findKnown_2 6 rfl rfl)
theorem dX5_findKnown_53 : decode cX5_findKnown 53 = .ok (.iconst 1, 1) := dk_4 (dk_at dksX5_findKnown_2 7 rfl rfl)
theorem dX5_findKnown_54 : decode cX5_findKnown 54 = .ok (.iand, 1) := dk_126 (dk_at dksX5_findKnown_2 8 rfl rfl)
theorem dX5_findKnown_55 : decode cX5_findKnown 55 = .ok (.iconst 1, 1) := dk_4 (dk_at dksX5_findKnown_2 9 rfl rfl)
theorem dX5_findKnown_56 : decode cX5_findKnown 56 = .ok (.if_icmp .eq 11, 3) := dk_159 0 11 (dk_at dksX5_findKnown_2 10 rfl rfl)
theorem dX5_findKnown_59 : decode cX5_findKnown 59 = .ok (.aload_n 0, 1) := dk_42 (dk_at dksX5_findKnown_2 13 rfl rfl)
theorem dX5_findKnown_60 : decode cX5_findKnown 60 = .ok (.iload_n 3, 1) := dk_29 (dk_at dksX5_findKnown_2 14 rfl rfl)
theorem dX5_findKnown_61 : decode cX5_findKnown 61 = .ok (.invokevirtual 178, 3) := dk_182 0 178 (dk_at dksX5_findKnown_2 15 rfl rfl)
theorem dX5_findKnown_64 : decode cX5_findKnown 64 = .ok (.ifCond .ne 7, 3) := dk_154 0 7 (dk_at dksX5_findKnown_2 18 rfl rfl)
theorem dX5_findKnown_67 : decode cX5_findKnown 67 = .ok (.iconst 1, 1) := dk_4 (dk_at dksX5_findKnown_2 21 rfl rfl)
theorem dX5_findKnown_68 : decode cX5_findKnown 68 = .ok (.goto 4, 3) := dk_167 0 4 (dk_at dksX5_findKnown_3 0 rfl rfl)
theorem dX5_findKnown_71 : decode cX5_findKnown 71 = .ok (.iconst 0, 1) := dk_3 (dk_at dksX5_findKnown_3 3 rfl rfl)
theorem dX5_findKnown_72 : decode cX5_findKnown 72 = .ok (.bastore, 1) := dk_84 (dk_at dksX5_findKnown_3 4 rfl rfl)
theorem dX5_findKnown_73 : decode cX5_findKnown 73 = .ok (.iinc 3 1, 3) := dk_132 3 1 (dk_at dksX5_findKnown_3 5 rfl rfl)
theorem dX5_findKnown_76 : decode cX5_findKnown 76 = .ok (.goto (-49), 3) := dk_167 255 207 (dk_at dksX5_findKnown_3 8 rfl rfl)
theorem dX5_findKnown_79 : decode cX5_findKnown 79 = .ok (.iconst 1, 1) := dk_4 (dk_at dksX5_findKnown_3 11 rfl rfl)
theorem dX5_findKnown_80 : decode cX5_findKnown 80 = .ok (.istore_n 3, 1) := dk_62 (dk_at dksX5_findKnown_3 12 rfl rfl)
theorem dX5_findKnown_81 : decode cX5_findKnown 81 = .ok (.iload_n 3, 1) := dk_29 (dk_at dksX5_findKnown_3 13 rfl rfl)
theorem dX5_findKnown_82 : decode cX5_findKnown 82 = .ok (.ifCond .eq 178, 3) := dk_153 0 178 (dk_at dksX5_findKnown_3 14 rfl rfl)
theorem dX5_findKnown_85 : decode cX5_findKnown 85 = .ok (.iconst (-1), 1) := dk_2 (dk_at dksX5_findKnown_3 17 rfl rfl)
theorem dX5_findKnown_86 : decode cX5_findKnown 86 = .ok (.istore 4, 2) := dk_54 4 (dk_at dksX5_findKnown_3 18 rfl rfl)
theorem dX5_findKnown_88 : decode cX5_findKnown 88 = .ok (.iconst 0, 1) := dk_3 (dk_at dksX5_findKnown_3 20 rfl rfl)
theorem dX5_findKnown_89 : decode cX5_findKnown 89 = .ok (.istore 5, 2) := dk_54 5 (dk_at dksX5_findKnown_3 21 rfl rfl)
theorem dX5_findKnown_91 : decode cX5_findKnown 91 = .ok (.iload 5, 2) := dk_21 5 (dk_at dksX5_findKnown_4 0 rfl rfl)
theorem dX5_findKnown_93 : decode cX5_findKnown 93 = .ok (.aload_n 0, 1) := dk_42 (dk_at dksX5_findKnown_4 2 rfl rfl)
theorem dX5_findKnown_94 : decode cX5_findKnown 94 = .ok (.getfield 141, 3) := dk_180 0 141 (dk_at dksX5_findKnown_4 3 rfl rfl)
theorem dX5_findKnown_97 : decode cX5_findKnown 97 = .ok (.if_icmp .ge 45, 3) := dk_162 0 45 (dk_at dksX5_findKnown_4 6 rfl rfl)
theorem dX5_findKnown_100 : decode cX5_findKnown 100 = .ok (.aload_n 0, 1) := dk_42 (dk_at dksX5_findKnown_4 9 rfl rfl)
theorem dX5_findKnown_101 : decode cX5_findKnown 101 = .ok (.getfield 75, 3) := dk_180 0 75 (dk_at dksX5_findKnown_4 10 rfl rfl)
theorem dX5_findKnown_104 : decode cX5_findKnown 104 = .ok (.iload 5, 2) := dk_21 5 (dk_at dksX5_findKnown_4 13 rfl rfl)
theorem dX5_findKnown_106 : decode cX5_findKnown 106 = .ok (.baload, 1) := dk_51 (dk_at dksX5_findKnown_4 15 rfl rfl)
theorem dX5_findKnown_107 : decode cX5_findKnown 107 = .ok (.ifCond .ne 29, 3) := dk_154 0 29 (dk_at dksX5_findKnown_4 16 rfl rfl)
theorem dX5_findKnown_110 : decode cX5_findKnown 110 = .ok (.iload 4, 2) := dk_21 4 (dk_at dksX5_findKnown_4 19 rfl rfl)
theorem dX5_findKnown_112 : decode cX5_findKnown 112 = .ok (.ifCond .lt 20, 3) := dk_155 0 20 (dk_at dksX5_findKnown_4 21 rfl rfl)
theorem dX5_findKnown_115 : decode cX5_findKnown 115 = .ok (.aload_n 0, 1) := dk_42 (dk_at dksX5_findKnown_5 0 rfl rfl)
theorem dX5_findKnown_116 : decode cX5_findKnown 116 = .ok (.getfield 25, 3) := dk_180 0 25 (dk_at dksX5_findKnown_5 1 rfl rfl)
theorem dX5_findKnown_119 : decode cX5_findKnown 119 = .ok (.iload 5, 2) := dk_21 5 (dk_at dksX5_findKnown_5 4 rfl rfl)
theorem dX5_findKnown_121 : decode cX5_findKnown 121 = .ok (.iaload, 1) := dk_46 (dk_at dksX5_findKnown_5 6 rfl rfl)
theorem dX5_findKnown_122 : decode cX5_findKnown 122 = .ok (.aload_n 0, 1) := dk_42 (dk_at dksX5_findKnown_5 7 rfl rfl)
theorem dX5_findKnown_123 : decode cX5_findKnown 123 = .ok (.getfield 25, 3) := dk_180 0 25 (dk_at dksX5_findKnown_5 8 rfl rfl)
theorem dX5_findKnown_126 : decode cX5_findKnown 126 = .ok (.iload 4, 2) := dk_21 4 (dk_at dksX5_findKnown_5 11 rfl rfl)
theorem dX5_findKnown_128 : decode cX5_findKnown 128 = .ok (.iaload, 1) := dk_46 (dk_at dksX5_findKnown_5 13 rfl rfl)
theorem dX5_findKnown_129 : decode cX5_findKnown 129 = .ok (.if_icmp .ge 7, 3) := dk_162 0 7 (dk_at dksX5_findKnown_5 14 rfl rfl)
theorem dX5_findKnown_132 : decode cX5_findKnown 132 = .ok (.iload 5, 2) := dk_21 5 (dk_at dksX5_findKnown_5 17 rfl rfl)
theorem dX5_findKnown_134 : decode cX5_findKnown 134 = .ok (.istore 4, 2) := dk_54 4 (dk_at dksX5_findKnown_5 19 rfl rfl)
theorem dX5_findKnown_136 : decode cX5_findKnown 136 = .ok (.iinc 5 1, 3) := dk_132 5 1 (dk_at dksX5_findKnown_5 21 rfl rfl)
theorem dX5_findKnown_139 : decode cX5_findKnown 139 = .ok (.goto (-48), 3) := dk_167 255 208 (dk_at dksX5_findKnown_6 0 rfl rfl)
theorem dX5_findKnown_142 : decode cX5_findKnown 142 = .ok (.iload 4, 2) := dk_21 4 (dk_at dksX5_findKnown_6 3 rfl rfl)
theorem dX5_findKnown_144 : decode cX5_findKnown 144 = .ok (.ifCond .lt 7, 3) := dk_155 0 7 (dk_at dksX5_findKnown_6 5 rfl rfl)
theorem dX5_findKnown_147 : decode cX5_findKnown 147 = .ok (.iconst 1, 1) := dk_4 (dk_at dksX5_findKnown_6 8 rfl rfl)
theorem dX5_findKnown_148 : decode cX5_findKnown 148 = .ok (.goto 4, 3) := dk_167 0 4 (dk_at dksX5_findKnown_6 9 rfl rfl)
theorem dX5_findKnown_151 : decode cX5_findKnown 151 = .ok (.iconst 0, 1) := dk_3 (dk_at dksX5_findKnown_6 12 rfl rfl)
theorem dX5_findKnown_152 : decode cX5_findKnown 152 = .ok (.istore_n 3, 1) := dk_62 (dk_at dksX5_findKnown_6 13 rfl rfl)
theorem dX5_findKnown_153 : decode cX5_findKnown 153 = .ok (.iload_n 3, 1) := dk_29 (dk_at dksX5_findKnown_6 14 rfl rfl)
theorem dX5_findKnown_154 : decode cX5_findKnown 154 = .ok (.ifCond .ne 6, 3) := dk_154 0 6 (dk_at dksX5_findKnown_6 15 rfl rfl)
theorem dX5_findKnown_157 : decode cX5_findKnown 157 = .ok (.goto (-76), 3) := dk_167 255 180 (dk_at dksX5_findKnown_6 18 rfl rfl)
theorem dX5_findKnown_160 : decode cX5_findKnown 160 = .ok (.aload_n 0, 1) := dk_42 (dk_at dksX5_findKnown_6 21 rfl rfl)
theorem dX5_findKnown_161 : decode cX5_findKnown 161 = .ok (.getfield 75, 3) := dk_180 0 75 (dk_at dksX5_findKnown_7 0 rfl rfl)
theorem dX5_findKnown_164 : decode cX5_findKnown 164 = .ok (.iload 4, 2) := dk_21 4 (dk_at dksX5_findKnown_7 3 rfl rfl)
theorem dX5_findKnown_166 : decode cX5_findKnown 166 = .ok (.iconst 1, 1) := dk_4 (dk_at dksX5_findKnown_7 5 rfl rfl)
theorem dX5_findKnown_167 : decode cX5_findKnown 167 = .ok (.bastore, 1) := dk_84 (dk_at dksX5_findKnown_7 6 rfl rfl)
theorem dX5_findKnown_168 : decode cX5_findKnown 168 = .ok (.aload_n 0, 1) := dk_42 (dk_at dksX5_findKnown_7 7 rfl rfl)
theorem dX5_findKnown_169 : decode cX5_findKnown 169 = .ok (.getfield 19, 3) := dk_180 0 19 (dk_at dksX5_findKnown_7 8 rfl rfl)
theorem dX5_findKnown_172 : decode cX5_findKnown 172 = .ok (.iload 4, 2) := dk_21 4 (dk_at dksX5_findKnown_7 11 rfl rfl)
theorem dX5_findKnown_174 : decode cX5_findKnown 174 = .ok (.iaload, 1) := dk_46 (dk_at dksX5_findKnown_7 13 rfl rfl)
theorem dX5_findKnown_175 : decode cX5_findKnown 175 = .ok (.istore 5, 2) := dk_54 5 (dk_at dksX5_findKnown_7 14 rfl rfl)
theorem dX5_findKnown_177 : decode cX5_findKnown 177 = .ok (.aload_n 0, 1) := dk_42 (dk_at dksX5_findKnown_7 16 rfl rfl)
theorem dX5_findKnown_178 : decode cX5_findKnown 178 = .ok (.getfield 22, 3) := dk_180 0 22 (dk_at dksX5_findKnown_7 17 rfl rfl)
theorem dX5_findKnown_181 : decode cX5_findKnown 181 = .ok (.iload 4, 2) := dk_21 4 (dk_at dksX5_findKnown_7 20 rfl rfl)
theorem dX5_findKnown_183 : decode cX5_findKnown 183 = .ok (.iaload, 1) := dk_46 (dk_at dksX5_findKnown_7 22 rfl rfl)
theorem dX5_findKnown_184 : decode cX5_findKnown 184 = .ok (.istore 6, 2) := dk_54 6 (dk_at dksX5_findKnown_8 0 rfl rfl)
theorem dX5_findKnown_186 : decode cX5_findKnown 186 = .ok (.aload_n 0, 1) := dk_42 (dk_at dksX5_findKnown_8 2 rfl rfl)
theorem dX5_findKnown_187 : decode cX5_findKnown 187 = .ok (.getfield 72, 3) := dk_180 0 72 (dk_at dksX5_findKnown_8 3 rfl rfl)
theorem dX5_findKnown_190 : decode cX5_findKnown 190 = .ok (.iload 5, 2) := dk_21 5 (dk_at dksX5_findKnown_8 6 rfl rfl)
theorem dX5_findKnown_192 : decode cX5_findKnown 192 = .ok (.iaload, 1) := dk_46 (dk_at dksX5_findKnown_8 8 rfl rfl)
theorem dX5_findKnown_193 : decode cX5_findKnown 193 = .ok (.aload_n 0, 1) := dk_42 (dk_at dksX5_findKnown_8 9 rfl rfl)
theorem dX5_findKnown_194 : decode cX5_findKnown 194 = .ok (.getfield 72, 3) := dk_180 0 72 (dk_at dksX5_findKnown_8 10 rfl rfl)
theorem dX5_findKnown_197 : decode cX5_findKnown 197 = .ok (.iload 6, 2) := dk_21 6 (dk_at dksX5_findKnown_8 13 rfl rfl)
theorem dX5_findKnown_199 : decode cX5_findKnown 199 = .ok (.iaload, 1) := dk_46 (dk_at dksX5_findKnown_8 15 rfl rfl)
theorem dX5_findKnown_200 : decode cX5_findKnown 200 = .ok (.ior, 1) := dk_128 (dk_at dksX5_findKnown_8 16 rfl rfl)
theorem dX5_findKnown_201 : decode cX5_findKnown 201 = .ok (.istore 7, 2) := dk_54 7 (dk_at dksX5_findKnown_8 17 rfl rfl)
theorem dX5_findKnown_203 : decode cX5_findKnown 203 = .ok (.aload_n 0, 1) := dk_42 (dk_at dksX5_findKnown_8 19 rfl rfl)
theorem dX5_findKnown_204 : decode cX5_findKnown 204 = .ok (.getfield 72, 3) := dk_180 0 72 (dk_at dksX5_findKnown_8 20 rfl rfl)
theorem dX5_findKnown_207 : decode cX5_findKnown 207 = .ok (.iload 5, 2) := dk_21 5 (dk_at dksX5_findKnown_9 0 rfl rfl)
theorem dX5_findKnown_209 : decode cX5_findKnown 209 = .ok (.dup2, 1) := dk_92 (dk_at dksX5_findKnown_9 2 rfl rfl)
theorem dX5_findKnown_210 : decode cX5_findKnown 210 = .ok (.iaload, 1) := dk_46 (dk_at dksX5_findKnown_9 3 rfl rfl)
theorem dX5_findKnown_211 : decode cX5_findKnown 211 = .ok (.aload_n 0, 1) := dk_42 (dk_at dksX5_findKnown_9 4 rfl rfl)
theorem dX5_findKnown_212 : decode cX5_findKnown 212 = .ok (.getfield 144, 3) := dk_180 0 144 (dk_at dksX5_findKnown_9 5 rfl rfl)
theorem dX5_findKnown_215 : decode cX5_findKnown 215 = .ok (.iconst 1, 1) := dk_4 (dk_at dksX5_findKnown_9 8 rfl rfl)
theorem dX5_findKnown_216 : decode cX5_findKnown 216 = .ok (.if_icmp .ne 8, 3) := dk_160 0 8 (dk_at dksX5_findKnown_9 9 rfl rfl)
theorem dX5_findKnown_219 : decode cX5_findKnown 219 = .ok (.iload 7, 2) := dk_21 7 (dk_at dksX5_findKnown_9 12 rfl rfl)
theorem dX5_findKnown_221 : decode cX5_findKnown 221 = .ok (.goto 7, 3) := dk_167 0 7 (dk_at dksX5_findKnown_9 14 rfl rfl)
theorem dX5_findKnown_224 : decode cX5_findKnown 224 = .ok (.iconst 1, 1) := dk_4 (dk_at dksX5_findKnown_9 17 rfl rfl)
theorem dX5_findKnown_225 : decode cX5_findKnown 225 = .ok (.iload 6, 2) := dk_21 6 (dk_at dksX5_findKnown_9 18 rfl rfl)
theorem dX5_findKnown_227 : decode cX5_findKnown 227 = .ok (.ishl, 1) := dk_120 (dk_at dksX5_findKnown_9 20 rfl rfl)
theorem dX5_findKnown_228 : decode cX5_findKnown 228 = .ok (.ior, 1) := dk_128 (dk_at dksX5_findKnown_9 21 rfl rfl)
theorem dX5_findKnown_229 : decode cX5_findKnown 229 = .ok (.iastore, 1) := dk_79 (dk_at dksX5_findKnown_9 22 rfl rfl)
theorem dX5_findKnown_230 : decode cX5_findKnown 230 = .ok (.aload_n 0, 1) := dk_42 (dk_at dksX5_findKnown_9 23 rfl rfl)
theorem dX5_findKnown_231 : decode cX5_findKnown 231 = .ok (.getfield 72, 3) := dk_180 0 72 (dk_at dksX5_findKnown_10 0 rfl rfl)
theorem dX5_findKnown_234 : decode cX5_findKnown 234 = .ok (.iload 6, 2) := dk_21 6 (dk_at dksX5_findKnown_10 3 rfl rfl)
theorem dX5_findKnown_236 : decode cX5_findKnown 236 = .ok (.dup2, 1) := dk_92 (dk_at dksX5_findKnown_10 5 rfl rfl)
theorem dX5_findKnown_237 : decode cX5_findKnown 237 = .ok (.iaload, 1) := dk_46 (dk_at dksX5_findKnown_10 6 rfl rfl)
theorem dX5_findKnown_238 : decode cX5_findKnown 238 = .ok (.aload_n 0, 1) := dk_42 (dk_at dksX5_findKnown_10 7 rfl rfl)
theorem dX5_findKnown_239 : decode cX5_findKnown 239 = .ok (.getfield 144, 3) := dk_180 0 144 (dk_at dksX5_findKnown_10 8 rfl rfl)
theorem dX5_findKnown_242 : decode cX5_findKnown 242 = .ok (.iconst 1, 1) := dk_4 (dk_at dksX5_findKnown_10 11 rfl rfl)
theorem dX5_findKnown_243 : decode cX5_findKnown 243 = .ok (.if_icmp .ne 8, 3) := dk_160 0 8 (dk_at dksX5_findKnown_10 12 rfl rfl)
theorem dX5_findKnown_246 : decode cX5_findKnown 246 = .ok (.iload 7, 2) := dk_21 7 (dk_at dksX5_findKnown_10 15 rfl rfl)
theorem dX5_findKnown_248 : decode cX5_findKnown 248 = .ok (.goto 7, 3) := dk_167 0 7 (dk_at dksX5_findKnown_10 17 rfl rfl)
theorem dX5_findKnown_251 : decode cX5_findKnown 251 = .ok (.iconst 1, 1) := dk_4 (dk_at dksX5_findKnown_10 20 rfl rfl)
theorem dX5_findKnown_252 : decode cX5_findKnown 252 = .ok (.iload 5, 2) := dk_21 5 (dk_at dksX5_findKnown_10 21 rfl rfl)
theorem dX5_findKnown_254 : decode cX5_findKnown 254 = .ok (.ishl, 1) := dk_120 (dk_at dksX5_findKnown_10 23 rfl rfl)
theorem dX5_findKnown_255 : decode cX5_findKnown 255 = .ok (.ior, 1) := dk_128 (dk_at dksX5_findKnown_11 0 rfl rfl)
theorem dX5_findKnown_256 : decode cX5_findKnown 256 = .ok (.iastore, 1) := dk_79 (dk_at dksX5_findKnown_11 1 rfl rfl)
theorem dX5_findKnown_257 : decode cX5_findKnown 257 = .ok (.goto (-176), 3) := dk_167 255 80 (dk_at dksX5_findKnown_11 2 rfl rfl)
theorem dX5_findKnown_260 : decode cX5_findKnown 260 = .ok (.return_, 1) := dk_177 (dk_at dksX5_findKnown_11 5 rfl rfl)
abbrev cX5_held : ByteArray := prog_25_method_58_code
def yX5_held : MethodName := ⟨RX5, "held", "(III)I"⟩
def dkwX5_held_5 : List UInt8 := [172]
abbrev dktX5_held_5 : List UInt8 := dkwX5_held_5 ++ []
def dkwX5_held_4 : List UInt8 := [182, 1, 14, 167, 0, 21, 42, 27, 28, 42, 182, 1, 20, 182, 1, 23, 153, 0, 7, 4, 167, 0, 4, 3]
abbrev dktX5_held_4 : List UInt8 := dkwX5_held_4 ++ dktX5_held_5
def dkwX5_held_3 : List UInt8 := [167, 255, 222, 16, 254, 172, 42, 28, 3, 182, 0, 254, 29, 4, 160, 0, 16, 42, 27, 28, 42, 182, 1, 20]
abbrev dktX5_held_3 : List UInt8 := dkwX5_held_3 ++ dktX5_held_4
def dkwX5_held_2 : List UInt8 := [182, 0, 254, 42, 27, 21, 4, 42, 182, 1, 20, 182, 1, 23, 154, 0, 6, 21, 4, 172, 132, 4, 1]
abbrev dktX5_held_2 : List UInt8 := dkwX5_held_2 ++ dktX5_held_3
def dkwX5_held_1 : List UInt8 := [172, 42, 182, 1, 17, 29, 5, 160, 0, 46, 28, 54, 4, 21, 4, 16, 99, 163, 0, 33, 42, 21, 4, 3]
abbrev dktX5_held_1 : List UInt8 := dkwX5_held_1 ++ dktX5_held_2
def dkwX5_held_0 : List UInt8 := [27, 184, 0, 148, 153, 0, 19, 28, 184, 0, 118, 153, 0, 12, 29, 3, 5, 184, 0, 114, 154, 0, 5, 2]
abbrev dktX5_held_0 : List UInt8 := dkwX5_held_0 ++ dktX5_held_1
theorem dksX5_held_0 : cX5_held.data.toList.drop 0 = dktX5_held_0 := by decide +kernel
theorem dksX5_held_1 : cX5_held.data.toList.drop 24 = dktX5_held_1 := dk_seg dksX5_held_0 24 rfl rfl
theorem dksX5_held_2 : cX5_held.data.toList.drop 48 = dktX5_held_2 := dk_seg dksX5_held_1 24 rfl rfl
theorem dksX5_held_3 : cX5_held.data.toList.drop 71 = dktX5_held_3 := dk_seg dksX5_held_2 23 rfl rfl
theorem dksX5_held_4 : cX5_held.data.toList.drop 95 = dktX5_held_4 := dk_seg dksX5_held_3 24 rfl rfl
theorem dksX5_held_5 : cX5_held.data.toList.drop 119 = dktX5_held_5 := dk_seg dksX5_held_4 24 rfl rfl
theorem dX5_held_0 : decode cX5_held 0 = .ok (.iload_n 1, 1) := dk_27 (dk_at dksX5_held_0 0 rfl rfl)
theorem dX5_held_1 : decode cX5_held 1 = .ok (.invokestatic 148, 3) := dk_184 0 148 (dk_at dksX5_held_0 1 rfl rfl)
theorem dX5_held_4 : decode cX5_held 4 = .ok (.ifCond .eq 19, 3) := dk_153 0 19 (dk_at dksX5_held_0 4 rfl rfl)
theorem dX5_held_7 : decode cX5_held 7 = .ok (.iload_n 2, 1) := dk_28 (dk_at dksX5_held_0 7 rfl rfl)
theorem dX5_held_8 : decode cX5_held 8 = .ok (.invokestatic 118, 3) := dk_184 0 118 (dk_at dksX5_held_0 8 rfl rfl)
theorem dX5_held_11 : decode cX5_held 11 = .ok (.ifCond .eq 12, 3) := dk_153 0 12 (dk_at dksX5_held_0 11 rfl rfl)
theorem dX5_held_14 : decode cX5_held 14 = .ok (.iload_n 3, 1) := dk_29 (dk_at dksX5_held_0 14 rfl rfl)
theorem dX5_held_15 : decode cX5_held 15 = .ok (.iconst 0, 1) := dk_3 (dk_at dksX5_held_0 15 rfl rfl)
theorem dX5_held_16 : decode cX5_held 16 = .ok (.iconst 2, 1) := dk_5 (dk_at dksX5_held_0 16 rfl rfl)
theorem dX5_held_17 : decode cX5_held 17 = .ok (.invokestatic 114, 3) := dk_184 0 114 (dk_at dksX5_held_0 17 rfl rfl)
theorem dX5_held_20 : decode cX5_held 20 = .ok (.ifCond .ne 5, 3) := dk_154 0 5 (dk_at dksX5_held_0 20 rfl rfl)
theorem dX5_held_23 : decode cX5_held 23 = .ok (.iconst (-1), 1) := dk_2 (dk_at dksX5_held_0 23 rfl rfl)
theorem dX5_held_24 : decode cX5_held 24 = .ok (.ireturn, 1) := dk_172 (dk_at dksX5_held_1 0 rfl rfl)
theorem dX5_held_25 : decode cX5_held 25 = .ok (.aload_n 0, 1) := dk_42 (dk_at dksX5_held_1 1 rfl rfl)
theorem dX5_held_26 : decode cX5_held 26 = .ok (.invokevirtual 273, 3) := dk_182 1 17 (dk_at dksX5_held_1 2 rfl rfl)
theorem dX5_held_29 : decode cX5_held 29 = .ok (.iload_n 3, 1) := dk_29 (dk_at dksX5_held_1 5 rfl rfl)
theorem dX5_held_30 : decode cX5_held 30 = .ok (.iconst 2, 1) := dk_5 (dk_at dksX5_held_1 6 rfl rfl)
theorem dX5_held_31 : decode cX5_held 31 = .ok (.if_icmp .ne 46, 3) := dk_160 0 46 (dk_at dksX5_held_1 7 rfl rfl)
theorem dX5_held_34 : decode cX5_held 34 = .ok (.iload_n 2, 1) := dk_28 (dk_at dksX5_held_1 10 rfl rfl)
theorem dX5_held_35 : decode cX5_held 35 = .ok (.istore 4, 2) := dk_54 4 (dk_at dksX5_held_1 11 rfl rfl)
theorem dX5_held_37 : decode cX5_held 37 = .ok (.iload 4, 2) := dk_21 4 (dk_at dksX5_held_1 13 rfl rfl)
theorem dX5_held_39 : decode cX5_held 39 = .ok (.bipush 99, 2) := dk_16 99 (dk_at dksX5_held_1 15 rfl rfl)
theorem dX5_held_41 : decode cX5_held 41 = .ok (.if_icmp .gt 33, 3) := dk_163 0 33 (dk_at dksX5_held_1 17 rfl rfl)
theorem dX5_held_44 : decode cX5_held 44 = .ok (.aload_n 0, 1) := dk_42 (dk_at dksX5_held_1 20 rfl rfl)
theorem dX5_held_45 : decode cX5_held 45 = .ok (.iload 4, 2) := dk_21 4 (dk_at dksX5_held_1 21 rfl rfl)
theorem dX5_held_47 : decode cX5_held 47 = .ok (.iconst 0, 1) := dk_3 (dk_at dksX5_held_1 23 rfl rfl)
theorem dX5_held_48 : decode cX5_held 48 = .ok (.invokevirtual 254, 3) := dk_182 0 254 (dk_at dksX5_held_2 0 rfl rfl)
theorem dX5_held_51 : decode cX5_held 51 = .ok (.aload_n 0, 1) := dk_42 (dk_at dksX5_held_2 3 rfl rfl)
theorem dX5_held_52 : decode cX5_held 52 = .ok (.iload_n 1, 1) := dk_27 (dk_at dksX5_held_2 4 rfl rfl)
theorem dX5_held_53 : decode cX5_held 53 = .ok (.iload 4, 2) := dk_21 4 (dk_at dksX5_held_2 5 rfl rfl)
theorem dX5_held_55 : decode cX5_held 55 = .ok (.aload_n 0, 1) := dk_42 (dk_at dksX5_held_2 7 rfl rfl)
theorem dX5_held_56 : decode cX5_held 56 = .ok (.invokevirtual 276, 3) := dk_182 1 20 (dk_at dksX5_held_2 8 rfl rfl)
theorem dX5_held_59 : decode cX5_held 59 = .ok (.invokevirtual 279, 3) := dk_182 1 23 (dk_at dksX5_held_2 11 rfl rfl)
theorem dX5_held_62 : decode cX5_held 62 = .ok (.ifCond .ne 6, 3) := dk_154 0 6 (dk_at dksX5_held_2 14 rfl rfl)
theorem dX5_held_65 : decode cX5_held 65 = .ok (.iload 4, 2) := dk_21 4 (dk_at dksX5_held_2 17 rfl rfl)
theorem dX5_held_67 : decode cX5_held 67 = .ok (.ireturn, 1) := dk_172 (dk_at dksX5_held_2 19 rfl rfl)
theorem dX5_held_68 : decode cX5_held 68 = .ok (.iinc 4 1, 3) := dk_132 4 1 (dk_at dksX5_held_2 20 rfl rfl)
theorem dX5_held_71 : decode cX5_held 71 = .ok (.goto (-34), 3) := dk_167 255 222 (dk_at dksX5_held_3 0 rfl rfl)
theorem dX5_held_74 : decode cX5_held 74 = .ok (.bipush (-2), 2) := dk_16 254 (dk_at dksX5_held_3 3 rfl rfl)
theorem dX5_held_76 : decode cX5_held 76 = .ok (.ireturn, 1) := dk_172 (dk_at dksX5_held_3 5 rfl rfl)
theorem dX5_held_77 : decode cX5_held 77 = .ok (.aload_n 0, 1) := dk_42 (dk_at dksX5_held_3 6 rfl rfl)
theorem dX5_held_78 : decode cX5_held 78 = .ok (.iload_n 2, 1) := dk_28 (dk_at dksX5_held_3 7 rfl rfl)
theorem dX5_held_79 : decode cX5_held 79 = .ok (.iconst 0, 1) := dk_3 (dk_at dksX5_held_3 8 rfl rfl)
theorem dX5_held_80 : decode cX5_held 80 = .ok (.invokevirtual 254, 3) := dk_182 0 254 (dk_at dksX5_held_3 9 rfl rfl)
theorem dX5_held_83 : decode cX5_held 83 = .ok (.iload_n 3, 1) := dk_29 (dk_at dksX5_held_3 12 rfl rfl)
theorem dX5_held_84 : decode cX5_held 84 = .ok (.iconst 1, 1) := dk_4 (dk_at dksX5_held_3 13 rfl rfl)
theorem dX5_held_85 : decode cX5_held 85 = .ok (.if_icmp .ne 16, 3) := dk_160 0 16 (dk_at dksX5_held_3 14 rfl rfl)
theorem dX5_held_88 : decode cX5_held 88 = .ok (.aload_n 0, 1) := dk_42 (dk_at dksX5_held_3 17 rfl rfl)
theorem dX5_held_89 : decode cX5_held 89 = .ok (.iload_n 1, 1) := dk_27 (dk_at dksX5_held_3 18 rfl rfl)
theorem dX5_held_90 : decode cX5_held 90 = .ok (.iload_n 2, 1) := dk_28 (dk_at dksX5_held_3 19 rfl rfl)
theorem dX5_held_91 : decode cX5_held 91 = .ok (.aload_n 0, 1) := dk_42 (dk_at dksX5_held_3 20 rfl rfl)
theorem dX5_held_92 : decode cX5_held 92 = .ok (.invokevirtual 276, 3) := dk_182 1 20 (dk_at dksX5_held_3 21 rfl rfl)
theorem dX5_held_95 : decode cX5_held 95 = .ok (.invokevirtual 270, 3) := dk_182 1 14 (dk_at dksX5_held_4 0 rfl rfl)
theorem dX5_held_98 : decode cX5_held 98 = .ok (.goto 21, 3) := dk_167 0 21 (dk_at dksX5_held_4 3 rfl rfl)
theorem dX5_held_101 : decode cX5_held 101 = .ok (.aload_n 0, 1) := dk_42 (dk_at dksX5_held_4 6 rfl rfl)
theorem dX5_held_102 : decode cX5_held 102 = .ok (.iload_n 1, 1) := dk_27 (dk_at dksX5_held_4 7 rfl rfl)
theorem dX5_held_103 : decode cX5_held 103 = .ok (.iload_n 2, 1) := dk_28 (dk_at dksX5_held_4 8 rfl rfl)
theorem dX5_held_104 : decode cX5_held 104 = .ok (.aload_n 0, 1) := dk_42 (dk_at dksX5_held_4 9 rfl rfl)
theorem dX5_held_105 : decode cX5_held 105 = .ok (.invokevirtual 276, 3) := dk_182 1 20 (dk_at dksX5_held_4 10 rfl rfl)
theorem dX5_held_108 : decode cX5_held 108 = .ok (.invokevirtual 279, 3) := dk_182 1 23 (dk_at dksX5_held_4 13 rfl rfl)
theorem dX5_held_111 : decode cX5_held 111 = .ok (.ifCond .eq 7, 3) := dk_153 0 7 (dk_at dksX5_held_4 16 rfl rfl)
theorem dX5_held_114 : decode cX5_held 114 = .ok (.iconst 1, 1) := dk_4 (dk_at dksX5_held_4 19 rfl rfl)
theorem dX5_held_115 : decode cX5_held 115 = .ok (.goto 4, 3) := dk_167 0 4 (dk_at dksX5_held_4 20 rfl rfl)
theorem dX5_held_118 : decode cX5_held 118 = .ok (.iconst 0, 1) := dk_3 (dk_at dksX5_held_4 23 rfl rfl)
theorem dX5_held_119 : decode cX5_held 119 = .ok (.ireturn, 1) := dk_172 (dk_at dksX5_held_5 0 rfl rfl)
abbrev cX5_asNamed : ByteArray := prog_25_method_51_code
def yX5_asNamed : MethodName := ⟨RX5, "asNamed", "()V"⟩
def dkwX5_asNamed_1 : List UInt8 := [180, 0, 16, 27, 46, 167, 0, 4, 2, 79, 132, 1, 1, 167, 255, 223, 177]
abbrev dktX5_asNamed_1 : List UInt8 := dkwX5_asNamed_1 ++ []
def dkwX5_asNamed_0 : List UInt8 := [3, 60, 27, 16, 12, 162, 0, 33, 42, 180, 0, 79, 27, 27, 42, 180, 0, 111, 162, 0, 12, 42]
abbrev dktX5_asNamed_0 : List UInt8 := dkwX5_asNamed_0 ++ dktX5_asNamed_1
theorem dksX5_asNamed_0 : cX5_asNamed.data.toList.drop 0 = dktX5_asNamed_0 := by decide +kernel
theorem dksX5_asNamed_1 : cX5_asNamed.data.toList.drop 22 = dktX5_asNamed_1 := dk_seg dksX5_asNamed_0 22 rfl rfl
theorem dX5_asNamed_0 : decode cX5_asNamed 0 = .ok (.iconst 0, 1) := dk_3 (dk_at dksX5_asNamed_0 0 rfl rfl)
theorem dX5_asNamed_1 : decode cX5_asNamed 1 = .ok (.istore_n 1, 1) := dk_60 (dk_at dksX5_asNamed_0 1 rfl rfl)
theorem dX5_asNamed_2 : decode cX5_asNamed 2 = .ok (.iload_n 1, 1) := dk_27 (dk_at dksX5_asNamed_0 2 rfl rfl)
theorem dX5_asNamed_3 : decode cX5_asNamed 3 = .ok (.bipush 12, 2) := dk_16 12 (dk_at dksX5_asNamed_0 3 rfl rfl)
theorem dX5_asNamed_5 : decode cX5_asNamed 5 = .ok (.if_icmp .ge 33, 3) := dk_162 0 33 (dk_at dksX5_asNamed_0 5 rfl rfl)
theorem dX5_asNamed_8 : decode cX5_asNamed 8 = .ok (.aload_n 0, 1) := dk_42 (dk_at dksX5_asNamed_0 8 rfl rfl)
theorem dX5_asNamed_9 : decode cX5_asNamed 9 = .ok (.getfield 79, 3) := dk_180 0 79 (dk_at dksX5_asNamed_0 9 rfl rfl)
theorem dX5_asNamed_12 : decode cX5_asNamed 12 = .ok (.iload_n 1, 1) := dk_27 (dk_at dksX5_asNamed_0 12 rfl rfl)
theorem dX5_asNamed_13 : decode cX5_asNamed 13 = .ok (.iload_n 1, 1) := dk_27 (dk_at dksX5_asNamed_0 13 rfl rfl)
theorem dX5_asNamed_14 : decode cX5_asNamed 14 = .ok (.aload_n 0, 1) := dk_42 (dk_at dksX5_asNamed_0 14 rfl rfl)
theorem dX5_asNamed_15 : decode cX5_asNamed 15 = .ok (.getfield 111, 3) := dk_180 0 111 (dk_at dksX5_asNamed_0 15 rfl rfl)
theorem dX5_asNamed_18 : decode cX5_asNamed 18 = .ok (.if_icmp .ge 12, 3) := dk_162 0 12 (dk_at dksX5_asNamed_0 18 rfl rfl)
theorem dX5_asNamed_21 : decode cX5_asNamed 21 = .ok (.aload_n 0, 1) := dk_42 (dk_at dksX5_asNamed_0 21 rfl rfl)
theorem dX5_asNamed_22 : decode cX5_asNamed 22 = .ok (.getfield 16, 3) := dk_180 0 16 (dk_at dksX5_asNamed_1 0 rfl rfl)
theorem dX5_asNamed_25 : decode cX5_asNamed 25 = .ok (.iload_n 1, 1) := dk_27 (dk_at dksX5_asNamed_1 3 rfl rfl)
theorem dX5_asNamed_26 : decode cX5_asNamed 26 = .ok (.iaload, 1) := dk_46 (dk_at dksX5_asNamed_1 4 rfl rfl)
theorem dX5_asNamed_27 : decode cX5_asNamed 27 = .ok (.goto 4, 3) := dk_167 0 4 (dk_at dksX5_asNamed_1 5 rfl rfl)
theorem dX5_asNamed_30 : decode cX5_asNamed 30 = .ok (.iconst (-1), 1) := dk_2 (dk_at dksX5_asNamed_1 8 rfl rfl)
theorem dX5_asNamed_31 : decode cX5_asNamed 31 = .ok (.iastore, 1) := dk_79 (dk_at dksX5_asNamed_1 9 rfl rfl)
theorem dX5_asNamed_32 : decode cX5_asNamed 32 = .ok (.iinc 1 1, 3) := dk_132 1 1 (dk_at dksX5_asNamed_1 10 rfl rfl)
theorem dX5_asNamed_35 : decode cX5_asNamed 35 = .ok (.goto (-33), 3) := dk_167 255 223 (dk_at dksX5_asNamed_1 13 rfl rfl)
theorem dX5_asNamed_38 : decode cX5_asNamed 38 = .ok (.return_, 1) := dk_177 (dk_at dksX5_asNamed_1 16 rfl rfl)
abbrev cX5_everybody : ByteArray := prog_25_method_52_code
def yX5_everybody : MethodName := ⟨RX5, "everybody", "()I"⟩
def dkwX5_everybody_0 : List UInt8 := [4, 42, 180, 0, 111, 120, 4, 100, 172]
abbrev dktX5_everybody_0 : List UInt8 := dkwX5_everybody_0 ++ []
theorem dksX5_everybody_0 : cX5_everybody.data.toList.drop 0 = dktX5_everybody_0 := by decide +kernel
theorem dX5_everybody_0 : decode cX5_everybody 0 = .ok (.iconst 1, 1) := dk_4 (dk_at dksX5_everybody_0 0 rfl rfl)
theorem dX5_everybody_1 : decode cX5_everybody 1 = .ok (.aload_n 0, 1) := dk_42 (dk_at dksX5_everybody_0 1 rfl rfl)
theorem dX5_everybody_2 : decode cX5_everybody 2 = .ok (.getfield 111, 3) := dk_180 0 111 (dk_at dksX5_everybody_0 2 rfl rfl)
theorem dX5_everybody_5 : decode cX5_everybody 5 = .ok (.ishl, 1) := dk_120 (dk_at dksX5_everybody_0 5 rfl rfl)
theorem dX5_everybody_6 : decode cX5_everybody 6 = .ok (.iconst 1, 1) := dk_4 (dk_at dksX5_everybody_0 6 rfl rfl)
theorem dX5_everybody_7 : decode cX5_everybody 7 = .ok (.isub, 1) := dk_100 (dk_at dksX5_everybody_0 7 rfl rfl)
theorem dX5_everybody_8 : decode cX5_everybody 8 = .ok (.ireturn, 1) := dk_172 (dk_at dksX5_everybody_0 8 rfl rfl)
abbrev cX5_isHeld : ByteArray := prog_25_method_57_code
def yX5_isHeld : MethodName := ⟨RX5, "isHeld", "(III)Z"⟩
def dkwX5_isHeld_1 : List UInt8 := [3, 172]
abbrev dktX5_isHeld_1 : List UInt8 := dkwX5_isHeld_1 ++ []
def dkwX5_isHeld_0 : List UInt8 := [42, 27, 28, 29, 182, 1, 11, 154, 0, 13, 42, 27, 28, 29, 182, 1, 14, 153, 0, 7, 4, 167, 0, 4]
abbrev dktX5_isHeld_0 : List UInt8 := dkwX5_isHeld_0 ++ dktX5_isHeld_1
theorem dksX5_isHeld_0 : cX5_isHeld.data.toList.drop 0 = dktX5_isHeld_0 := by decide +kernel
theorem dksX5_isHeld_1 : cX5_isHeld.data.toList.drop 24 = dktX5_isHeld_1 := dk_seg dksX5_isHeld_0 24 rfl rfl
theorem dX5_isHeld_0 : decode cX5_isHeld 0 = .ok (.aload_n 0, 1) := dk_42 (dk_at dksX5_isHeld_0 0 rfl rfl)
theorem dX5_isHeld_1 : decode cX5_isHeld 1 = .ok (.iload_n 1, 1) := dk_27 (dk_at dksX5_isHeld_0 1 rfl rfl)
theorem dX5_isHeld_2 : decode cX5_isHeld 2 = .ok (.iload_n 2, 1) := dk_28 (dk_at dksX5_isHeld_0 2 rfl rfl)
theorem dX5_isHeld_3 : decode cX5_isHeld 3 = .ok (.iload_n 3, 1) := dk_29 (dk_at dksX5_isHeld_0 3 rfl rfl)
theorem dX5_isHeld_4 : decode cX5_isHeld 4 = .ok (.invokevirtual 267, 3) := dk_182 1 11 (dk_at dksX5_isHeld_0 4 rfl rfl)
theorem dX5_isHeld_7 : decode cX5_isHeld 7 = .ok (.ifCond .ne 13, 3) := dk_154 0 13 (dk_at dksX5_isHeld_0 7 rfl rfl)
theorem dX5_isHeld_10 : decode cX5_isHeld 10 = .ok (.aload_n 0, 1) := dk_42 (dk_at dksX5_isHeld_0 10 rfl rfl)
theorem dX5_isHeld_11 : decode cX5_isHeld 11 = .ok (.iload_n 1, 1) := dk_27 (dk_at dksX5_isHeld_0 11 rfl rfl)
theorem dX5_isHeld_12 : decode cX5_isHeld 12 = .ok (.iload_n 2, 1) := dk_28 (dk_at dksX5_isHeld_0 12 rfl rfl)
theorem dX5_isHeld_13 : decode cX5_isHeld 13 = .ok (.iload_n 3, 1) := dk_29 (dk_at dksX5_isHeld_0 13 rfl rfl)
theorem dX5_isHeld_14 : decode cX5_isHeld 14 = .ok (.invokevirtual 270, 3) := dk_182 1 14 (dk_at dksX5_isHeld_0 14 rfl rfl)
theorem dX5_isHeld_17 : decode cX5_isHeld 17 = .ok (.ifCond .eq 7, 3) := dk_153 0 7 (dk_at dksX5_isHeld_0 17 rfl rfl)
theorem dX5_isHeld_20 : decode cX5_isHeld 20 = .ok (.iconst 1, 1) := dk_4 (dk_at dksX5_isHeld_0 20 rfl rfl)
theorem dX5_isHeld_21 : decode cX5_isHeld 21 = .ok (.goto 4, 3) := dk_167 0 4 (dk_at dksX5_isHeld_0 21 rfl rfl)
theorem dX5_isHeld_24 : decode cX5_isHeld 24 = .ok (.iconst 0, 1) := dk_3 (dk_at dksX5_isHeld_1 0 rfl rfl)
theorem dX5_isHeld_25 : decode cX5_isHeld 25 = .ok (.ireturn, 1) := dk_172 (dk_at dksX5_isHeld_1 1 rfl rfl)
abbrev cX5_isFamous : ByteArray := prog_25_method_56_code
def yX5_isFamous : MethodName := ⟨RX5, "isFamous", "(III)Z"⟩
def dkwX5_isFamous_1 : List UInt8 := [21, 4, 27, 28, 29, 182, 1, 1, 153, 0, 5, 4, 172, 132, 4, 1, 167, 255, 220, 3, 172]
abbrev dktX5_isFamous_1 : List UInt8 := dkwX5_isFamous_1 ++ []
def dkwX5_isFamous_0 : List UInt8 := [3, 54, 4, 21, 4, 42, 180, 0, 111, 162, 0, 33, 42, 180, 0, 31, 27, 46, 4, 160, 0, 17, 42]
abbrev dktX5_isFamous_0 : List UInt8 := dkwX5_isFamous_0 ++ dktX5_isFamous_1
theorem dksX5_isFamous_0 : cX5_isFamous.data.toList.drop 0 = dktX5_isFamous_0 := by decide +kernel
theorem dksX5_isFamous_1 : cX5_isFamous.data.toList.drop 23 = dktX5_isFamous_1 := dk_seg dksX5_isFamous_0 23 rfl rfl
theorem dX5_isFamous_0 : decode cX5_isFamous 0 = .ok (.iconst 0, 1) := dk_3 (dk_at dksX5_isFamous_0 0 rfl rfl)
theorem dX5_isFamous_1 : decode cX5_isFamous 1 = .ok (.istore 4, 2) := dk_54 4 (dk_at dksX5_isFamous_0 1 rfl rfl)
theorem dX5_isFamous_3 : decode cX5_isFamous 3 = .ok (.iload 4, 2) := dk_21 4 (dk_at dksX5_isFamous_0 3 rfl rfl)
theorem dX5_isFamous_5 : decode cX5_isFamous 5 = .ok (.aload_n 0, 1) := dk_42 (dk_at dksX5_isFamous_0 5 rfl rfl)
theorem dX5_isFamous_6 : decode cX5_isFamous 6 = .ok (.getfield 111, 3) := dk_180 0 111 (dk_at dksX5_isFamous_0 6 rfl rfl)
theorem dX5_isFamous_9 : decode cX5_isFamous 9 = .ok (.if_icmp .ge 33, 3) := dk_162 0 33 (dk_at dksX5_isFamous_0 9 rfl rfl)
theorem dX5_isFamous_12 : decode cX5_isFamous 12 = .ok (.aload_n 0, 1) := dk_42 (dk_at dksX5_isFamous_0 12 rfl rfl)
theorem dX5_isFamous_13 : decode cX5_isFamous 13 = .ok (.getfield 31, 3) := dk_180 0 31 (dk_at dksX5_isFamous_0 13 rfl rfl)
theorem dX5_isFamous_16 : decode cX5_isFamous 16 = .ok (.iload_n 1, 1) := dk_27 (dk_at dksX5_isFamous_0 16 rfl rfl)
theorem dX5_isFamous_17 : decode cX5_isFamous 17 = .ok (.iaload, 1) := dk_46 (dk_at dksX5_isFamous_0 17 rfl rfl)
theorem dX5_isFamous_18 : decode cX5_isFamous 18 = .ok (.iconst 1, 1) := dk_4 (dk_at dksX5_isFamous_0 18 rfl rfl)
theorem dX5_isFamous_19 : decode cX5_isFamous 19 = .ok (.if_icmp .ne 17, 3) := dk_160 0 17 (dk_at dksX5_isFamous_0 19 rfl rfl)
theorem dX5_isFamous_22 : decode cX5_isFamous 22 = .ok (.aload_n 0, 1) := dk_42 (dk_at dksX5_isFamous_0 22 rfl rfl)
theorem dX5_isFamous_23 : decode cX5_isFamous 23 = .ok (.iload 4, 2) := dk_21 4 (dk_at dksX5_isFamous_1 0 rfl rfl)
theorem dX5_isFamous_25 : decode cX5_isFamous 25 = .ok (.iload_n 1, 1) := dk_27 (dk_at dksX5_isFamous_1 2 rfl rfl)
theorem dX5_isFamous_26 : decode cX5_isFamous 26 = .ok (.iload_n 2, 1) := dk_28 (dk_at dksX5_isFamous_1 3 rfl rfl)
theorem dX5_isFamous_27 : decode cX5_isFamous 27 = .ok (.iload_n 3, 1) := dk_29 (dk_at dksX5_isFamous_1 4 rfl rfl)
theorem dX5_isFamous_28 : decode cX5_isFamous 28 = .ok (.invokevirtual 257, 3) := dk_182 1 1 (dk_at dksX5_isFamous_1 5 rfl rfl)
theorem dX5_isFamous_31 : decode cX5_isFamous 31 = .ok (.ifCond .eq 5, 3) := dk_153 0 5 (dk_at dksX5_isFamous_1 8 rfl rfl)
theorem dX5_isFamous_34 : decode cX5_isFamous 34 = .ok (.iconst 1, 1) := dk_4 (dk_at dksX5_isFamous_1 11 rfl rfl)
theorem dX5_isFamous_35 : decode cX5_isFamous 35 = .ok (.ireturn, 1) := dk_172 (dk_at dksX5_isFamous_1 12 rfl rfl)
theorem dX5_isFamous_36 : decode cX5_isFamous 36 = .ok (.iinc 4 1, 3) := dk_132 4 1 (dk_at dksX5_isFamous_1 13 rfl rfl)
theorem dX5_isFamous_39 : decode cX5_isFamous 39 = .ok (.goto (-36), 3) := dk_167 255 220 (dk_at dksX5_isFamous_1 16 rfl rfl)
theorem dX5_isFamous_42 : decode cX5_isFamous 42 = .ok (.iconst 0, 1) := dk_3 (dk_at dksX5_isFamous_1 19 rfl rfl)
theorem dX5_isFamous_43 : decode cX5_isFamous 43 = .ok (.ireturn, 1) := dk_172 (dk_at dksX5_isFamous_1 20 rfl rfl)
abbrev cX5_bears : ByteArray := prog_25_method_53_code
def yX5_bears : MethodName := ⟨RX5, "bears", "(IIII)Z"⟩
def dkwX5_bears_1 : List UInt8 := [27, 46, 29, 163, 0, 7, 4, 167, 0, 4, 3, 172]
abbrev dktX5_bears_1 : List UInt8 := dkwX5_bears_1 ++ []
def dkwX5_bears_0 : List UInt8 := [21, 4, 27, 122, 4, 126, 4, 160, 0, 27, 42, 180, 0, 79, 27, 46, 28, 160, 0, 17, 42, 180, 0, 7]
abbrev dktX5_bears_0 : List UInt8 := dkwX5_bears_0 ++ dktX5_bears_1
theorem dksX5_bears_0 : cX5_bears.data.toList.drop 0 = dktX5_bears_0 := by decide +kernel
theorem dksX5_bears_1 : cX5_bears.data.toList.drop 24 = dktX5_bears_1 := dk_seg dksX5_bears_0 24 rfl rfl
theorem dX5_bears_0 : decode cX5_bears 0 = .ok (.iload 4, 2) := dk_21 4 (dk_at dksX5_bears_0 0 rfl rfl)
theorem dX5_bears_2 : decode cX5_bears 2 = .ok (.iload_n 1, 1) := dk_27 (dk_at dksX5_bears_0 2 rfl rfl)
theorem dX5_bears_3 : decode cX5_bears 3 = .ok (.ishr, 1) := dk_122 (dk_at dksX5_bears_0 3 rfl rfl)
theorem dX5_bears_4 : decode cX5_bears 4 = .ok (.iconst 1, 1) := dk_4 (dk_at dksX5_bears_0 4 rfl rfl)
theorem dX5_bears_5 : decode cX5_bears 5 = .ok (.iand, 1) := dk_126 (dk_at dksX5_bears_0 5 rfl rfl)
theorem dX5_bears_6 : decode cX5_bears 6 = .ok (.iconst 1, 1) := dk_4 (dk_at dksX5_bears_0 6 rfl rfl)
theorem dX5_bears_7 : decode cX5_bears 7 = .ok (.if_icmp .ne 27, 3) := dk_160 0 27 (dk_at dksX5_bears_0 7 rfl rfl)
theorem dX5_bears_10 : decode cX5_bears 10 = .ok (.aload_n 0, 1) := dk_42 (dk_at dksX5_bears_0 10 rfl rfl)
theorem dX5_bears_11 : decode cX5_bears 11 = .ok (.getfield 79, 3) := dk_180 0 79 (dk_at dksX5_bears_0 11 rfl rfl)
theorem dX5_bears_14 : decode cX5_bears 14 = .ok (.iload_n 1, 1) := dk_27 (dk_at dksX5_bears_0 14 rfl rfl)
theorem dX5_bears_15 : decode cX5_bears 15 = .ok (.iaload, 1) := dk_46 (dk_at dksX5_bears_0 15 rfl rfl)
theorem dX5_bears_16 : decode cX5_bears 16 = .ok (.iload_n 2, 1) := dk_28 (dk_at dksX5_bears_0 16 rfl rfl)
theorem dX5_bears_17 : decode cX5_bears 17 = .ok (.if_icmp .ne 17, 3) := dk_160 0 17 (dk_at dksX5_bears_0 17 rfl rfl)
theorem dX5_bears_20 : decode cX5_bears 20 = .ok (.aload_n 0, 1) := dk_42 (dk_at dksX5_bears_0 20 rfl rfl)
theorem dX5_bears_21 : decode cX5_bears 21 = .ok (.getfield 7, 3) := dk_180 0 7 (dk_at dksX5_bears_0 21 rfl rfl)
theorem dX5_bears_24 : decode cX5_bears 24 = .ok (.iload_n 1, 1) := dk_27 (dk_at dksX5_bears_1 0 rfl rfl)
theorem dX5_bears_25 : decode cX5_bears 25 = .ok (.iaload, 1) := dk_46 (dk_at dksX5_bears_1 1 rfl rfl)
theorem dX5_bears_26 : decode cX5_bears 26 = .ok (.iload_n 3, 1) := dk_29 (dk_at dksX5_bears_1 2 rfl rfl)
theorem dX5_bears_27 : decode cX5_bears 27 = .ok (.if_icmp .gt 7, 3) := dk_163 0 7 (dk_at dksX5_bears_1 3 rfl rfl)
theorem dX5_bears_30 : decode cX5_bears 30 = .ok (.iconst 1, 1) := dk_4 (dk_at dksX5_bears_1 6 rfl rfl)
theorem dX5_bears_31 : decode cX5_bears 31 = .ok (.goto 4, 3) := dk_167 0 4 (dk_at dksX5_bears_1 7 rfl rfl)
theorem dX5_bears_34 : decode cX5_bears 34 = .ok (.iconst 0, 1) := dk_3 (dk_at dksX5_bears_1 10 rfl rfl)
theorem dX5_bears_35 : decode cX5_bears 35 = .ok (.ireturn, 1) := dk_172 (dk_at dksX5_bears_1 11 rfl rfl)
abbrev cX5_holders : ByteArray := prog_25_method_55_code
def yX5_holders : MethodName := ⟨RX5, "holders", "(III)I"⟩
def dkwX5_holders_1 : List UInt8 := [153, 0, 12, 21, 4, 4, 21, 5, 120, 128, 54, 4, 132, 5, 1, 167, 255, 223, 21, 4, 172]
abbrev dktX5_holders_1 : List UInt8 := dkwX5_holders_1 ++ []
def dkwX5_holders_0 : List UInt8 := [3, 54, 4, 3, 54, 5, 21, 5, 42, 180, 0, 111, 162, 0, 30, 42, 21, 5, 27, 28, 29, 182, 1, 8]
abbrev dktX5_holders_0 : List UInt8 := dkwX5_holders_0 ++ dktX5_holders_1
theorem dksX5_holders_0 : cX5_holders.data.toList.drop 0 = dktX5_holders_0 := by decide +kernel
theorem dksX5_holders_1 : cX5_holders.data.toList.drop 24 = dktX5_holders_1 := dk_seg dksX5_holders_0 24 rfl rfl
theorem dX5_holders_0 : decode cX5_holders 0 = .ok (.iconst 0, 1) := dk_3 (dk_at dksX5_holders_0 0 rfl rfl)
theorem dX5_holders_1 : decode cX5_holders 1 = .ok (.istore 4, 2) := dk_54 4 (dk_at dksX5_holders_0 1 rfl rfl)
theorem dX5_holders_3 : decode cX5_holders 3 = .ok (.iconst 0, 1) := dk_3 (dk_at dksX5_holders_0 3 rfl rfl)
theorem dX5_holders_4 : decode cX5_holders 4 = .ok (.istore 5, 2) := dk_54 5 (dk_at dksX5_holders_0 4 rfl rfl)
theorem dX5_holders_6 : decode cX5_holders 6 = .ok (.iload 5, 2) := dk_21 5 (dk_at dksX5_holders_0 6 rfl rfl)
theorem dX5_holders_8 : decode cX5_holders 8 = .ok (.aload_n 0, 1) := dk_42 (dk_at dksX5_holders_0 8 rfl rfl)
theorem dX5_holders_9 : decode cX5_holders 9 = .ok (.getfield 111, 3) := dk_180 0 111 (dk_at dksX5_holders_0 9 rfl rfl)
theorem dX5_holders_12 : decode cX5_holders 12 = .ok (.if_icmp .ge 30, 3) := dk_162 0 30 (dk_at dksX5_holders_0 12 rfl rfl)
theorem dX5_holders_15 : decode cX5_holders 15 = .ok (.aload_n 0, 1) := dk_42 (dk_at dksX5_holders_0 15 rfl rfl)
theorem dX5_holders_16 : decode cX5_holders 16 = .ok (.iload 5, 2) := dk_21 5 (dk_at dksX5_holders_0 16 rfl rfl)
theorem dX5_holders_18 : decode cX5_holders 18 = .ok (.iload_n 1, 1) := dk_27 (dk_at dksX5_holders_0 18 rfl rfl)
theorem dX5_holders_19 : decode cX5_holders 19 = .ok (.iload_n 2, 1) := dk_28 (dk_at dksX5_holders_0 19 rfl rfl)
theorem dX5_holders_20 : decode cX5_holders 20 = .ok (.iload_n 3, 1) := dk_29 (dk_at dksX5_holders_0 20 rfl rfl)
theorem dX5_holders_21 : decode cX5_holders 21 = .ok (.invokevirtual 264, 3) := dk_182 1 8 (dk_at dksX5_holders_0 21 rfl rfl)
theorem dX5_holders_24 : decode cX5_holders 24 = .ok (.ifCond .eq 12, 3) := dk_153 0 12 (dk_at dksX5_holders_1 0 rfl rfl)
theorem dX5_holders_27 : decode cX5_holders 27 = .ok (.iload 4, 2) := dk_21 4 (dk_at dksX5_holders_1 3 rfl rfl)
theorem dX5_holders_29 : decode cX5_holders 29 = .ok (.iconst 1, 1) := dk_4 (dk_at dksX5_holders_1 5 rfl rfl)
theorem dX5_holders_30 : decode cX5_holders 30 = .ok (.iload 5, 2) := dk_21 5 (dk_at dksX5_holders_1 6 rfl rfl)
theorem dX5_holders_32 : decode cX5_holders 32 = .ok (.ishl, 1) := dk_120 (dk_at dksX5_holders_1 8 rfl rfl)
theorem dX5_holders_33 : decode cX5_holders 33 = .ok (.ior, 1) := dk_128 (dk_at dksX5_holders_1 9 rfl rfl)
theorem dX5_holders_34 : decode cX5_holders 34 = .ok (.istore 4, 2) := dk_54 4 (dk_at dksX5_holders_1 10 rfl rfl)
theorem dX5_holders_36 : decode cX5_holders 36 = .ok (.iinc 5 1, 3) := dk_132 5 1 (dk_at dksX5_holders_1 12 rfl rfl)
theorem dX5_holders_39 : decode cX5_holders 39 = .ok (.goto (-33), 3) := dk_167 255 223 (dk_at dksX5_holders_1 15 rfl rfl)
theorem dX5_holders_42 : decode cX5_holders 42 = .ok (.iload 4, 2) := dk_21 4 (dk_at dksX5_holders_1 18 rfl rfl)
theorem dX5_holders_44 : decode cX5_holders 44 = .ok (.ireturn, 1) := dk_172 (dk_at dksX5_holders_1 20 rfl rfl)
abbrev cX5_doesHold : ByteArray := prog_25_method_54_code
def yX5_doesHold : MethodName := ⟨RX5, "doesHold", "(IIII)Z"⟩
def dkwX5_doesHold_3 : List UInt8 := [172]
abbrev dktX5_doesHold_3 : List UInt8 := dkwX5_doesHold_3 ++ []
def dkwX5_doesHold_2 : List UInt8 := [160, 0, 17, 42, 27, 21, 5, 28, 29, 182, 1, 5, 153, 0, 5, 4, 172, 132, 5, 1, 167, 255, 202, 3]
abbrev dktX5_doesHold_2 : List UInt8 := dkwX5_doesHold_2 ++ dktX5_doesHold_3
def dkwX5_doesHold_1 : List UInt8 := [21, 5, 28, 29, 21, 4, 182, 1, 1, 153, 0, 32, 42, 180, 0, 72, 27, 46, 21, 5, 122, 4, 126, 4]
abbrev dktX5_doesHold_1 : List UInt8 := dkwX5_doesHold_1 ++ dktX5_doesHold_2
def dkwX5_doesHold_0 : List UInt8 := [42, 27, 29, 182, 0, 138, 154, 0, 5, 3, 172, 3, 54, 5, 21, 5, 42, 180, 0, 111, 162, 0, 51, 42]
abbrev dktX5_doesHold_0 : List UInt8 := dkwX5_doesHold_0 ++ dktX5_doesHold_1
theorem dksX5_doesHold_0 : cX5_doesHold.data.toList.drop 0 = dktX5_doesHold_0 := by decide +kernel
theorem dksX5_doesHold_1 : cX5_doesHold.data.toList.drop 24 = dktX5_doesHold_1 := dk_seg dksX5_doesHold_0 24 rfl rfl
theorem dksX5_doesHold_2 : cX5_doesHold.data.toList.drop 48 = dktX5_doesHold_2 := dk_seg dksX5_doesHold_1 24 rfl rfl
theorem dksX5_doesHold_3 : cX5_doesHold.data.toList.drop 72 = dktX5_doesHold_3 := dk_seg dksX5_doesHold_2 24 rfl rfl
theorem dX5_doesHold_0 : decode cX5_doesHold 0 = .ok (.aload_n 0, 1) := dk_42 (dk_at dksX5_doesHold_0 0 rfl rfl)
theorem dX5_doesHold_1 : decode cX5_doesHold 1 = .ok (.iload_n 1, 1) := dk_27 (dk_at dksX5_doesHold_0 1 rfl rfl)
theorem dX5_doesHold_2 : decode cX5_doesHold 2 = .ok (.iload_n 3, 1) := dk_29 (dk_at dksX5_doesHold_0 2 rfl rfl)
theorem dX5_doesHold_3 : decode cX5_doesHold 3 = .ok (.invokevirtual 138, 3) := dk_182 0 138 (dk_at dksX5_doesHold_0 3 rfl rfl)
theorem dX5_doesHold_6 : decode cX5_doesHold 6 = .ok (.ifCond .ne 5, 3) := dk_154 0 5 (dk_at dksX5_doesHold_0 6 rfl rfl)
theorem dX5_doesHold_9 : decode cX5_doesHold 9 = .ok (.iconst 0, 1) := dk_3 (dk_at dksX5_doesHold_0 9 rfl rfl)
theorem dX5_doesHold_10 : decode cX5_doesHold 10 = .ok (.ireturn, 1) := dk_172 (dk_at dksX5_doesHold_0 10 rfl rfl)
theorem dX5_doesHold_11 : decode cX5_doesHold 11 = .ok (.iconst 0, 1) := dk_3 (dk_at dksX5_doesHold_0 11 rfl rfl)
theorem dX5_doesHold_12 : decode cX5_doesHold 12 = .ok (.istore 5, 2) := dk_54 5 (dk_at dksX5_doesHold_0 12 rfl rfl)
theorem dX5_doesHold_14 : decode cX5_doesHold 14 = .ok (.iload 5, 2) := dk_21 5 (dk_at dksX5_doesHold_0 14 rfl rfl)
theorem dX5_doesHold_16 : decode cX5_doesHold 16 = .ok (.aload_n 0, 1) := dk_42 (dk_at dksX5_doesHold_0 16 rfl rfl)
theorem dX5_doesHold_17 : decode cX5_doesHold 17 = .ok (.getfield 111, 3) := dk_180 0 111 (dk_at dksX5_doesHold_0 17 rfl rfl)
theorem dX5_doesHold_20 : decode cX5_doesHold 20 = .ok (.if_icmp .ge 51, 3) := dk_162 0 51 (dk_at dksX5_doesHold_0 20 rfl rfl)
theorem dX5_doesHold_23 : decode cX5_doesHold 23 = .ok (.aload_n 0, 1) := dk_42 (dk_at dksX5_doesHold_0 23 rfl rfl)
theorem dX5_doesHold_24 : decode cX5_doesHold 24 = .ok (.iload 5, 2) := dk_21 5 (dk_at dksX5_doesHold_1 0 rfl rfl)
theorem dX5_doesHold_26 : decode cX5_doesHold 26 = .ok (.iload_n 2, 1) := dk_28 (dk_at dksX5_doesHold_1 2 rfl rfl)
theorem dX5_doesHold_27 : decode cX5_doesHold 27 = .ok (.iload_n 3, 1) := dk_29 (dk_at dksX5_doesHold_1 3 rfl rfl)
theorem dX5_doesHold_28 : decode cX5_doesHold 28 = .ok (.iload 4, 2) := dk_21 4 (dk_at dksX5_doesHold_1 4 rfl rfl)
theorem dX5_doesHold_30 : decode cX5_doesHold 30 = .ok (.invokevirtual 257, 3) := dk_182 1 1 (dk_at dksX5_doesHold_1 6 rfl rfl)
theorem dX5_doesHold_33 : decode cX5_doesHold 33 = .ok (.ifCond .eq 32, 3) := dk_153 0 32 (dk_at dksX5_doesHold_1 9 rfl rfl)
theorem dX5_doesHold_36 : decode cX5_doesHold 36 = .ok (.aload_n 0, 1) := dk_42 (dk_at dksX5_doesHold_1 12 rfl rfl)
theorem dX5_doesHold_37 : decode cX5_doesHold 37 = .ok (.getfield 72, 3) := dk_180 0 72 (dk_at dksX5_doesHold_1 13 rfl rfl)
theorem dX5_doesHold_40 : decode cX5_doesHold 40 = .ok (.iload_n 1, 1) := dk_27 (dk_at dksX5_doesHold_1 16 rfl rfl)
theorem dX5_doesHold_41 : decode cX5_doesHold 41 = .ok (.iaload, 1) := dk_46 (dk_at dksX5_doesHold_1 17 rfl rfl)
theorem dX5_doesHold_42 : decode cX5_doesHold 42 = .ok (.iload 5, 2) := dk_21 5 (dk_at dksX5_doesHold_1 18 rfl rfl)
theorem dX5_doesHold_44 : decode cX5_doesHold 44 = .ok (.ishr, 1) := dk_122 (dk_at dksX5_doesHold_1 20 rfl rfl)
theorem dX5_doesHold_45 : decode cX5_doesHold 45 = .ok (.iconst 1, 1) := dk_4 (dk_at dksX5_doesHold_1 21 rfl rfl)
theorem dX5_doesHold_46 : decode cX5_doesHold 46 = .ok (.iand, 1) := dk_126 (dk_at dksX5_doesHold_1 22 rfl rfl)
theorem dX5_doesHold_47 : decode cX5_doesHold 47 = .ok (.iconst 1, 1) := dk_4 (dk_at dksX5_doesHold_1 23 rfl rfl)
theorem dX5_doesHold_48 : decode cX5_doesHold 48 = .ok (.if_icmp .ne 17, 3) := dk_160 0 17 (dk_at dksX5_doesHold_2 0 rfl rfl)
theorem dX5_doesHold_51 : decode cX5_doesHold 51 = .ok (.aload_n 0, 1) := dk_42 (dk_at dksX5_doesHold_2 3 rfl rfl)
theorem dX5_doesHold_52 : decode cX5_doesHold 52 = .ok (.iload_n 1, 1) := dk_27 (dk_at dksX5_doesHold_2 4 rfl rfl)
theorem dX5_doesHold_53 : decode cX5_doesHold 53 = .ok (.iload 5, 2) := dk_21 5 (dk_at dksX5_doesHold_2 5 rfl rfl)
theorem dX5_doesHold_55 : decode cX5_doesHold 55 = .ok (.iload_n 2, 1) := dk_28 (dk_at dksX5_doesHold_2 7 rfl rfl)
theorem dX5_doesHold_56 : decode cX5_doesHold 56 = .ok (.iload_n 3, 1) := dk_29 (dk_at dksX5_doesHold_2 8 rfl rfl)
theorem dX5_doesHold_57 : decode cX5_doesHold 57 = .ok (.invokevirtual 261, 3) := dk_182 1 5 (dk_at dksX5_doesHold_2 9 rfl rfl)
theorem dX5_doesHold_60 : decode cX5_doesHold 60 = .ok (.ifCond .eq 5, 3) := dk_153 0 5 (dk_at dksX5_doesHold_2 12 rfl rfl)
theorem dX5_doesHold_63 : decode cX5_doesHold 63 = .ok (.iconst 1, 1) := dk_4 (dk_at dksX5_doesHold_2 15 rfl rfl)
theorem dX5_doesHold_64 : decode cX5_doesHold 64 = .ok (.ireturn, 1) := dk_172 (dk_at dksX5_doesHold_2 16 rfl rfl)
theorem dX5_doesHold_65 : decode cX5_doesHold 65 = .ok (.iinc 5 1, 3) := dk_132 5 1 (dk_at dksX5_doesHold_2 17 rfl rfl)
theorem dX5_doesHold_68 : decode cX5_doesHold 68 = .ok (.goto (-54), 3) := dk_167 255 202 (dk_at dksX5_doesHold_2 20 rfl rfl)
theorem dX5_doesHold_71 : decode cX5_doesHold 71 = .ok (.iconst 0, 1) := dk_3 (dk_at dksX5_doesHold_2 23 rfl rfl)
theorem dX5_doesHold_72 : decode cX5_doesHold 72 = .ok (.ireturn, 1) := dk_172 (dk_at dksX5_doesHold_3 0 rfl rfl)
abbrev cX5_holdsFor : ByteArray := prog_25_method_48_code
def yX5_holdsFor : MethodName := ⟨RX5, "holdsFor", "(IIII)Z"⟩
def dkwX5_holdsFor_5 : List UInt8 := [21, 6, 79, 42, 180, 0, 66, 8, 29, 79, 42, 3, 182, 0, 251, 153, 0, 7, 4, 167, 0, 4, 3, 172]
abbrev dktX5_holdsFor_5 : List UInt8 := dkwX5_holdsFor_5 ++ []
def dkwX5_holdsFor_4 : List UInt8 := [180, 0, 31, 29, 46, 79, 42, 180, 0, 66, 6, 42, 180, 0, 28, 29, 46, 79, 42, 180, 0, 66, 7]
abbrev dktX5_holdsFor_4 : List UInt8 := dkwX5_holdsFor_4 ++ dktX5_holdsFor_5
def dkwX5_holdsFor_3 : List UInt8 := [164, 0, 15, 21, 4, 42, 180, 0, 13, 28, 46, 100, 167, 0, 4, 3, 79, 42, 180, 0, 66, 5, 42]
abbrev dktX5_holdsFor_3 : List UInt8 := dkwX5_holdsFor_3 ++ dktX5_holdsFor_4
def dkwX5_holdsFor_2 : List UInt8 := [172, 42, 180, 0, 66, 3, 21, 5, 79, 42, 180, 0, 66, 4, 21, 4, 42, 180, 0, 13, 28, 46]
abbrev dktX5_holdsFor_2 : List UInt8 := dkwX5_holdsFor_2 ++ dktX5_holdsFor_3
def dkwX5_holdsFor_1 : List UInt8 := [180, 0, 247, 154, 0, 22, 21, 5, 16, 80, 161, 0, 9, 21, 6, 4, 160, 0, 7, 4, 167, 0, 4, 3]
abbrev dktX5_holdsFor_1 : List UInt8 := dkwX5_holdsFor_1 ++ dktX5_holdsFor_2
def dkwX5_holdsFor_0 : List UInt8 := [21, 4, 42, 180, 0, 7, 27, 46, 100, 54, 5, 27, 28, 160, 0, 7, 4, 167, 0, 4, 3, 54, 6, 42]
abbrev dktX5_holdsFor_0 : List UInt8 := dkwX5_holdsFor_0 ++ dktX5_holdsFor_1
theorem dksX5_holdsFor_0 : cX5_holdsFor.data.toList.drop 0 = dktX5_holdsFor_0 := by decide +kernel
theorem dksX5_holdsFor_1 : cX5_holdsFor.data.toList.drop 24 = dktX5_holdsFor_1 := dk_seg dksX5_holdsFor_0 24 rfl rfl
theorem dksX5_holdsFor_2 : cX5_holdsFor.data.toList.drop 48 = dktX5_holdsFor_2 := dk_seg dksX5_holdsFor_1 24 rfl rfl
theorem dksX5_holdsFor_3 : cX5_holdsFor.data.toList.drop 70 = dktX5_holdsFor_3 := dk_seg dksX5_holdsFor_2 22 rfl rfl
theorem dksX5_holdsFor_4 : cX5_holdsFor.data.toList.drop 93 = dktX5_holdsFor_4 := dk_seg dksX5_holdsFor_3 23 rfl rfl
theorem dksX5_holdsFor_5 : cX5_holdsFor.data.toList.drop 116 = dktX5_holdsFor_5 := dk_seg dksX5_holdsFor_4 23 rfl rfl
theorem dX5_holdsFor_0 : decode cX5_holdsFor 0 = .ok (.iload 4, 2) := dk_21 4 (dk_at dksX5_holdsFor_0 0 rfl rfl)
theorem dX5_holdsFor_2 : decode cX5_holdsFor 2 = .ok (.aload_n 0, 1) := dk_42 (dk_at dksX5_holdsFor_0 2 rfl rfl)
theorem dX5_holdsFor_3 : decode cX5_holdsFor 3 = .ok (.getfield 7, 3) := dk_180 0 7 (dk_at dksX5_holdsFor_0 3 rfl rfl)
theorem dX5_holdsFor_6 : decode cX5_holdsFor 6 = .ok (.iload_n 1, 1) := dk_27 (dk_at dksX5_holdsFor_0 6 rfl rfl)
theorem dX5_holdsFor_7 : decode cX5_holdsFor 7 = .ok (.iaload, 1) := dk_46 (dk_at dksX5_holdsFor_0 7 rfl rfl)
theorem dX5_holdsFor_8 : decode cX5_holdsFor 8 = .ok (.isub, 1) := dk_100 (dk_at dksX5_holdsFor_0 8 rfl rfl)
theorem dX5_holdsFor_9 : decode cX5_holdsFor 9 = .ok (.istore 5, 2) := dk_54 5 (dk_at dksX5_holdsFor_0 9 rfl rfl)
theorem dX5_holdsFor_11 : decode cX5_holdsFor 11 = .ok (.iload_n 1, 1) := dk_27 (dk_at dksX5_holdsFor_0 11 rfl rfl)
theorem dX5_holdsFor_12 : decode cX5_holdsFor 12 = .ok (.iload_n 2, 1) := dk_28 (dk_at dksX5_holdsFor_0 12 rfl rfl)
theorem dX5_holdsFor_13 : decode cX5_holdsFor 13 = .ok (.if_icmp .ne 7, 3) := dk_160 0 7 (dk_at dksX5_holdsFor_0 13 rfl rfl)
theorem dX5_holdsFor_16 : decode cX5_holdsFor 16 = .ok (.iconst 1, 1) := dk_4 (dk_at dksX5_holdsFor_0 16 rfl rfl)
theorem dX5_holdsFor_17 : decode cX5_holdsFor 17 = .ok (.goto 4, 3) := dk_167 0 4 (dk_at dksX5_holdsFor_0 17 rfl rfl)
theorem dX5_holdsFor_20 : decode cX5_holdsFor 20 = .ok (.iconst 0, 1) := dk_3 (dk_at dksX5_holdsFor_0 20 rfl rfl)
theorem dX5_holdsFor_21 : decode cX5_holdsFor 21 = .ok (.istore 6, 2) := dk_54 6 (dk_at dksX5_holdsFor_0 21 rfl rfl)
theorem dX5_holdsFor_23 : decode cX5_holdsFor 23 = .ok (.aload_n 0, 1) := dk_42 (dk_at dksX5_holdsFor_0 23 rfl rfl)
theorem dX5_holdsFor_24 : decode cX5_holdsFor 24 = .ok (.getfield 247, 3) := dk_180 0 247 (dk_at dksX5_holdsFor_1 0 rfl rfl)
theorem dX5_holdsFor_27 : decode cX5_holdsFor 27 = .ok (.ifCond .ne 22, 3) := dk_154 0 22 (dk_at dksX5_holdsFor_1 3 rfl rfl)
theorem dX5_holdsFor_30 : decode cX5_holdsFor 30 = .ok (.iload 5, 2) := dk_21 5 (dk_at dksX5_holdsFor_1 6 rfl rfl)
theorem dX5_holdsFor_32 : decode cX5_holdsFor 32 = .ok (.bipush 80, 2) := dk_16 80 (dk_at dksX5_holdsFor_1 8 rfl rfl)
theorem dX5_holdsFor_34 : decode cX5_holdsFor 34 = .ok (.if_icmp .lt 9, 3) := dk_161 0 9 (dk_at dksX5_holdsFor_1 10 rfl rfl)
theorem dX5_holdsFor_37 : decode cX5_holdsFor 37 = .ok (.iload 6, 2) := dk_21 6 (dk_at dksX5_holdsFor_1 13 rfl rfl)
theorem dX5_holdsFor_39 : decode cX5_holdsFor 39 = .ok (.iconst 1, 1) := dk_4 (dk_at dksX5_holdsFor_1 15 rfl rfl)
theorem dX5_holdsFor_40 : decode cX5_holdsFor 40 = .ok (.if_icmp .ne 7, 3) := dk_160 0 7 (dk_at dksX5_holdsFor_1 16 rfl rfl)
theorem dX5_holdsFor_43 : decode cX5_holdsFor 43 = .ok (.iconst 1, 1) := dk_4 (dk_at dksX5_holdsFor_1 19 rfl rfl)
theorem dX5_holdsFor_44 : decode cX5_holdsFor 44 = .ok (.goto 4, 3) := dk_167 0 4 (dk_at dksX5_holdsFor_1 20 rfl rfl)
theorem dX5_holdsFor_47 : decode cX5_holdsFor 47 = .ok (.iconst 0, 1) := dk_3 (dk_at dksX5_holdsFor_1 23 rfl rfl)
theorem dX5_holdsFor_48 : decode cX5_holdsFor 48 = .ok (.ireturn, 1) := dk_172 (dk_at dksX5_holdsFor_2 0 rfl rfl)
theorem dX5_holdsFor_49 : decode cX5_holdsFor 49 = .ok (.aload_n 0, 1) := dk_42 (dk_at dksX5_holdsFor_2 1 rfl rfl)
theorem dX5_holdsFor_50 : decode cX5_holdsFor 50 = .ok (.getfield 66, 3) := dk_180 0 66 (dk_at dksX5_holdsFor_2 2 rfl rfl)
theorem dX5_holdsFor_53 : decode cX5_holdsFor 53 = .ok (.iconst 0, 1) := dk_3 (dk_at dksX5_holdsFor_2 5 rfl rfl)
theorem dX5_holdsFor_54 : decode cX5_holdsFor 54 = .ok (.iload 5, 2) := dk_21 5 (dk_at dksX5_holdsFor_2 6 rfl rfl)
theorem dX5_holdsFor_56 : decode cX5_holdsFor 56 = .ok (.iastore, 1) := dk_79 (dk_at dksX5_holdsFor_2 8 rfl rfl)
theorem dX5_holdsFor_57 : decode cX5_holdsFor 57 = .ok (.aload_n 0, 1) := dk_42 (dk_at dksX5_holdsFor_2 9 rfl rfl)
theorem dX5_holdsFor_58 : decode cX5_holdsFor 58 = .ok (.getfield 66, 3) := dk_180 0 66 (dk_at dksX5_holdsFor_2 10 rfl rfl)
theorem dX5_holdsFor_61 : decode cX5_holdsFor 61 = .ok (.iconst 1, 1) := dk_4 (dk_at dksX5_holdsFor_2 13 rfl rfl)
theorem dX5_holdsFor_62 : decode cX5_holdsFor 62 = .ok (.iload 4, 2) := dk_21 4 (dk_at dksX5_holdsFor_2 14 rfl rfl)
theorem dX5_holdsFor_64 : decode cX5_holdsFor 64 = .ok (.aload_n 0, 1) := dk_42 (dk_at dksX5_holdsFor_2 16 rfl rfl)
theorem dX5_holdsFor_65 : decode cX5_holdsFor 65 = .ok (.getfield 13, 3) := dk_180 0 13 (dk_at dksX5_holdsFor_2 17 rfl rfl)
theorem dX5_holdsFor_68 : decode cX5_holdsFor 68 = .ok (.iload_n 2, 1) := dk_28 (dk_at dksX5_holdsFor_2 20 rfl rfl)
theorem dX5_holdsFor_69 : decode cX5_holdsFor 69 = .ok (.iaload, 1) := dk_46 (dk_at dksX5_holdsFor_2 21 rfl rfl)
theorem dX5_holdsFor_70 : decode cX5_holdsFor 70 = .ok (.if_icmp .le 15, 3) := dk_164 0 15 (dk_at dksX5_holdsFor_3 0 rfl rfl)
theorem dX5_holdsFor_73 : decode cX5_holdsFor 73 = .ok (.iload 4, 2) := dk_21 4 (dk_at dksX5_holdsFor_3 3 rfl rfl)
theorem dX5_holdsFor_75 : decode cX5_holdsFor 75 = .ok (.aload_n 0, 1) := dk_42 (dk_at dksX5_holdsFor_3 5 rfl rfl)
theorem dX5_holdsFor_76 : decode cX5_holdsFor 76 = .ok (.getfield 13, 3) := dk_180 0 13 (dk_at dksX5_holdsFor_3 6 rfl rfl)
theorem dX5_holdsFor_79 : decode cX5_holdsFor 79 = .ok (.iload_n 2, 1) := dk_28 (dk_at dksX5_holdsFor_3 9 rfl rfl)
theorem dX5_holdsFor_80 : decode cX5_holdsFor 80 = .ok (.iaload, 1) := dk_46 (dk_at dksX5_holdsFor_3 10 rfl rfl)
theorem dX5_holdsFor_81 : decode cX5_holdsFor 81 = .ok (.isub, 1) := dk_100 (dk_at dksX5_holdsFor_3 11 rfl rfl)
theorem dX5_holdsFor_82 : decode cX5_holdsFor 82 = .ok (.goto 4, 3) := dk_167 0 4 (dk_at dksX5_holdsFor_3 12 rfl rfl)
theorem dX5_holdsFor_85 : decode cX5_holdsFor 85 = .ok (.iconst 0, 1) := dk_3 (dk_at dksX5_holdsFor_3 15 rfl rfl)
theorem dX5_holdsFor_86 : decode cX5_holdsFor 86 = .ok (.iastore, 1) := dk_79 (dk_at dksX5_holdsFor_3 16 rfl rfl)
theorem dX5_holdsFor_87 : decode cX5_holdsFor 87 = .ok (.aload_n 0, 1) := dk_42 (dk_at dksX5_holdsFor_3 17 rfl rfl)
theorem dX5_holdsFor_88 : decode cX5_holdsFor 88 = .ok (.getfield 66, 3) := dk_180 0 66 (dk_at dksX5_holdsFor_3 18 rfl rfl)
theorem dX5_holdsFor_91 : decode cX5_holdsFor 91 = .ok (.iconst 2, 1) := dk_5 (dk_at dksX5_holdsFor_3 21 rfl rfl)
theorem dX5_holdsFor_92 : decode cX5_holdsFor 92 = .ok (.aload_n 0, 1) := dk_42 (dk_at dksX5_holdsFor_3 22 rfl rfl)
theorem dX5_holdsFor_93 : decode cX5_holdsFor 93 = .ok (.getfield 31, 3) := dk_180 0 31 (dk_at dksX5_holdsFor_4 0 rfl rfl)
theorem dX5_holdsFor_96 : decode cX5_holdsFor 96 = .ok (.iload_n 3, 1) := dk_29 (dk_at dksX5_holdsFor_4 3 rfl rfl)
theorem dX5_holdsFor_97 : decode cX5_holdsFor 97 = .ok (.iaload, 1) := dk_46 (dk_at dksX5_holdsFor_4 4 rfl rfl)
theorem dX5_holdsFor_98 : decode cX5_holdsFor 98 = .ok (.iastore, 1) := dk_79 (dk_at dksX5_holdsFor_4 5 rfl rfl)
theorem dX5_holdsFor_99 : decode cX5_holdsFor 99 = .ok (.aload_n 0, 1) := dk_42 (dk_at dksX5_holdsFor_4 6 rfl rfl)
theorem dX5_holdsFor_100 : decode cX5_holdsFor 100 = .ok (.getfield 66, 3) := dk_180 0 66 (dk_at dksX5_holdsFor_4 7 rfl rfl)
theorem dX5_holdsFor_103 : decode cX5_holdsFor 103 = .ok (.iconst 3, 1) := dk_6 (dk_at dksX5_holdsFor_4 10 rfl rfl)
theorem dX5_holdsFor_104 : decode cX5_holdsFor 104 = .ok (.aload_n 0, 1) := dk_42 (dk_at dksX5_holdsFor_4 11 rfl rfl)
theorem dX5_holdsFor_105 : decode cX5_holdsFor 105 = .ok (.getfield 28, 3) := dk_180 0 28 (dk_at dksX5_holdsFor_4 12 rfl rfl)
theorem dX5_holdsFor_108 : decode cX5_holdsFor 108 = .ok (.iload_n 3, 1) := dk_29 (dk_at dksX5_holdsFor_4 15 rfl rfl)
theorem dX5_holdsFor_109 : decode cX5_holdsFor 109 = .ok (.iaload, 1) := dk_46 (dk_at dksX5_holdsFor_4 16 rfl rfl)
theorem dX5_holdsFor_110 : decode cX5_holdsFor 110 = .ok (.iastore, 1) := dk_79 (dk_at dksX5_holdsFor_4 17 rfl rfl)
theorem dX5_holdsFor_111 : decode cX5_holdsFor 111 = .ok (.aload_n 0, 1) := dk_42 (dk_at dksX5_holdsFor_4 18 rfl rfl)
theorem dX5_holdsFor_112 : decode cX5_holdsFor 112 = .ok (.getfield 66, 3) := dk_180 0 66 (dk_at dksX5_holdsFor_4 19 rfl rfl)
theorem dX5_holdsFor_115 : decode cX5_holdsFor 115 = .ok (.iconst 4, 1) := dk_7 (dk_at dksX5_holdsFor_4 22 rfl rfl)
theorem dX5_holdsFor_116 : decode cX5_holdsFor 116 = .ok (.iload 6, 2) := dk_21 6 (dk_at dksX5_holdsFor_5 0 rfl rfl)
theorem dX5_holdsFor_118 : decode cX5_holdsFor 118 = .ok (.iastore, 1) := dk_79 (dk_at dksX5_holdsFor_5 2 rfl rfl)
theorem dX5_holdsFor_119 : decode cX5_holdsFor 119 = .ok (.aload_n 0, 1) := dk_42 (dk_at dksX5_holdsFor_5 3 rfl rfl)
theorem dX5_holdsFor_120 : decode cX5_holdsFor 120 = .ok (.getfield 66, 3) := dk_180 0 66 (dk_at dksX5_holdsFor_5 4 rfl rfl)
theorem dX5_holdsFor_123 : decode cX5_holdsFor 123 = .ok (.iconst 5, 1) := dk_8 (dk_at dksX5_holdsFor_5 7 rfl rfl)
theorem dX5_holdsFor_124 : decode cX5_holdsFor 124 = .ok (.iload_n 3, 1) := dk_29 (dk_at dksX5_holdsFor_5 8 rfl rfl)
theorem dX5_holdsFor_125 : decode cX5_holdsFor 125 = .ok (.iastore, 1) := dk_79 (dk_at dksX5_holdsFor_5 9 rfl rfl)
theorem dX5_holdsFor_126 : decode cX5_holdsFor 126 = .ok (.aload_n 0, 1) := dk_42 (dk_at dksX5_holdsFor_5 10 rfl rfl)
theorem dX5_holdsFor_127 : decode cX5_holdsFor 127 = .ok (.iconst 0, 1) := dk_3 (dk_at dksX5_holdsFor_5 11 rfl rfl)
theorem dX5_holdsFor_128 : decode cX5_holdsFor 128 = .ok (.invokevirtual 251, 3) := dk_182 0 251 (dk_at dksX5_holdsFor_5 12 rfl rfl)
theorem dX5_holdsFor_131 : decode cX5_holdsFor 131 = .ok (.ifCond .eq 7, 3) := dk_153 0 7 (dk_at dksX5_holdsFor_5 15 rfl rfl)
theorem dX5_holdsFor_134 : decode cX5_holdsFor 134 = .ok (.iconst 1, 1) := dk_4 (dk_at dksX5_holdsFor_5 18 rfl rfl)
theorem dX5_holdsFor_135 : decode cX5_holdsFor 135 = .ok (.goto 4, 3) := dk_167 0 4 (dk_at dksX5_holdsFor_5 19 rfl rfl)
theorem dX5_holdsFor_138 : decode cX5_holdsFor 138 = .ok (.iconst 0, 1) := dk_3 (dk_at dksX5_holdsFor_5 22 rfl rfl)
theorem dX5_holdsFor_139 : decode cX5_holdsFor 139 = .ok (.ireturn, 1) := dk_172 (dk_at dksX5_holdsFor_5 23 rfl rfl)
abbrev cX5_gives : ByteArray := prog_25_method_46_code
def yX5_gives : MethodName := ⟨RX5, "gives", "(I)I"⟩
def dkwX5_gives_3 : List UInt8 := [61, 132, 3, 1, 167, 255, 188, 3, 172]
abbrev dktX5_gives_3 : List UInt8 := dkwX5_gives_3 ++ []
def dkwX5_gives_2 : List UInt8 := [42, 27, 42, 180, 0, 59, 29, 53, 42, 180, 0, 63, 29, 53, 182, 0, 241, 172, 42, 180, 0, 63, 29, 53]
abbrev dktX5_gives_2 : List UInt8 := dkwX5_gives_2 ++ dktX5_gives_3
def dkwX5_gives_1 : List UInt8 := [180, 0, 59, 29, 53, 28, 159, 0, 18, 42, 27, 28, 42, 180, 0, 59, 29, 53, 182, 0, 241, 153, 0, 21]
abbrev dktX5_gives_1 : List UInt8 := dkwX5_gives_1 ++ dktX5_gives_2
def dkwX5_gives_0 : List UInt8 := [3, 61, 16, 61, 27, 104, 62, 29, 16, 61, 27, 104, 42, 180, 0, 56, 27, 46, 96, 162, 0, 59, 42]
abbrev dktX5_gives_0 : List UInt8 := dkwX5_gives_0 ++ dktX5_gives_1
theorem dksX5_gives_0 : cX5_gives.data.toList.drop 0 = dktX5_gives_0 := by decide +kernel
theorem dksX5_gives_1 : cX5_gives.data.toList.drop 23 = dktX5_gives_1 := dk_seg dksX5_gives_0 23 rfl rfl
theorem dksX5_gives_2 : cX5_gives.data.toList.drop 47 = dktX5_gives_2 := dk_seg dksX5_gives_1 24 rfl rfl
theorem dksX5_gives_3 : cX5_gives.data.toList.drop 71 = dktX5_gives_3 := dk_seg dksX5_gives_2 24 rfl rfl
theorem dX5_gives_0 : decode cX5_gives 0 = .ok (.iconst 0, 1) := dk_3 (dk_at dksX5_gives_0 0 rfl rfl)
theorem dX5_gives_1 : decode cX5_gives 1 = .ok (.istore_n 2, 1) := dk_61 (dk_at dksX5_gives_0 1 rfl rfl)
theorem dX5_gives_2 : decode cX5_gives 2 = .ok (.bipush 61, 2) := dk_16 61 (dk_at dksX5_gives_0 2 rfl rfl)
theorem dX5_gives_4 : decode cX5_gives 4 = .ok (.iload_n 1, 1) := dk_27 (dk_at dksX5_gives_0 4 rfl rfl)
theorem dX5_gives_5 : decode cX5_gives 5 = .ok (.imul, 1) := dk_104 (dk_at dksX5_gives_0 5 rfl rfl)
theorem dX5_gives_6 : decode cX5_gives 6 = .ok (.istore_n 3, 1) := dk_62 (dk_at dksX5_gives_0 6 rfl rfl)
theorem dX5_gives_7 : decode cX5_gives 7 = .ok (.iload_n 3, 1) := dk_29 (dk_at dksX5_gives_0 7 rfl rfl)
theorem dX5_gives_8 : decode cX5_gives 8 = .ok (.bipush 61, 2) := dk_16 61 (dk_at dksX5_gives_0 8 rfl rfl)
theorem dX5_gives_10 : decode cX5_gives 10 = .ok (.iload_n 1, 1) := dk_27 (dk_at dksX5_gives_0 10 rfl rfl)
theorem dX5_gives_11 : decode cX5_gives 11 = .ok (.imul, 1) := dk_104 (dk_at dksX5_gives_0 11 rfl rfl)
theorem dX5_gives_12 : decode cX5_gives 12 = .ok (.aload_n 0, 1) := dk_42 (dk_at dksX5_gives_0 12 rfl rfl)
theorem dX5_gives_13 : decode cX5_gives 13 = .ok (.getfield 56, 3) := dk_180 0 56 (dk_at dksX5_gives_0 13 rfl rfl)
theorem dX5_gives_16 : decode cX5_gives 16 = .ok (.iload_n 1, 1) := dk_27 (dk_at dksX5_gives_0 16 rfl rfl)
theorem dX5_gives_17 : decode cX5_gives 17 = .ok (.iaload, 1) := dk_46 (dk_at dksX5_gives_0 17 rfl rfl)
theorem dX5_gives_18 : decode cX5_gives 18 = .ok (.iadd, 1) := dk_96 (dk_at dksX5_gives_0 18 rfl rfl)
theorem dX5_gives_19 : decode cX5_gives 19 = .ok (.if_icmp .ge 59, 3) := dk_162 0 59 (dk_at dksX5_gives_0 19 rfl rfl)
theorem dX5_gives_22 : decode cX5_gives 22 = .ok (.aload_n 0, 1) := dk_42 (dk_at dksX5_gives_0 22 rfl rfl)
theorem dX5_gives_23 : decode cX5_gives 23 = .ok (.getfield 59, 3) := dk_180 0 59 (dk_at dksX5_gives_1 0 rfl rfl)
theorem dX5_gives_26 : decode cX5_gives 26 = .ok (.iload_n 3, 1) := dk_29 (dk_at dksX5_gives_1 3 rfl rfl)
theorem dX5_gives_27 : decode cX5_gives 27 = .ok (.saload, 1) := dk_53 (dk_at dksX5_gives_1 4 rfl rfl)
theorem dX5_gives_28 : decode cX5_gives 28 = .ok (.iload_n 2, 1) := dk_28 (dk_at dksX5_gives_1 5 rfl rfl)
theorem dX5_gives_29 : decode cX5_gives 29 = .ok (.if_icmp .eq 18, 3) := dk_159 0 18 (dk_at dksX5_gives_1 6 rfl rfl)
theorem dX5_gives_32 : decode cX5_gives 32 = .ok (.aload_n 0, 1) := dk_42 (dk_at dksX5_gives_1 9 rfl rfl)
theorem dX5_gives_33 : decode cX5_gives 33 = .ok (.iload_n 1, 1) := dk_27 (dk_at dksX5_gives_1 10 rfl rfl)
theorem dX5_gives_34 : decode cX5_gives 34 = .ok (.iload_n 2, 1) := dk_28 (dk_at dksX5_gives_1 11 rfl rfl)
theorem dX5_gives_35 : decode cX5_gives 35 = .ok (.aload_n 0, 1) := dk_42 (dk_at dksX5_gives_1 12 rfl rfl)
theorem dX5_gives_36 : decode cX5_gives 36 = .ok (.getfield 59, 3) := dk_180 0 59 (dk_at dksX5_gives_1 13 rfl rfl)
theorem dX5_gives_39 : decode cX5_gives 39 = .ok (.iload_n 3, 1) := dk_29 (dk_at dksX5_gives_1 16 rfl rfl)
theorem dX5_gives_40 : decode cX5_gives 40 = .ok (.saload, 1) := dk_53 (dk_at dksX5_gives_1 17 rfl rfl)
theorem dX5_gives_41 : decode cX5_gives 41 = .ok (.invokevirtual 241, 3) := dk_182 0 241 (dk_at dksX5_gives_1 18 rfl rfl)
theorem dX5_gives_44 : decode cX5_gives 44 = .ok (.ifCond .eq 21, 3) := dk_153 0 21 (dk_at dksX5_gives_1 21 rfl rfl)
theorem dX5_gives_47 : decode cX5_gives 47 = .ok (.aload_n 0, 1) := dk_42 (dk_at dksX5_gives_2 0 rfl rfl)
theorem dX5_gives_48 : decode cX5_gives 48 = .ok (.iload_n 1, 1) := dk_27 (dk_at dksX5_gives_2 1 rfl rfl)
theorem dX5_gives_49 : decode cX5_gives 49 = .ok (.aload_n 0, 1) := dk_42 (dk_at dksX5_gives_2 2 rfl rfl)
theorem dX5_gives_50 : decode cX5_gives 50 = .ok (.getfield 59, 3) := dk_180 0 59 (dk_at dksX5_gives_2 3 rfl rfl)
theorem dX5_gives_53 : decode cX5_gives 53 = .ok (.iload_n 3, 1) := dk_29 (dk_at dksX5_gives_2 6 rfl rfl)
theorem dX5_gives_54 : decode cX5_gives 54 = .ok (.saload, 1) := dk_53 (dk_at dksX5_gives_2 7 rfl rfl)
theorem dX5_gives_55 : decode cX5_gives 55 = .ok (.aload_n 0, 1) := dk_42 (dk_at dksX5_gives_2 8 rfl rfl)
theorem dX5_gives_56 : decode cX5_gives 56 = .ok (.getfield 63, 3) := dk_180 0 63 (dk_at dksX5_gives_2 9 rfl rfl)
theorem dX5_gives_59 : decode cX5_gives 59 = .ok (.iload_n 3, 1) := dk_29 (dk_at dksX5_gives_2 12 rfl rfl)
theorem dX5_gives_60 : decode cX5_gives 60 = .ok (.saload, 1) := dk_53 (dk_at dksX5_gives_2 13 rfl rfl)
theorem dX5_gives_61 : decode cX5_gives 61 = .ok (.invokevirtual 241, 3) := dk_182 0 241 (dk_at dksX5_gives_2 14 rfl rfl)
theorem dX5_gives_64 : decode cX5_gives 64 = .ok (.ireturn, 1) := dk_172 (dk_at dksX5_gives_2 17 rfl rfl)
theorem dX5_gives_65 : decode cX5_gives 65 = .ok (.aload_n 0, 1) := dk_42 (dk_at dksX5_gives_2 18 rfl rfl)
theorem dX5_gives_66 : decode cX5_gives 66 = .ok (.getfield 63, 3) := dk_180 0 63 (dk_at dksX5_gives_2 19 rfl rfl)
theorem dX5_gives_69 : decode cX5_gives 69 = .ok (.iload_n 3, 1) := dk_29 (dk_at dksX5_gives_2 22 rfl rfl)
theorem dX5_gives_70 : decode cX5_gives 70 = .ok (.saload, 1) := dk_53 (dk_at dksX5_gives_2 23 rfl rfl)
theorem dX5_gives_71 : decode cX5_gives 71 = .ok (.istore_n 2, 1) := dk_61 (dk_at dksX5_gives_3 0 rfl rfl)
theorem dX5_gives_72 : decode cX5_gives 72 = .ok (.iinc 3 1, 3) := dk_132 3 1 (dk_at dksX5_gives_3 1 rfl rfl)
theorem dX5_gives_75 : decode cX5_gives 75 = .ok (.goto (-68), 3) := dk_167 255 188 (dk_at dksX5_gives_3 4 rfl rfl)
theorem dX5_gives_78 : decode cX5_gives 78 = .ok (.iconst 0, 1) := dk_3 (dk_at dksX5_gives_3 7 rfl rfl)
theorem dX5_gives_79 : decode cX5_gives 79 = .ok (.ireturn, 1) := dk_172 (dk_at dksX5_gives_3 8 rfl rfl)
abbrev cX5_worked : ByteArray := prog_25_method_45_code
def yX5_worked : MethodName := ⟨RX5, "worked", "(III)I"⟩
def dkwX5_worked_8 : List UInt8 := [167, 255, 83, 42, 180, 0, 69, 3, 46, 172]
abbrev dktX5_worked_8 : List UInt8 := dkwX5_worked_8 ++ []
def dkwX5_worked_7 : List UInt8 := [180, 0, 69, 21, 4, 4, 100, 46, 42, 180, 0, 69, 21, 4, 46, 184, 0, 238, 79, 132, 5, 1]
abbrev dktX5_worked_7 : List UInt8 := dkwX5_worked_7 ++ dktX5_worked_8
def dkwX5_worked_6 : List UInt8 := [21, 4, 4, 100, 46, 116, 79, 167, 0, 36, 132, 4, 255, 42, 180, 0, 69, 21, 4, 4, 100, 21, 6, 42]
abbrev dktX5_worked_6 : List UInt8 := dkwX5_worked_6 ++ dktX5_worked_7
def dkwX5_worked_5 : List UInt8 := [3, 79, 167, 0, 64, 21, 6, 7, 160, 0, 25, 42, 180, 0, 69, 21, 4, 4, 100, 42, 180, 0, 69]
abbrev dktX5_worked_5 : List UInt8 := dkwX5_worked_5 ++ dktX5_worked_6
def dkwX5_worked_4 : List UInt8 := [42, 180, 0, 69, 21, 4, 4, 100, 42, 180, 0, 69, 21, 4, 4, 100, 46, 154, 0, 7, 4, 167, 0, 4]
abbrev dktX5_worked_4 : List UInt8 := dkwX5_worked_4 ++ dktX5_worked_5
def dkwX5_worked_3 : List UInt8 := [180, 0, 66, 42, 180, 0, 53, 21, 5, 46, 46, 79, 132, 4, 1, 167, 0, 99, 21, 6, 6, 160, 0, 32]
abbrev dktX5_worked_3 : List UInt8 := dkwX5_worked_3 ++ dktX5_worked_4
def dkwX5_worked_2 : List UInt8 := [180, 0, 69, 21, 4, 21, 6, 4, 160, 0, 13, 42, 180, 0, 53, 21, 5, 46, 167, 0, 15, 42]
abbrev dktX5_worked_2 : List UInt8 := dkwX5_worked_2 ++ dktX5_worked_3
def dkwX5_worked_1 : List UInt8 := [42, 180, 0, 50, 21, 5, 51, 54, 6, 21, 6, 4, 159, 0, 9, 21, 6, 5, 160, 0, 44, 42]
abbrev dktX5_worked_1 : List UInt8 := dkwX5_worked_1 ++ dktX5_worked_2
def dkwX5_worked_0 : List UInt8 := [3, 54, 4, 17, 0, 130, 27, 104, 28, 96, 54, 5, 21, 5, 17, 0, 130, 27, 104, 29, 96, 162, 0, 167]
abbrev dktX5_worked_0 : List UInt8 := dkwX5_worked_0 ++ dktX5_worked_1
theorem dksX5_worked_0 : cX5_worked.data.toList.drop 0 = dktX5_worked_0 := by decide +kernel
theorem dksX5_worked_1 : cX5_worked.data.toList.drop 24 = dktX5_worked_1 := dk_seg dksX5_worked_0 24 rfl rfl
theorem dksX5_worked_2 : cX5_worked.data.toList.drop 46 = dktX5_worked_2 := dk_seg dksX5_worked_1 22 rfl rfl
theorem dksX5_worked_3 : cX5_worked.data.toList.drop 68 = dktX5_worked_3 := dk_seg dksX5_worked_2 22 rfl rfl
theorem dksX5_worked_4 : cX5_worked.data.toList.drop 92 = dktX5_worked_4 := dk_seg dksX5_worked_3 24 rfl rfl
theorem dksX5_worked_5 : cX5_worked.data.toList.drop 116 = dktX5_worked_5 := dk_seg dksX5_worked_4 24 rfl rfl
theorem dksX5_worked_6 : cX5_worked.data.toList.drop 139 = dktX5_worked_6 := dk_seg dksX5_worked_5 23 rfl rfl
theorem dksX5_worked_7 : cX5_worked.data.toList.drop 163 = dktX5_worked_7 := dk_seg dksX5_worked_6 24 rfl rfl
theorem dksX5_worked_8 : cX5_worked.data.toList.drop 185 = dktX5_worked_8 := dk_seg dksX5_worked_7 22 rfl rfl
theorem dX5_worked_0 : decode cX5_worked 0 = .ok (.iconst 0, 1) := dk_3 (dk_at dksX5_worked_0 0 rfl rfl)
theorem dX5_worked_1 : decode cX5_worked 1 = .ok (.istore 4, 2) := dk_54 4 (dk_at dksX5_worked_0 1 rfl rfl)
theorem dX5_worked_3 : decode cX5_worked 3 = .ok (.sipush 130, 3) := dk_17 0 130 (dk_at dksX5_worked_0 3 rfl rfl)
theorem dX5_worked_6 : decode cX5_worked 6 = .ok (.iload_n 1, 1) := dk_27 (dk_at dksX5_worked_0 6 rfl rfl)
theorem dX5_worked_7 : decode cX5_worked 7 = .ok (.imul, 1) := dk_104 (dk_at dksX5_worked_0 7 rfl rfl)
theorem dX5_worked_8 : decode cX5_worked 8 = .ok (.iload_n 2, 1) := dk_28 (dk_at dksX5_worked_0 8 rfl rfl)
theorem dX5_worked_9 : decode cX5_worked 9 = .ok (.iadd, 1) := dk_96 (dk_at dksX5_worked_0 9 rfl rfl)
theorem dX5_worked_10 : decode cX5_worked 10 = .ok (.istore 5, 2) := dk_54 5 (dk_at dksX5_worked_0 10 rfl rfl)
theorem dX5_worked_12 : decode cX5_worked 12 = .ok (.iload 5, 2) := dk_21 5 (dk_at dksX5_worked_0 12 rfl rfl)
theorem dX5_worked_14 : decode cX5_worked 14 = .ok (.sipush 130, 3) := dk_17 0 130 (dk_at dksX5_worked_0 14 rfl rfl)
theorem dX5_worked_17 : decode cX5_worked 17 = .ok (.iload_n 1, 1) := dk_27 (dk_at dksX5_worked_0 17 rfl rfl)
theorem dX5_worked_18 : decode cX5_worked 18 = .ok (.imul, 1) := dk_104 (dk_at dksX5_worked_0 18 rfl rfl)
theorem dX5_worked_19 : decode cX5_worked 19 = .ok (.iload_n 3, 1) := dk_29 (dk_at dksX5_worked_0 19 rfl rfl)
theorem dX5_worked_20 : decode cX5_worked 20 = .ok (.iadd, 1) := dk_96 (dk_at dksX5_worked_0 20 rfl rfl)
theorem dX5_worked_21 : decode cX5_worked 21 = .ok (.if_icmp .ge 167, 3) := dk_162 0 167 (dk_at dksX5_worked_0 21 rfl rfl)
theorem dX5_worked_24 : decode cX5_worked 24 = .ok (.aload_n 0, 1) := dk_42 (dk_at dksX5_worked_1 0 rfl rfl)
theorem dX5_worked_25 : decode cX5_worked 25 = .ok (.getfield 50, 3) := dk_180 0 50 (dk_at dksX5_worked_1 1 rfl rfl)
theorem dX5_worked_28 : decode cX5_worked 28 = .ok (.iload 5, 2) := dk_21 5 (dk_at dksX5_worked_1 4 rfl rfl)
theorem dX5_worked_30 : decode cX5_worked 30 = .ok (.baload, 1) := dk_51 (dk_at dksX5_worked_1 6 rfl rfl)
theorem dX5_worked_31 : decode cX5_worked 31 = .ok (.istore 6, 2) := dk_54 6 (dk_at dksX5_worked_1 7 rfl rfl)
theorem dX5_worked_33 : decode cX5_worked 33 = .ok (.iload 6, 2) := dk_21 6 (dk_at dksX5_worked_1 9 rfl rfl)
theorem dX5_worked_35 : decode cX5_worked 35 = .ok (.iconst 1, 1) := dk_4 (dk_at dksX5_worked_1 11 rfl rfl)
theorem dX5_worked_36 : decode cX5_worked 36 = .ok (.if_icmp .eq 9, 3) := dk_159 0 9 (dk_at dksX5_worked_1 12 rfl rfl)
theorem dX5_worked_39 : decode cX5_worked 39 = .ok (.iload 6, 2) := dk_21 6 (dk_at dksX5_worked_1 15 rfl rfl)
theorem dX5_worked_41 : decode cX5_worked 41 = .ok (.iconst 2, 1) := dk_5 (dk_at dksX5_worked_1 17 rfl rfl)
theorem dX5_worked_42 : decode cX5_worked 42 = .ok (.if_icmp .ne 44, 3) := dk_160 0 44 (dk_at dksX5_worked_1 18 rfl rfl)
theorem dX5_worked_45 : decode cX5_worked 45 = .ok (.aload_n 0, 1) := dk_42 (dk_at dksX5_worked_1 21 rfl rfl)
theorem dX5_worked_46 : decode cX5_worked 46 = .ok (.getfield 69, 3) := dk_180 0 69 (dk_at dksX5_worked_2 0 rfl rfl)
theorem dX5_worked_49 : decode cX5_worked 49 = .ok (.iload 4, 2) := dk_21 4 (dk_at dksX5_worked_2 3 rfl rfl)
theorem dX5_worked_51 : decode cX5_worked 51 = .ok (.iload 6, 2) := dk_21 6 (dk_at dksX5_worked_2 5 rfl rfl)
theorem dX5_worked_53 : decode cX5_worked 53 = .ok (.iconst 1, 1) := dk_4 (dk_at dksX5_worked_2 7 rfl rfl)
theorem dX5_worked_54 : decode cX5_worked 54 = .ok (.if_icmp .ne 13, 3) := dk_160 0 13 (dk_at dksX5_worked_2 8 rfl rfl)
theorem dX5_worked_57 : decode cX5_worked 57 = .ok (.aload_n 0, 1) := dk_42 (dk_at dksX5_worked_2 11 rfl rfl)
theorem dX5_worked_58 : decode cX5_worked 58 = .ok (.getfield 53, 3) := dk_180 0 53 (dk_at dksX5_worked_2 12 rfl rfl)
theorem dX5_worked_61 : decode cX5_worked 61 = .ok (.iload 5, 2) := dk_21 5 (dk_at dksX5_worked_2 15 rfl rfl)
theorem dX5_worked_63 : decode cX5_worked 63 = .ok (.iaload, 1) := dk_46 (dk_at dksX5_worked_2 17 rfl rfl)
theorem dX5_worked_64 : decode cX5_worked 64 = .ok (.goto 15, 3) := dk_167 0 15 (dk_at dksX5_worked_2 18 rfl rfl)
theorem dX5_worked_67 : decode cX5_worked 67 = .ok (.aload_n 0, 1) := dk_42 (dk_at dksX5_worked_2 21 rfl rfl)
theorem dX5_worked_68 : decode cX5_worked 68 = .ok (.getfield 66, 3) := dk_180 0 66 (dk_at dksX5_worked_3 0 rfl rfl)
theorem dX5_worked_71 : decode cX5_worked 71 = .ok (.aload_n 0, 1) := dk_42 (dk_at dksX5_worked_3 3 rfl rfl)
theorem dX5_worked_72 : decode cX5_worked 72 = .ok (.getfield 53, 3) := dk_180 0 53 (dk_at dksX5_worked_3 4 rfl rfl)
theorem dX5_worked_75 : decode cX5_worked 75 = .ok (.iload 5, 2) := dk_21 5 (dk_at dksX5_worked_3 7 rfl rfl)
theorem dX5_worked_77 : decode cX5_worked 77 = .ok (.iaload, 1) := dk_46 (dk_at dksX5_worked_3 9 rfl rfl)
theorem dX5_worked_78 : decode cX5_worked 78 = .ok (.iaload, 1) := dk_46 (dk_at dksX5_worked_3 10 rfl rfl)
theorem dX5_worked_79 : decode cX5_worked 79 = .ok (.iastore, 1) := dk_79 (dk_at dksX5_worked_3 11 rfl rfl)
theorem dX5_worked_80 : decode cX5_worked 80 = .ok (.iinc 4 1, 3) := dk_132 4 1 (dk_at dksX5_worked_3 12 rfl rfl)
theorem dX5_worked_83 : decode cX5_worked 83 = .ok (.goto 99, 3) := dk_167 0 99 (dk_at dksX5_worked_3 15 rfl rfl)
theorem dX5_worked_86 : decode cX5_worked 86 = .ok (.iload 6, 2) := dk_21 6 (dk_at dksX5_worked_3 18 rfl rfl)
theorem dX5_worked_88 : decode cX5_worked 88 = .ok (.iconst 3, 1) := dk_6 (dk_at dksX5_worked_3 20 rfl rfl)
theorem dX5_worked_89 : decode cX5_worked 89 = .ok (.if_icmp .ne 32, 3) := dk_160 0 32 (dk_at dksX5_worked_3 21 rfl rfl)
theorem dX5_worked_92 : decode cX5_worked 92 = .ok (.aload_n 0, 1) := dk_42 (dk_at dksX5_worked_4 0 rfl rfl)
theorem dX5_worked_93 : decode cX5_worked 93 = .ok (.getfield 69, 3) := dk_180 0 69 (dk_at dksX5_worked_4 1 rfl rfl)
theorem dX5_worked_96 : decode cX5_worked 96 = .ok (.iload 4, 2) := dk_21 4 (dk_at dksX5_worked_4 4 rfl rfl)
theorem dX5_worked_98 : decode cX5_worked 98 = .ok (.iconst 1, 1) := dk_4 (dk_at dksX5_worked_4 6 rfl rfl)
theorem dX5_worked_99 : decode cX5_worked 99 = .ok (.isub, 1) := dk_100 (dk_at dksX5_worked_4 7 rfl rfl)
theorem dX5_worked_100 : decode cX5_worked 100 = .ok (.aload_n 0, 1) := dk_42 (dk_at dksX5_worked_4 8 rfl rfl)
theorem dX5_worked_101 : decode cX5_worked 101 = .ok (.getfield 69, 3) := dk_180 0 69 (dk_at dksX5_worked_4 9 rfl rfl)
theorem dX5_worked_104 : decode cX5_worked 104 = .ok (.iload 4, 2) := dk_21 4 (dk_at dksX5_worked_4 12 rfl rfl)
theorem dX5_worked_106 : decode cX5_worked 106 = .ok (.iconst 1, 1) := dk_4 (dk_at dksX5_worked_4 14 rfl rfl)
theorem dX5_worked_107 : decode cX5_worked 107 = .ok (.isub, 1) := dk_100 (dk_at dksX5_worked_4 15 rfl rfl)
theorem dX5_worked_108 : decode cX5_worked 108 = .ok (.iaload, 1) := dk_46 (dk_at dksX5_worked_4 16 rfl rfl)
theorem dX5_worked_109 : decode cX5_worked 109 = .ok (.ifCond .ne 7, 3) := dk_154 0 7 (dk_at dksX5_worked_4 17 rfl rfl)
theorem dX5_worked_112 : decode cX5_worked 112 = .ok (.iconst 1, 1) := dk_4 (dk_at dksX5_worked_4 20 rfl rfl)
theorem dX5_worked_113 : decode cX5_worked 113 = .ok (.goto 4, 3) := dk_167 0 4 (dk_at dksX5_worked_4 21 rfl rfl)
theorem dX5_worked_116 : decode cX5_worked 116 = .ok (.iconst 0, 1) := dk_3 (dk_at dksX5_worked_5 0 rfl rfl)
theorem dX5_worked_117 : decode cX5_worked 117 = .ok (.iastore, 1) := dk_79 (dk_at dksX5_worked_5 1 rfl rfl)
theorem dX5_worked_118 : decode cX5_worked 118 = .ok (.goto 64, 3) := dk_167 0 64 (dk_at dksX5_worked_5 2 rfl rfl)
theorem dX5_worked_121 : decode cX5_worked 121 = .ok (.iload 6, 2) := dk_21 6 (dk_at dksX5_worked_5 5 rfl rfl)
theorem dX5_worked_123 : decode cX5_worked 123 = .ok (.iconst 4, 1) := dk_7 (dk_at dksX5_worked_5 7 rfl rfl)
theorem dX5_worked_124 : decode cX5_worked 124 = .ok (.if_icmp .ne 25, 3) := dk_160 0 25 (dk_at dksX5_worked_5 8 rfl rfl)
theorem dX5_worked_127 : decode cX5_worked 127 = .ok (.aload_n 0, 1) := dk_42 (dk_at dksX5_worked_5 11 rfl rfl)
theorem dX5_worked_128 : decode cX5_worked 128 = .ok (.getfield 69, 3) := dk_180 0 69 (dk_at dksX5_worked_5 12 rfl rfl)
theorem dX5_worked_131 : decode cX5_worked 131 = .ok (.iload 4, 2) := dk_21 4 (dk_at dksX5_worked_5 15 rfl rfl)
theorem dX5_worked_133 : decode cX5_worked 133 = .ok (.iconst 1, 1) := dk_4 (dk_at dksX5_worked_5 17 rfl rfl)
theorem dX5_worked_134 : decode cX5_worked 134 = .ok (.isub, 1) := dk_100 (dk_at dksX5_worked_5 18 rfl rfl)
theorem dX5_worked_135 : decode cX5_worked 135 = .ok (.aload_n 0, 1) := dk_42 (dk_at dksX5_worked_5 19 rfl rfl)
theorem dX5_worked_136 : decode cX5_worked 136 = .ok (.getfield 69, 3) := dk_180 0 69 (dk_at dksX5_worked_5 20 rfl rfl)
theorem dX5_worked_139 : decode cX5_worked 139 = .ok (.iload 4, 2) := dk_21 4 (dk_at dksX5_worked_6 0 rfl rfl)
theorem dX5_worked_141 : decode cX5_worked 141 = .ok (.iconst 1, 1) := dk_4 (dk_at dksX5_worked_6 2 rfl rfl)
theorem dX5_worked_142 : decode cX5_worked 142 = .ok (.isub, 1) := dk_100 (dk_at dksX5_worked_6 3 rfl rfl)
theorem dX5_worked_143 : decode cX5_worked 143 = .ok (.iaload, 1) := dk_46 (dk_at dksX5_worked_6 4 rfl rfl)
theorem dX5_worked_144 : decode cX5_worked 144 = .ok (.ineg, 1) := dk_116 (dk_at dksX5_worked_6 5 rfl rfl)
theorem dX5_worked_145 : decode cX5_worked 145 = .ok (.iastore, 1) := dk_79 (dk_at dksX5_worked_6 6 rfl rfl)
theorem dX5_worked_146 : decode cX5_worked 146 = .ok (.goto 36, 3) := dk_167 0 36 (dk_at dksX5_worked_6 7 rfl rfl)
theorem dX5_worked_149 : decode cX5_worked 149 = .ok (.iinc 4 (-1), 3) := dk_132 4 255 (dk_at dksX5_worked_6 10 rfl rfl)
theorem dX5_worked_152 : decode cX5_worked 152 = .ok (.aload_n 0, 1) := dk_42 (dk_at dksX5_worked_6 13 rfl rfl)
theorem dX5_worked_153 : decode cX5_worked 153 = .ok (.getfield 69, 3) := dk_180 0 69 (dk_at dksX5_worked_6 14 rfl rfl)
theorem dX5_worked_156 : decode cX5_worked 156 = .ok (.iload 4, 2) := dk_21 4 (dk_at dksX5_worked_6 17 rfl rfl)
theorem dX5_worked_158 : decode cX5_worked 158 = .ok (.iconst 1, 1) := dk_4 (dk_at dksX5_worked_6 19 rfl rfl)
theorem dX5_worked_159 : decode cX5_worked 159 = .ok (.isub, 1) := dk_100 (dk_at dksX5_worked_6 20 rfl rfl)
theorem dX5_worked_160 : decode cX5_worked 160 = .ok (.iload 6, 2) := dk_21 6 (dk_at dksX5_worked_6 21 rfl rfl)
theorem dX5_worked_162 : decode cX5_worked 162 = .ok (.aload_n 0, 1) := dk_42 (dk_at dksX5_worked_6 23 rfl rfl)
theorem dX5_worked_163 : decode cX5_worked 163 = .ok (.getfield 69, 3) := dk_180 0 69 (dk_at dksX5_worked_7 0 rfl rfl)
theorem dX5_worked_166 : decode cX5_worked 166 = .ok (.iload 4, 2) := dk_21 4 (dk_at dksX5_worked_7 3 rfl rfl)
theorem dX5_worked_168 : decode cX5_worked 168 = .ok (.iconst 1, 1) := dk_4 (dk_at dksX5_worked_7 5 rfl rfl)
theorem dX5_worked_169 : decode cX5_worked 169 = .ok (.isub, 1) := dk_100 (dk_at dksX5_worked_7 6 rfl rfl)
theorem dX5_worked_170 : decode cX5_worked 170 = .ok (.iaload, 1) := dk_46 (dk_at dksX5_worked_7 7 rfl rfl)
theorem dX5_worked_171 : decode cX5_worked 171 = .ok (.aload_n 0, 1) := dk_42 (dk_at dksX5_worked_7 8 rfl rfl)
theorem dX5_worked_172 : decode cX5_worked 172 = .ok (.getfield 69, 3) := dk_180 0 69 (dk_at dksX5_worked_7 9 rfl rfl)
theorem dX5_worked_175 : decode cX5_worked 175 = .ok (.iload 4, 2) := dk_21 4 (dk_at dksX5_worked_7 12 rfl rfl)
theorem dX5_worked_177 : decode cX5_worked 177 = .ok (.iaload, 1) := dk_46 (dk_at dksX5_worked_7 14 rfl rfl)
theorem dX5_worked_178 : decode cX5_worked 178 = .ok (.invokestatic 238, 3) := dk_184 0 238 (dk_at dksX5_worked_7 15 rfl rfl)
theorem dX5_worked_181 : decode cX5_worked 181 = .ok (.iastore, 1) := dk_79 (dk_at dksX5_worked_7 18 rfl rfl)
theorem dX5_worked_182 : decode cX5_worked 182 = .ok (.iinc 5 1, 3) := dk_132 5 1 (dk_at dksX5_worked_7 19 rfl rfl)
theorem dX5_worked_185 : decode cX5_worked 185 = .ok (.goto (-173), 3) := dk_167 255 83 (dk_at dksX5_worked_8 0 rfl rfl)
theorem dX5_worked_188 : decode cX5_worked 188 = .ok (.aload_n 0, 1) := dk_42 (dk_at dksX5_worked_8 3 rfl rfl)
theorem dX5_worked_189 : decode cX5_worked 189 = .ok (.getfield 69, 3) := dk_180 0 69 (dk_at dksX5_worked_8 4 rfl rfl)
theorem dX5_worked_192 : decode cX5_worked 192 = .ok (.iconst 0, 1) := dk_3 (dk_at dksX5_worked_8 7 rfl rfl)
theorem dX5_worked_193 : decode cX5_worked 193 = .ok (.iaload, 1) := dk_46 (dk_at dksX5_worked_8 8 rfl rfl)
theorem dX5_worked_194 : decode cX5_worked 194 = .ok (.ireturn, 1) := dk_172 (dk_at dksX5_worked_8 9 rfl rfl)
abbrev cX5_twoOf : ByteArray := prog_25_method_44_code
def yX5_twoOf : MethodName := ⟨RX5, "twoOf", "(III)I"⟩
def dkwX5_twoOf_6 : List UInt8 := [4, 167, 0, 4, 3, 172, 27, 154, 0, 7, 28, 153, 0, 7, 4, 167, 0, 4, 3, 172]
abbrev dktX5_twoOf_6 : List UInt8 := dkwX5_twoOf_6 ++ []
def dkwX5_twoOf_5 : List UInt8 := [167, 0, 4, 3, 172, 27, 28, 164, 0, 7, 4, 167, 0, 4, 3, 172, 27, 153, 0, 11, 28, 153, 0, 7]
abbrev dktX5_twoOf_5 : List UInt8 := dkwX5_twoOf_5 ++ dktX5_twoOf_6
def dkwX5_twoOf_4 : List UInt8 := [167, 0, 6, 27, 28, 112, 172, 27, 28, 162, 0, 7, 4, 167, 0, 4, 3, 172, 27, 28, 160, 0, 7, 4]
abbrev dktX5_twoOf_4 : List UInt8 := dkwX5_twoOf_4 ++ dktX5_twoOf_5
def dkwX5_twoOf_3 : List UInt8 := [160, 0, 8, 27, 116, 167, 0, 6, 27, 28, 108, 172, 28, 153, 0, 8, 28, 2, 160, 0, 7, 3]
abbrev dktX5_twoOf_3 : List UInt8 := dkwX5_twoOf_3 ++ dktX5_twoOf_4
def dkwX5_twoOf_2 : List UInt8 := [27, 28, 96, 172, 27, 28, 100, 172, 27, 28, 104, 172, 28, 154, 0, 7, 3, 167, 0, 16, 28, 2]
abbrev dktX5_twoOf_2 : List UInt8 := dkwX5_twoOf_2 ++ dktX5_twoOf_3
def dkwX5_twoOf_1 : List UInt8 := [170, 0, 0, 0, 0, 0, 217, 0, 0, 0, 37, 0, 0, 0, 62, 0, 0, 0, 153, 0, 0, 0, 203, 0, 0, 0, 217, 0, 0, 0, 217, 0, 0, 0, 217, 0, 0, 0, 127, 0, 0, 0, 119, 0, 0, 0, 217, 0, 0, 0, 123, 0, 0, 0, 217, 0, 0, 0, 131, 0, 0, 0, 217, 0, 0, 0, 217, 0, 0, 0, 217, 0, 0, 0, 217, 0, 0, 0, 217, 0, 0, 0, 217, 0, 0, 0, 217, 0, 0, 0, 217, 0, 0, 0, 217, 0, 0, 0, 217, 0, 0, 0, 217, 0, 0, 0, 217, 0, 0, 0, 170, 0, 0, 0, 181, 0, 0, 0, 192]
abbrev dktX5_twoOf_1 : List UInt8 := dkwX5_twoOf_1 ++ dktX5_twoOf_2
def dkwX5_twoOf_0 : List UInt8 := [26]
abbrev dktX5_twoOf_0 : List UInt8 := dkwX5_twoOf_0 ++ dktX5_twoOf_1
theorem dksX5_twoOf_0 : cX5_twoOf.data.toList.drop 0 = dktX5_twoOf_0 := by decide +kernel
theorem dksX5_twoOf_1 : cX5_twoOf.data.toList.drop 1 = dktX5_twoOf_1 := dk_seg dksX5_twoOf_0 1 rfl rfl
theorem dksX5_twoOf_2 : cX5_twoOf.data.toList.drop 120 = dktX5_twoOf_2 := dk_seg dksX5_twoOf_1 119 rfl rfl
theorem dksX5_twoOf_3 : cX5_twoOf.data.toList.drop 142 = dktX5_twoOf_3 := dk_seg dksX5_twoOf_2 22 rfl rfl
theorem dksX5_twoOf_4 : cX5_twoOf.data.toList.drop 164 = dktX5_twoOf_4 := dk_seg dksX5_twoOf_3 22 rfl rfl
theorem dksX5_twoOf_5 : cX5_twoOf.data.toList.drop 188 = dktX5_twoOf_5 := dk_seg dksX5_twoOf_4 24 rfl rfl
theorem dksX5_twoOf_6 : cX5_twoOf.data.toList.drop 212 = dktX5_twoOf_6 := dk_seg dksX5_twoOf_5 24 rfl rfl
theorem dX5_twoOf_0 : decode cX5_twoOf 0 = .ok (.iload_n 0, 1) := dk_26 (dk_at dksX5_twoOf_0 0 rfl rfl)
theorem dX5_twoOf_1 : decode cX5_twoOf 1 = .ok (.tableswitch 217 37 62 #[153, 203, 217, 217, 217, 127, 119, 217, 123, 217, 131, 217, 217, 217, 217, 217, 217, 217, 217, 217, 217, 217, 217, 170, 181, 192], 119) := by decide +kernel
theorem dX5_twoOf_120 : decode cX5_twoOf 120 = .ok (.iload_n 1, 1) := dk_27 (dk_at dksX5_twoOf_2 0 rfl rfl)
theorem dX5_twoOf_121 : decode cX5_twoOf 121 = .ok (.iload_n 2, 1) := dk_28 (dk_at dksX5_twoOf_2 1 rfl rfl)
theorem dX5_twoOf_122 : decode cX5_twoOf 122 = .ok (.iadd, 1) := dk_96 (dk_at dksX5_twoOf_2 2 rfl rfl)
theorem dX5_twoOf_123 : decode cX5_twoOf 123 = .ok (.ireturn, 1) := dk_172 (dk_at dksX5_twoOf_2 3 rfl rfl)
theorem dX5_twoOf_124 : decode cX5_twoOf 124 = .ok (.iload_n 1, 1) := dk_27 (dk_at dksX5_twoOf_2 4 rfl rfl)
theorem dX5_twoOf_125 : decode cX5_twoOf 125 = .ok (.iload_n 2, 1) := dk_28 (dk_at dksX5_twoOf_2 5 rfl rfl)
theorem dX5_twoOf_126 : decode cX5_twoOf 126 = .ok (.isub, 1) := dk_100 (dk_at dksX5_twoOf_2 6 rfl rfl)
theorem dX5_twoOf_127 : decode cX5_twoOf 127 = .ok (.ireturn, 1) := dk_172 (dk_at dksX5_twoOf_2 7 rfl rfl)
theorem dX5_twoOf_128 : decode cX5_twoOf 128 = .ok (.iload_n 1, 1) := dk_27 (dk_at dksX5_twoOf_2 8 rfl rfl)
theorem dX5_twoOf_129 : decode cX5_twoOf 129 = .ok (.iload_n 2, 1) := dk_28 (dk_at dksX5_twoOf_2 9 rfl rfl)
theorem dX5_twoOf_130 : decode cX5_twoOf 130 = .ok (.imul, 1) := dk_104 (dk_at dksX5_twoOf_2 10 rfl rfl)
theorem dX5_twoOf_131 : decode cX5_twoOf 131 = .ok (.ireturn, 1) := dk_172 (dk_at dksX5_twoOf_2 11 rfl rfl)
theorem dX5_twoOf_132 : decode cX5_twoOf 132 = .ok (.iload_n 2, 1) := dk_28 (dk_at dksX5_twoOf_2 12 rfl rfl)
theorem dX5_twoOf_133 : decode cX5_twoOf 133 = .ok (.ifCond .ne 7, 3) := dk_154 0 7 (dk_at dksX5_twoOf_2 13 rfl rfl)
theorem dX5_twoOf_136 : decode cX5_twoOf 136 = .ok (.iconst 0, 1) := dk_3 (dk_at dksX5_twoOf_2 16 rfl rfl)
theorem dX5_twoOf_137 : decode cX5_twoOf 137 = .ok (.goto 16, 3) := dk_167 0 16 (dk_at dksX5_twoOf_2 17 rfl rfl)
theorem dX5_twoOf_140 : decode cX5_twoOf 140 = .ok (.iload_n 2, 1) := dk_28 (dk_at dksX5_twoOf_2 20 rfl rfl)
theorem dX5_twoOf_141 : decode cX5_twoOf 141 = .ok (.iconst (-1), 1) := dk_2 (dk_at dksX5_twoOf_2 21 rfl rfl)
theorem dX5_twoOf_142 : decode cX5_twoOf 142 = .ok (.if_icmp .ne 8, 3) := dk_160 0 8 (dk_at dksX5_twoOf_3 0 rfl rfl)
theorem dX5_twoOf_145 : decode cX5_twoOf 145 = .ok (.iload_n 1, 1) := dk_27 (dk_at dksX5_twoOf_3 3 rfl rfl)
theorem dX5_twoOf_146 : decode cX5_twoOf 146 = .ok (.ineg, 1) := dk_116 (dk_at dksX5_twoOf_3 4 rfl rfl)
theorem dX5_twoOf_147 : decode cX5_twoOf 147 = .ok (.goto 6, 3) := dk_167 0 6 (dk_at dksX5_twoOf_3 5 rfl rfl)
theorem dX5_twoOf_150 : decode cX5_twoOf 150 = .ok (.iload_n 1, 1) := dk_27 (dk_at dksX5_twoOf_3 8 rfl rfl)
theorem dX5_twoOf_151 : decode cX5_twoOf 151 = .ok (.iload_n 2, 1) := dk_28 (dk_at dksX5_twoOf_3 9 rfl rfl)
theorem dX5_twoOf_152 : decode cX5_twoOf 152 = .ok (.idiv, 1) := dk_108 (dk_at dksX5_twoOf_3 10 rfl rfl)
theorem dX5_twoOf_153 : decode cX5_twoOf 153 = .ok (.ireturn, 1) := dk_172 (dk_at dksX5_twoOf_3 11 rfl rfl)
theorem dX5_twoOf_154 : decode cX5_twoOf 154 = .ok (.iload_n 2, 1) := dk_28 (dk_at dksX5_twoOf_3 12 rfl rfl)
theorem dX5_twoOf_155 : decode cX5_twoOf 155 = .ok (.ifCond .eq 8, 3) := dk_153 0 8 (dk_at dksX5_twoOf_3 13 rfl rfl)
theorem dX5_twoOf_158 : decode cX5_twoOf 158 = .ok (.iload_n 2, 1) := dk_28 (dk_at dksX5_twoOf_3 16 rfl rfl)
theorem dX5_twoOf_159 : decode cX5_twoOf 159 = .ok (.iconst (-1), 1) := dk_2 (dk_at dksX5_twoOf_3 17 rfl rfl)
theorem dX5_twoOf_160 : decode cX5_twoOf 160 = .ok (.if_icmp .ne 7, 3) := dk_160 0 7 (dk_at dksX5_twoOf_3 18 rfl rfl)
theorem dX5_twoOf_163 : decode cX5_twoOf 163 = .ok (.iconst 0, 1) := dk_3 (dk_at dksX5_twoOf_3 21 rfl rfl)
theorem dX5_twoOf_164 : decode cX5_twoOf 164 = .ok (.goto 6, 3) := dk_167 0 6 (dk_at dksX5_twoOf_4 0 rfl rfl)
theorem dX5_twoOf_167 : decode cX5_twoOf 167 = .ok (.iload_n 1, 1) := dk_27 (dk_at dksX5_twoOf_4 3 rfl rfl)
theorem dX5_twoOf_168 : decode cX5_twoOf 168 = .ok (.iload_n 2, 1) := dk_28 (dk_at dksX5_twoOf_4 4 rfl rfl)
theorem dX5_twoOf_169 : decode cX5_twoOf 169 = .ok (.irem, 1) := dk_112 (dk_at dksX5_twoOf_4 5 rfl rfl)
theorem dX5_twoOf_170 : decode cX5_twoOf 170 = .ok (.ireturn, 1) := dk_172 (dk_at dksX5_twoOf_4 6 rfl rfl)
theorem dX5_twoOf_171 : decode cX5_twoOf 171 = .ok (.iload_n 1, 1) := dk_27 (dk_at dksX5_twoOf_4 7 rfl rfl)
theorem dX5_twoOf_172 : decode cX5_twoOf 172 = .ok (.iload_n 2, 1) := dk_28 (dk_at dksX5_twoOf_4 8 rfl rfl)
theorem dX5_twoOf_173 : decode cX5_twoOf 173 = .ok (.if_icmp .ge 7, 3) := dk_162 0 7 (dk_at dksX5_twoOf_4 9 rfl rfl)
theorem dX5_twoOf_176 : decode cX5_twoOf 176 = .ok (.iconst 1, 1) := dk_4 (dk_at dksX5_twoOf_4 12 rfl rfl)
theorem dX5_twoOf_177 : decode cX5_twoOf 177 = .ok (.goto 4, 3) := dk_167 0 4 (dk_at dksX5_twoOf_4 13 rfl rfl)
theorem dX5_twoOf_180 : decode cX5_twoOf 180 = .ok (.iconst 0, 1) := dk_3 (dk_at dksX5_twoOf_4 16 rfl rfl)
theorem dX5_twoOf_181 : decode cX5_twoOf 181 = .ok (.ireturn, 1) := dk_172 (dk_at dksX5_twoOf_4 17 rfl rfl)
theorem dX5_twoOf_182 : decode cX5_twoOf 182 = .ok (.iload_n 1, 1) := dk_27 (dk_at dksX5_twoOf_4 18 rfl rfl)
theorem dX5_twoOf_183 : decode cX5_twoOf 183 = .ok (.iload_n 2, 1) := dk_28 (dk_at dksX5_twoOf_4 19 rfl rfl)
theorem dX5_twoOf_184 : decode cX5_twoOf 184 = .ok (.if_icmp .ne 7, 3) := dk_160 0 7 (dk_at dksX5_twoOf_4 20 rfl rfl)
theorem dX5_twoOf_187 : decode cX5_twoOf 187 = .ok (.iconst 1, 1) := dk_4 (dk_at dksX5_twoOf_4 23 rfl rfl)
theorem dX5_twoOf_188 : decode cX5_twoOf 188 = .ok (.goto 4, 3) := dk_167 0 4 (dk_at dksX5_twoOf_5 0 rfl rfl)
theorem dX5_twoOf_191 : decode cX5_twoOf 191 = .ok (.iconst 0, 1) := dk_3 (dk_at dksX5_twoOf_5 3 rfl rfl)
theorem dX5_twoOf_192 : decode cX5_twoOf 192 = .ok (.ireturn, 1) := dk_172 (dk_at dksX5_twoOf_5 4 rfl rfl)
theorem dX5_twoOf_193 : decode cX5_twoOf 193 = .ok (.iload_n 1, 1) := dk_27 (dk_at dksX5_twoOf_5 5 rfl rfl)
theorem dX5_twoOf_194 : decode cX5_twoOf 194 = .ok (.iload_n 2, 1) := dk_28 (dk_at dksX5_twoOf_5 6 rfl rfl)
theorem dX5_twoOf_195 : decode cX5_twoOf 195 = .ok (.if_icmp .le 7, 3) := dk_164 0 7 (dk_at dksX5_twoOf_5 7 rfl rfl)
theorem dX5_twoOf_198 : decode cX5_twoOf 198 = .ok (.iconst 1, 1) := dk_4 (dk_at dksX5_twoOf_5 10 rfl rfl)
theorem dX5_twoOf_199 : decode cX5_twoOf 199 = .ok (.goto 4, 3) := dk_167 0 4 (dk_at dksX5_twoOf_5 11 rfl rfl)
theorem dX5_twoOf_202 : decode cX5_twoOf 202 = .ok (.iconst 0, 1) := dk_3 (dk_at dksX5_twoOf_5 14 rfl rfl)
theorem dX5_twoOf_203 : decode cX5_twoOf 203 = .ok (.ireturn, 1) := dk_172 (dk_at dksX5_twoOf_5 15 rfl rfl)
theorem dX5_twoOf_204 : decode cX5_twoOf 204 = .ok (.iload_n 1, 1) := dk_27 (dk_at dksX5_twoOf_5 16 rfl rfl)
theorem dX5_twoOf_205 : decode cX5_twoOf 205 = .ok (.ifCond .eq 11, 3) := dk_153 0 11 (dk_at dksX5_twoOf_5 17 rfl rfl)
theorem dX5_twoOf_208 : decode cX5_twoOf 208 = .ok (.iload_n 2, 1) := dk_28 (dk_at dksX5_twoOf_5 20 rfl rfl)
theorem dX5_twoOf_209 : decode cX5_twoOf 209 = .ok (.ifCond .eq 7, 3) := dk_153 0 7 (dk_at dksX5_twoOf_5 21 rfl rfl)
theorem dX5_twoOf_212 : decode cX5_twoOf 212 = .ok (.iconst 1, 1) := dk_4 (dk_at dksX5_twoOf_6 0 rfl rfl)
theorem dX5_twoOf_213 : decode cX5_twoOf 213 = .ok (.goto 4, 3) := dk_167 0 4 (dk_at dksX5_twoOf_6 1 rfl rfl)
theorem dX5_twoOf_216 : decode cX5_twoOf 216 = .ok (.iconst 0, 1) := dk_3 (dk_at dksX5_twoOf_6 4 rfl rfl)
theorem dX5_twoOf_217 : decode cX5_twoOf 217 = .ok (.ireturn, 1) := dk_172 (dk_at dksX5_twoOf_6 5 rfl rfl)
theorem dX5_twoOf_218 : decode cX5_twoOf 218 = .ok (.iload_n 1, 1) := dk_27 (dk_at dksX5_twoOf_6 6 rfl rfl)
theorem dX5_twoOf_219 : decode cX5_twoOf 219 = .ok (.ifCond .ne 7, 3) := dk_154 0 7 (dk_at dksX5_twoOf_6 7 rfl rfl)
theorem dX5_twoOf_222 : decode cX5_twoOf 222 = .ok (.iload_n 2, 1) := dk_28 (dk_at dksX5_twoOf_6 10 rfl rfl)
theorem dX5_twoOf_223 : decode cX5_twoOf 223 = .ok (.ifCond .eq 7, 3) := dk_153 0 7 (dk_at dksX5_twoOf_6 11 rfl rfl)
theorem dX5_twoOf_226 : decode cX5_twoOf 226 = .ok (.iconst 1, 1) := dk_4 (dk_at dksX5_twoOf_6 14 rfl rfl)
theorem dX5_twoOf_227 : decode cX5_twoOf 227 = .ok (.goto 4, 3) := dk_167 0 4 (dk_at dksX5_twoOf_6 15 rfl rfl)
theorem dX5_twoOf_230 : decode cX5_twoOf 230 = .ok (.iconst 0, 1) := dk_3 (dk_at dksX5_twoOf_6 18 rfl rfl)
theorem dX5_twoOf_231 : decode cX5_twoOf 231 = .ok (.ireturn, 1) := dk_172 (dk_at dksX5_twoOf_6 19 rfl rfl)
abbrev cX5_free : ByteArray := prog_25_method_60_code
def yX5_free : MethodName := ⟨RX5, "free", "(I)I"⟩
def dkwX5_free_1 : List UInt8 := [172]
abbrev dktX5_free_1 : List UInt8 := dkwX5_free_1 ++ []
def dkwX5_free_0 : List UInt8 := [27, 184, 0, 118, 154, 0, 5, 2, 172, 42, 182, 1, 17, 17, 15, 255, 42, 27, 182, 1, 26, 2, 130, 126]
abbrev dktX5_free_0 : List UInt8 := dkwX5_free_0 ++ dktX5_free_1
theorem dksX5_free_0 : cX5_free.data.toList.drop 0 = dktX5_free_0 := by decide +kernel
theorem dksX5_free_1 : cX5_free.data.toList.drop 24 = dktX5_free_1 := dk_seg dksX5_free_0 24 rfl rfl
theorem dX5_free_0 : decode cX5_free 0 = .ok (.iload_n 1, 1) := dk_27 (dk_at dksX5_free_0 0 rfl rfl)
theorem dX5_free_1 : decode cX5_free 1 = .ok (.invokestatic 118, 3) := dk_184 0 118 (dk_at dksX5_free_0 1 rfl rfl)
theorem dX5_free_4 : decode cX5_free 4 = .ok (.ifCond .ne 5, 3) := dk_154 0 5 (dk_at dksX5_free_0 4 rfl rfl)
theorem dX5_free_7 : decode cX5_free 7 = .ok (.iconst (-1), 1) := dk_2 (dk_at dksX5_free_0 7 rfl rfl)
theorem dX5_free_8 : decode cX5_free 8 = .ok (.ireturn, 1) := dk_172 (dk_at dksX5_free_0 8 rfl rfl)
theorem dX5_free_9 : decode cX5_free 9 = .ok (.aload_n 0, 1) := dk_42 (dk_at dksX5_free_0 9 rfl rfl)
theorem dX5_free_10 : decode cX5_free 10 = .ok (.invokevirtual 273, 3) := dk_182 1 17 (dk_at dksX5_free_0 10 rfl rfl)
theorem dX5_free_13 : decode cX5_free 13 = .ok (.sipush 4095, 3) := dk_17 15 255 (dk_at dksX5_free_0 13 rfl rfl)
theorem dX5_free_16 : decode cX5_free 16 = .ok (.aload_n 0, 1) := dk_42 (dk_at dksX5_free_0 16 rfl rfl)
theorem dX5_free_17 : decode cX5_free 17 = .ok (.iload_n 1, 1) := dk_27 (dk_at dksX5_free_0 17 rfl rfl)
theorem dX5_free_18 : decode cX5_free 18 = .ok (.invokevirtual 282, 3) := dk_182 1 26 (dk_at dksX5_free_0 18 rfl rfl)
theorem dX5_free_21 : decode cX5_free 21 = .ok (.iconst (-1), 1) := dk_2 (dk_at dksX5_free_0 21 rfl rfl)
theorem dX5_free_22 : decode cX5_free 22 = .ok (.ixor, 1) := dk_130 (dk_at dksX5_free_0 22 rfl rfl)
theorem dX5_free_23 : decode cX5_free 23 = .ok (.iand, 1) := dk_126 (dk_at dksX5_free_0 23 rfl rfl)
theorem dX5_free_24 : decode cX5_free 24 = .ok (.ireturn, 1) := dk_172 (dk_at dksX5_free_1 0 rfl rfl)
abbrev cX5_heldIn : ByteArray := prog_25_method_59_code
def yX5_heldIn : MethodName := ⟨RX5, "heldIn", "(I)I"⟩
def dkwX5_heldIn_1 : List UInt8 := [182, 1, 23, 153, 0, 9, 28, 4, 29, 120, 128, 61, 132, 3, 1, 167, 255, 228, 28, 172]
abbrev dktX5_heldIn_1 : List UInt8 := dkwX5_heldIn_1 ++ []
def dkwX5_heldIn_0 : List UInt8 := [42, 27, 3, 182, 0, 254, 3, 61, 3, 62, 29, 16, 12, 162, 0, 28, 42, 29, 27, 42, 182, 1, 20]
abbrev dktX5_heldIn_0 : List UInt8 := dkwX5_heldIn_0 ++ dktX5_heldIn_1
theorem dksX5_heldIn_0 : cX5_heldIn.data.toList.drop 0 = dktX5_heldIn_0 := by decide +kernel
theorem dksX5_heldIn_1 : cX5_heldIn.data.toList.drop 23 = dktX5_heldIn_1 := dk_seg dksX5_heldIn_0 23 rfl rfl
theorem dX5_heldIn_0 : decode cX5_heldIn 0 = .ok (.aload_n 0, 1) := dk_42 (dk_at dksX5_heldIn_0 0 rfl rfl)
theorem dX5_heldIn_1 : decode cX5_heldIn 1 = .ok (.iload_n 1, 1) := dk_27 (dk_at dksX5_heldIn_0 1 rfl rfl)
theorem dX5_heldIn_2 : decode cX5_heldIn 2 = .ok (.iconst 0, 1) := dk_3 (dk_at dksX5_heldIn_0 2 rfl rfl)
theorem dX5_heldIn_3 : decode cX5_heldIn 3 = .ok (.invokevirtual 254, 3) := dk_182 0 254 (dk_at dksX5_heldIn_0 3 rfl rfl)
theorem dX5_heldIn_6 : decode cX5_heldIn 6 = .ok (.iconst 0, 1) := dk_3 (dk_at dksX5_heldIn_0 6 rfl rfl)
theorem dX5_heldIn_7 : decode cX5_heldIn 7 = .ok (.istore_n 2, 1) := dk_61 (dk_at dksX5_heldIn_0 7 rfl rfl)
theorem dX5_heldIn_8 : decode cX5_heldIn 8 = .ok (.iconst 0, 1) := dk_3 (dk_at dksX5_heldIn_0 8 rfl rfl)
theorem dX5_heldIn_9 : decode cX5_heldIn 9 = .ok (.istore_n 3, 1) := dk_62 (dk_at dksX5_heldIn_0 9 rfl rfl)
theorem dX5_heldIn_10 : decode cX5_heldIn 10 = .ok (.iload_n 3, 1) := dk_29 (dk_at dksX5_heldIn_0 10 rfl rfl)
theorem dX5_heldIn_11 : decode cX5_heldIn 11 = .ok (.bipush 12, 2) := dk_16 12 (dk_at dksX5_heldIn_0 11 rfl rfl)
theorem dX5_heldIn_13 : decode cX5_heldIn 13 = .ok (.if_icmp .ge 28, 3) := dk_162 0 28 (dk_at dksX5_heldIn_0 13 rfl rfl)
theorem dX5_heldIn_16 : decode cX5_heldIn 16 = .ok (.aload_n 0, 1) := dk_42 (dk_at dksX5_heldIn_0 16 rfl rfl)
theorem dX5_heldIn_17 : decode cX5_heldIn 17 = .ok (.iload_n 3, 1) := dk_29 (dk_at dksX5_heldIn_0 17 rfl rfl)
theorem dX5_heldIn_18 : decode cX5_heldIn 18 = .ok (.iload_n 1, 1) := dk_27 (dk_at dksX5_heldIn_0 18 rfl rfl)
theorem dX5_heldIn_19 : decode cX5_heldIn 19 = .ok (.aload_n 0, 1) := dk_42 (dk_at dksX5_heldIn_0 19 rfl rfl)
theorem dX5_heldIn_20 : decode cX5_heldIn 20 = .ok (.invokevirtual 276, 3) := dk_182 1 20 (dk_at dksX5_heldIn_0 20 rfl rfl)
theorem dX5_heldIn_23 : decode cX5_heldIn 23 = .ok (.invokevirtual 279, 3) := dk_182 1 23 (dk_at dksX5_heldIn_1 0 rfl rfl)
theorem dX5_heldIn_26 : decode cX5_heldIn 26 = .ok (.ifCond .eq 9, 3) := dk_153 0 9 (dk_at dksX5_heldIn_1 3 rfl rfl)
theorem dX5_heldIn_29 : decode cX5_heldIn 29 = .ok (.iload_n 2, 1) := dk_28 (dk_at dksX5_heldIn_1 6 rfl rfl)
theorem dX5_heldIn_30 : decode cX5_heldIn 30 = .ok (.iconst 1, 1) := dk_4 (dk_at dksX5_heldIn_1 7 rfl rfl)
theorem dX5_heldIn_31 : decode cX5_heldIn 31 = .ok (.iload_n 3, 1) := dk_29 (dk_at dksX5_heldIn_1 8 rfl rfl)
theorem dX5_heldIn_32 : decode cX5_heldIn 32 = .ok (.ishl, 1) := dk_120 (dk_at dksX5_heldIn_1 9 rfl rfl)
theorem dX5_heldIn_33 : decode cX5_heldIn 33 = .ok (.ior, 1) := dk_128 (dk_at dksX5_heldIn_1 10 rfl rfl)
theorem dX5_heldIn_34 : decode cX5_heldIn 34 = .ok (.istore_n 2, 1) := dk_61 (dk_at dksX5_heldIn_1 11 rfl rfl)
theorem dX5_heldIn_35 : decode cX5_heldIn 35 = .ok (.iinc 3 1, 3) := dk_132 3 1 (dk_at dksX5_heldIn_1 12 rfl rfl)
theorem dX5_heldIn_38 : decode cX5_heldIn 38 = .ok (.goto (-28), 3) := dk_167 255 228 (dk_at dksX5_heldIn_1 15 rfl rfl)
theorem dX5_heldIn_41 : decode cX5_heldIn 41 = .ok (.iload_n 2, 1) := dk_28 (dk_at dksX5_heldIn_1 18 rfl rfl)
theorem dX5_heldIn_42 : decode cX5_heldIn 42 = .ok (.ireturn, 1) := dk_172 (dk_at dksX5_heldIn_1 19 rfl rfl)
abbrev cX5_most : ByteArray := prog_25_method_61_code
def yX5_most : MethodName := ⟨RX5, "most", "(I)I"⟩
def dkwX5_most_3 : List UInt8 := [172]
abbrev dktX5_most_3 : List UInt8 := dkwX5_most_3 ++ []
def dkwX5_most_2 : List UInt8 := [167, 0, 9, 21, 5, 62, 21, 4, 61, 132, 4, 1, 167, 255, 220, 27, 154, 0, 7, 29, 167, 0, 4, 28]
abbrev dktX5_most_2 : List UInt8 := dkwX5_most_2 ++ dktX5_most_3
def dkwX5_most_1 : List UInt8 := [16, 99, 163, 0, 35, 42, 21, 4, 182, 1, 26, 184, 1, 29, 54, 5, 21, 5, 29, 163, 0, 6]
abbrev dktX5_most_1 : List UInt8 := dkwX5_most_1 ++ dktX5_most_2
def dkwX5_most_0 : List UInt8 := [27, 3, 4, 184, 0, 114, 154, 0, 5, 2, 172, 42, 182, 1, 17, 3, 61, 2, 62, 3, 54, 4, 21, 4]
abbrev dktX5_most_0 : List UInt8 := dkwX5_most_0 ++ dktX5_most_1
theorem dksX5_most_0 : cX5_most.data.toList.drop 0 = dktX5_most_0 := by decide +kernel
theorem dksX5_most_1 : cX5_most.data.toList.drop 24 = dktX5_most_1 := dk_seg dksX5_most_0 24 rfl rfl
theorem dksX5_most_2 : cX5_most.data.toList.drop 46 = dktX5_most_2 := dk_seg dksX5_most_1 22 rfl rfl
theorem dksX5_most_3 : cX5_most.data.toList.drop 70 = dktX5_most_3 := dk_seg dksX5_most_2 24 rfl rfl
theorem dX5_most_0 : decode cX5_most 0 = .ok (.iload_n 1, 1) := dk_27 (dk_at dksX5_most_0 0 rfl rfl)
theorem dX5_most_1 : decode cX5_most 1 = .ok (.iconst 0, 1) := dk_3 (dk_at dksX5_most_0 1 rfl rfl)
theorem dX5_most_2 : decode cX5_most 2 = .ok (.iconst 1, 1) := dk_4 (dk_at dksX5_most_0 2 rfl rfl)
theorem dX5_most_3 : decode cX5_most 3 = .ok (.invokestatic 114, 3) := dk_184 0 114 (dk_at dksX5_most_0 3 rfl rfl)
theorem dX5_most_6 : decode cX5_most 6 = .ok (.ifCond .ne 5, 3) := dk_154 0 5 (dk_at dksX5_most_0 6 rfl rfl)
theorem dX5_most_9 : decode cX5_most 9 = .ok (.iconst (-1), 1) := dk_2 (dk_at dksX5_most_0 9 rfl rfl)
theorem dX5_most_10 : decode cX5_most 10 = .ok (.ireturn, 1) := dk_172 (dk_at dksX5_most_0 10 rfl rfl)
theorem dX5_most_11 : decode cX5_most 11 = .ok (.aload_n 0, 1) := dk_42 (dk_at dksX5_most_0 11 rfl rfl)
theorem dX5_most_12 : decode cX5_most 12 = .ok (.invokevirtual 273, 3) := dk_182 1 17 (dk_at dksX5_most_0 12 rfl rfl)
theorem dX5_most_15 : decode cX5_most 15 = .ok (.iconst 0, 1) := dk_3 (dk_at dksX5_most_0 15 rfl rfl)
theorem dX5_most_16 : decode cX5_most 16 = .ok (.istore_n 2, 1) := dk_61 (dk_at dksX5_most_0 16 rfl rfl)
theorem dX5_most_17 : decode cX5_most 17 = .ok (.iconst (-1), 1) := dk_2 (dk_at dksX5_most_0 17 rfl rfl)
theorem dX5_most_18 : decode cX5_most 18 = .ok (.istore_n 3, 1) := dk_62 (dk_at dksX5_most_0 18 rfl rfl)
theorem dX5_most_19 : decode cX5_most 19 = .ok (.iconst 0, 1) := dk_3 (dk_at dksX5_most_0 19 rfl rfl)
theorem dX5_most_20 : decode cX5_most 20 = .ok (.istore 4, 2) := dk_54 4 (dk_at dksX5_most_0 20 rfl rfl)
theorem dX5_most_22 : decode cX5_most 22 = .ok (.iload 4, 2) := dk_21 4 (dk_at dksX5_most_0 22 rfl rfl)
theorem dX5_most_24 : decode cX5_most 24 = .ok (.bipush 99, 2) := dk_16 99 (dk_at dksX5_most_1 0 rfl rfl)
theorem dX5_most_26 : decode cX5_most 26 = .ok (.if_icmp .gt 35, 3) := dk_163 0 35 (dk_at dksX5_most_1 2 rfl rfl)
theorem dX5_most_29 : decode cX5_most 29 = .ok (.aload_n 0, 1) := dk_42 (dk_at dksX5_most_1 5 rfl rfl)
theorem dX5_most_30 : decode cX5_most 30 = .ok (.iload 4, 2) := dk_21 4 (dk_at dksX5_most_1 6 rfl rfl)
theorem dX5_most_32 : decode cX5_most 32 = .ok (.invokevirtual 282, 3) := dk_182 1 26 (dk_at dksX5_most_1 8 rfl rfl)
theorem dX5_most_35 : decode cX5_most 35 = .ok (.invokestatic 285, 3) := dk_184 1 29 (dk_at dksX5_most_1 11 rfl rfl)
theorem dX5_most_38 : decode cX5_most 38 = .ok (.istore 5, 2) := dk_54 5 (dk_at dksX5_most_1 14 rfl rfl)
theorem dX5_most_40 : decode cX5_most 40 = .ok (.iload 5, 2) := dk_21 5 (dk_at dksX5_most_1 16 rfl rfl)
theorem dX5_most_42 : decode cX5_most 42 = .ok (.iload_n 3, 1) := dk_29 (dk_at dksX5_most_1 18 rfl rfl)
theorem dX5_most_43 : decode cX5_most 43 = .ok (.if_icmp .gt 6, 3) := dk_163 0 6 (dk_at dksX5_most_1 19 rfl rfl)
theorem dX5_most_46 : decode cX5_most 46 = .ok (.goto 9, 3) := dk_167 0 9 (dk_at dksX5_most_2 0 rfl rfl)
theorem dX5_most_49 : decode cX5_most 49 = .ok (.iload 5, 2) := dk_21 5 (dk_at dksX5_most_2 3 rfl rfl)
theorem dX5_most_51 : decode cX5_most 51 = .ok (.istore_n 3, 1) := dk_62 (dk_at dksX5_most_2 5 rfl rfl)
theorem dX5_most_52 : decode cX5_most 52 = .ok (.iload 4, 2) := dk_21 4 (dk_at dksX5_most_2 6 rfl rfl)
theorem dX5_most_54 : decode cX5_most 54 = .ok (.istore_n 2, 1) := dk_61 (dk_at dksX5_most_2 8 rfl rfl)
theorem dX5_most_55 : decode cX5_most 55 = .ok (.iinc 4 1, 3) := dk_132 4 1 (dk_at dksX5_most_2 9 rfl rfl)
theorem dX5_most_58 : decode cX5_most 58 = .ok (.goto (-36), 3) := dk_167 255 220 (dk_at dksX5_most_2 12 rfl rfl)
theorem dX5_most_61 : decode cX5_most 61 = .ok (.iload_n 1, 1) := dk_27 (dk_at dksX5_most_2 15 rfl rfl)
theorem dX5_most_62 : decode cX5_most 62 = .ok (.ifCond .ne 7, 3) := dk_154 0 7 (dk_at dksX5_most_2 16 rfl rfl)
theorem dX5_most_65 : decode cX5_most 65 = .ok (.iload_n 3, 1) := dk_29 (dk_at dksX5_most_2 19 rfl rfl)
theorem dX5_most_66 : decode cX5_most 66 = .ok (.goto 4, 3) := dk_167 0 4 (dk_at dksX5_most_2 20 rfl rfl)
theorem dX5_most_69 : decode cX5_most 69 = .ok (.iload_n 2, 1) := dk_28 (dk_at dksX5_most_2 23 rfl rfl)
theorem dX5_most_70 : decode cX5_most 70 = .ok (.ireturn, 1) := dk_172 (dk_at dksX5_most_3 0 rfl rfl)
abbrev cX5_bitsOf : ByteArray := prog_25_method_4_code
def yX5_bitsOf : MethodName := ⟨RX5, "bitsOf", "(I)I"⟩
def dkwX5_bitsOf_0 : List UInt8 := [3, 60, 26, 61, 28, 153, 0, 15, 132, 1, 1, 28, 28, 4, 100, 126, 61, 167, 255, 243, 27, 172]
abbrev dktX5_bitsOf_0 : List UInt8 := dkwX5_bitsOf_0 ++ []
theorem dksX5_bitsOf_0 : cX5_bitsOf.data.toList.drop 0 = dktX5_bitsOf_0 := by decide +kernel
theorem dX5_bitsOf_0 : decode cX5_bitsOf 0 = .ok (.iconst 0, 1) := dk_3 (dk_at dksX5_bitsOf_0 0 rfl rfl)
theorem dX5_bitsOf_1 : decode cX5_bitsOf 1 = .ok (.istore_n 1, 1) := dk_60 (dk_at dksX5_bitsOf_0 1 rfl rfl)
theorem dX5_bitsOf_2 : decode cX5_bitsOf 2 = .ok (.iload_n 0, 1) := dk_26 (dk_at dksX5_bitsOf_0 2 rfl rfl)
theorem dX5_bitsOf_3 : decode cX5_bitsOf 3 = .ok (.istore_n 2, 1) := dk_61 (dk_at dksX5_bitsOf_0 3 rfl rfl)
theorem dX5_bitsOf_4 : decode cX5_bitsOf 4 = .ok (.iload_n 2, 1) := dk_28 (dk_at dksX5_bitsOf_0 4 rfl rfl)
theorem dX5_bitsOf_5 : decode cX5_bitsOf 5 = .ok (.ifCond .eq 15, 3) := dk_153 0 15 (dk_at dksX5_bitsOf_0 5 rfl rfl)
theorem dX5_bitsOf_8 : decode cX5_bitsOf 8 = .ok (.iinc 1 1, 3) := dk_132 1 1 (dk_at dksX5_bitsOf_0 8 rfl rfl)
theorem dX5_bitsOf_11 : decode cX5_bitsOf 11 = .ok (.iload_n 2, 1) := dk_28 (dk_at dksX5_bitsOf_0 11 rfl rfl)
theorem dX5_bitsOf_12 : decode cX5_bitsOf 12 = .ok (.iload_n 2, 1) := dk_28 (dk_at dksX5_bitsOf_0 12 rfl rfl)
theorem dX5_bitsOf_13 : decode cX5_bitsOf 13 = .ok (.iconst 1, 1) := dk_4 (dk_at dksX5_bitsOf_0 13 rfl rfl)
theorem dX5_bitsOf_14 : decode cX5_bitsOf 14 = .ok (.isub, 1) := dk_100 (dk_at dksX5_bitsOf_0 14 rfl rfl)
theorem dX5_bitsOf_15 : decode cX5_bitsOf 15 = .ok (.iand, 1) := dk_126 (dk_at dksX5_bitsOf_0 15 rfl rfl)
theorem dX5_bitsOf_16 : decode cX5_bitsOf 16 = .ok (.istore_n 2, 1) := dk_61 (dk_at dksX5_bitsOf_0 16 rfl rfl)
theorem dX5_bitsOf_17 : decode cX5_bitsOf 17 = .ok (.goto (-13), 3) := dk_167 255 243 (dk_at dksX5_bitsOf_0 17 rfl rfl)
theorem dX5_bitsOf_20 : decode cX5_bitsOf 20 = .ok (.iload_n 1, 1) := dk_27 (dk_at dksX5_bitsOf_0 20 rfl rfl)
theorem dX5_bitsOf_21 : decode cX5_bitsOf 21 = .ok (.ireturn, 1) := dk_172 (dk_at dksX5_bitsOf_0 21 rfl rfl)
abbrev cX5_judge : ByteArray := prog_25_method_63_code
def yX5_judge : MethodName := ⟨RX5, "judge", "()I"⟩
def dkwX5_judge_3 : List UInt8 := [167, 255, 190, 16, 254, 172]
abbrev dktX5_judge_3 : List UInt8 := dkwX5_judge_3 ++ []
def dkwX5_judge_2 : List UInt8 := [28, 46, 42, 180, 0, 7, 28, 46, 42, 28, 182, 1, 35, 182, 1, 23, 153, 0, 5, 28, 172, 132, 1, 1]
abbrev dktX5_judge_2 : List UInt8 := dkwX5_judge_2 ++ dktX5_judge_3
def dkwX5_judge_1 : List UInt8 := [28, 46, 156, 0, 6, 167, 0, 40, 42, 42, 180, 0, 7, 28, 46, 3, 182, 0, 254, 42, 42, 180, 0, 16]
abbrev dktX5_judge_1 : List UInt8 := dkwX5_judge_1 ++ dktX5_judge_2
def dkwX5_judge_0 : List UInt8 := [42, 182, 1, 17, 3, 60, 27, 42, 180, 0, 111, 162, 0, 64, 42, 27, 182, 1, 32, 61, 42, 180, 0, 16]
abbrev dktX5_judge_0 : List UInt8 := dkwX5_judge_0 ++ dktX5_judge_1
theorem dksX5_judge_0 : cX5_judge.data.toList.drop 0 = dktX5_judge_0 := by decide +kernel
theorem dksX5_judge_1 : cX5_judge.data.toList.drop 24 = dktX5_judge_1 := dk_seg dksX5_judge_0 24 rfl rfl
theorem dksX5_judge_2 : cX5_judge.data.toList.drop 48 = dktX5_judge_2 := dk_seg dksX5_judge_1 24 rfl rfl
theorem dksX5_judge_3 : cX5_judge.data.toList.drop 72 = dktX5_judge_3 := dk_seg dksX5_judge_2 24 rfl rfl
theorem dX5_judge_0 : decode cX5_judge 0 = .ok (.aload_n 0, 1) := dk_42 (dk_at dksX5_judge_0 0 rfl rfl)
theorem dX5_judge_1 : decode cX5_judge 1 = .ok (.invokevirtual 273, 3) := dk_182 1 17 (dk_at dksX5_judge_0 1 rfl rfl)
theorem dX5_judge_4 : decode cX5_judge 4 = .ok (.iconst 0, 1) := dk_3 (dk_at dksX5_judge_0 4 rfl rfl)
theorem dX5_judge_5 : decode cX5_judge 5 = .ok (.istore_n 1, 1) := dk_60 (dk_at dksX5_judge_0 5 rfl rfl)
theorem dX5_judge_6 : decode cX5_judge 6 = .ok (.iload_n 1, 1) := dk_27 (dk_at dksX5_judge_0 6 rfl rfl)
theorem dX5_judge_7 : decode cX5_judge 7 = .ok (.aload_n 0, 1) := dk_42 (dk_at dksX5_judge_0 7 rfl rfl)
theorem dX5_judge_8 : decode cX5_judge 8 = .ok (.getfield 111, 3) := dk_180 0 111 (dk_at dksX5_judge_0 8 rfl rfl)
theorem dX5_judge_11 : decode cX5_judge 11 = .ok (.if_icmp .ge 64, 3) := dk_162 0 64 (dk_at dksX5_judge_0 11 rfl rfl)
theorem dX5_judge_14 : decode cX5_judge 14 = .ok (.aload_n 0, 1) := dk_42 (dk_at dksX5_judge_0 14 rfl rfl)
theorem dX5_judge_15 : decode cX5_judge 15 = .ok (.iload_n 1, 1) := dk_27 (dk_at dksX5_judge_0 15 rfl rfl)
theorem dX5_judge_16 : decode cX5_judge 16 = .ok (.invokevirtual 288, 3) := dk_182 1 32 (dk_at dksX5_judge_0 16 rfl rfl)
theorem dX5_judge_19 : decode cX5_judge 19 = .ok (.istore_n 2, 1) := dk_61 (dk_at dksX5_judge_0 19 rfl rfl)
theorem dX5_judge_20 : decode cX5_judge 20 = .ok (.aload_n 0, 1) := dk_42 (dk_at dksX5_judge_0 20 rfl rfl)
theorem dX5_judge_21 : decode cX5_judge 21 = .ok (.getfield 16, 3) := dk_180 0 16 (dk_at dksX5_judge_0 21 rfl rfl)
theorem dX5_judge_24 : decode cX5_judge 24 = .ok (.iload_n 2, 1) := dk_28 (dk_at dksX5_judge_1 0 rfl rfl)
theorem dX5_judge_25 : decode cX5_judge 25 = .ok (.iaload, 1) := dk_46 (dk_at dksX5_judge_1 1 rfl rfl)
theorem dX5_judge_26 : decode cX5_judge 26 = .ok (.ifCond .ge 6, 3) := dk_156 0 6 (dk_at dksX5_judge_1 2 rfl rfl)
theorem dX5_judge_29 : decode cX5_judge 29 = .ok (.goto 40, 3) := dk_167 0 40 (dk_at dksX5_judge_1 5 rfl rfl)
theorem dX5_judge_32 : decode cX5_judge 32 = .ok (.aload_n 0, 1) := dk_42 (dk_at dksX5_judge_1 8 rfl rfl)
theorem dX5_judge_33 : decode cX5_judge 33 = .ok (.aload_n 0, 1) := dk_42 (dk_at dksX5_judge_1 9 rfl rfl)
theorem dX5_judge_34 : decode cX5_judge 34 = .ok (.getfield 7, 3) := dk_180 0 7 (dk_at dksX5_judge_1 10 rfl rfl)
theorem dX5_judge_37 : decode cX5_judge 37 = .ok (.iload_n 2, 1) := dk_28 (dk_at dksX5_judge_1 13 rfl rfl)
theorem dX5_judge_38 : decode cX5_judge 38 = .ok (.iaload, 1) := dk_46 (dk_at dksX5_judge_1 14 rfl rfl)
theorem dX5_judge_39 : decode cX5_judge 39 = .ok (.iconst 0, 1) := dk_3 (dk_at dksX5_judge_1 15 rfl rfl)
theorem dX5_judge_40 : decode cX5_judge 40 = .ok (.invokevirtual 254, 3) := dk_182 0 254 (dk_at dksX5_judge_1 16 rfl rfl)
theorem dX5_judge_43 : decode cX5_judge 43 = .ok (.aload_n 0, 1) := dk_42 (dk_at dksX5_judge_1 19 rfl rfl)
theorem dX5_judge_44 : decode cX5_judge 44 = .ok (.aload_n 0, 1) := dk_42 (dk_at dksX5_judge_1 20 rfl rfl)
theorem dX5_judge_45 : decode cX5_judge 45 = .ok (.getfield 16, 3) := dk_180 0 16 (dk_at dksX5_judge_1 21 rfl rfl)
theorem dX5_judge_48 : decode cX5_judge 48 = .ok (.iload_n 2, 1) := dk_28 (dk_at dksX5_judge_2 0 rfl rfl)
theorem dX5_judge_49 : decode cX5_judge 49 = .ok (.iaload, 1) := dk_46 (dk_at dksX5_judge_2 1 rfl rfl)
theorem dX5_judge_50 : decode cX5_judge 50 = .ok (.aload_n 0, 1) := dk_42 (dk_at dksX5_judge_2 2 rfl rfl)
theorem dX5_judge_51 : decode cX5_judge 51 = .ok (.getfield 7, 3) := dk_180 0 7 (dk_at dksX5_judge_2 3 rfl rfl)
theorem dX5_judge_54 : decode cX5_judge 54 = .ok (.iload_n 2, 1) := dk_28 (dk_at dksX5_judge_2 6 rfl rfl)
theorem dX5_judge_55 : decode cX5_judge 55 = .ok (.iaload, 1) := dk_46 (dk_at dksX5_judge_2 7 rfl rfl)
theorem dX5_judge_56 : decode cX5_judge 56 = .ok (.aload_n 0, 1) := dk_42 (dk_at dksX5_judge_2 8 rfl rfl)
theorem dX5_judge_57 : decode cX5_judge 57 = .ok (.iload_n 2, 1) := dk_28 (dk_at dksX5_judge_2 9 rfl rfl)
theorem dX5_judge_58 : decode cX5_judge 58 = .ok (.invokevirtual 291, 3) := dk_182 1 35 (dk_at dksX5_judge_2 10 rfl rfl)
theorem dX5_judge_61 : decode cX5_judge 61 = .ok (.invokevirtual 279, 3) := dk_182 1 23 (dk_at dksX5_judge_2 13 rfl rfl)
theorem dX5_judge_64 : decode cX5_judge 64 = .ok (.ifCond .eq 5, 3) := dk_153 0 5 (dk_at dksX5_judge_2 16 rfl rfl)
theorem dX5_judge_67 : decode cX5_judge 67 = .ok (.iload_n 2, 1) := dk_28 (dk_at dksX5_judge_2 19 rfl rfl)
theorem dX5_judge_68 : decode cX5_judge 68 = .ok (.ireturn, 1) := dk_172 (dk_at dksX5_judge_2 20 rfl rfl)
theorem dX5_judge_69 : decode cX5_judge 69 = .ok (.iinc 1 1, 3) := dk_132 1 1 (dk_at dksX5_judge_2 21 rfl rfl)
theorem dX5_judge_72 : decode cX5_judge 72 = .ok (.goto (-66), 3) := dk_167 255 190 (dk_at dksX5_judge_3 0 rfl rfl)
theorem dX5_judge_75 : decode cX5_judge 75 = .ok (.bipush (-2), 2) := dk_16 254 (dk_at dksX5_judge_3 3 rfl rfl)
theorem dX5_judge_77 : decode cX5_judge 77 = .ok (.ireturn, 1) := dk_172 (dk_at dksX5_judge_3 5 rfl rfl)
abbrev cX5_personAt : ByteArray := prog_25_method_25_code
def yX5_personAt : MethodName := ⟨RX5, "personAt", "(I)I"⟩
def dkwX5_personAt_1 : List UInt8 := [167, 255, 234, 2, 172]
abbrev dktX5_personAt_1 : List UInt8 := dkwX5_personAt_1 ++ []
def dkwX5_personAt_0 : List UInt8 := [3, 61, 28, 42, 180, 0, 111, 162, 0, 20, 42, 28, 182, 0, 171, 27, 160, 0, 5, 28, 172, 132, 2, 1]
abbrev dktX5_personAt_0 : List UInt8 := dkwX5_personAt_0 ++ dktX5_personAt_1
theorem dksX5_personAt_0 : cX5_personAt.data.toList.drop 0 = dktX5_personAt_0 := by decide +kernel
theorem dksX5_personAt_1 : cX5_personAt.data.toList.drop 24 = dktX5_personAt_1 := dk_seg dksX5_personAt_0 24 rfl rfl
theorem dX5_personAt_0 : decode cX5_personAt 0 = .ok (.iconst 0, 1) := dk_3 (dk_at dksX5_personAt_0 0 rfl rfl)
theorem dX5_personAt_1 : decode cX5_personAt 1 = .ok (.istore_n 2, 1) := dk_61 (dk_at dksX5_personAt_0 1 rfl rfl)
theorem dX5_personAt_2 : decode cX5_personAt 2 = .ok (.iload_n 2, 1) := dk_28 (dk_at dksX5_personAt_0 2 rfl rfl)
theorem dX5_personAt_3 : decode cX5_personAt 3 = .ok (.aload_n 0, 1) := dk_42 (dk_at dksX5_personAt_0 3 rfl rfl)
theorem dX5_personAt_4 : decode cX5_personAt 4 = .ok (.getfield 111, 3) := dk_180 0 111 (dk_at dksX5_personAt_0 4 rfl rfl)
theorem dX5_personAt_7 : decode cX5_personAt 7 = .ok (.if_icmp .ge 20, 3) := dk_162 0 20 (dk_at dksX5_personAt_0 7 rfl rfl)
theorem dX5_personAt_10 : decode cX5_personAt 10 = .ok (.aload_n 0, 1) := dk_42 (dk_at dksX5_personAt_0 10 rfl rfl)
theorem dX5_personAt_11 : decode cX5_personAt 11 = .ok (.iload_n 2, 1) := dk_28 (dk_at dksX5_personAt_0 11 rfl rfl)
theorem dX5_personAt_12 : decode cX5_personAt 12 = .ok (.invokevirtual 171, 3) := dk_182 0 171 (dk_at dksX5_personAt_0 12 rfl rfl)
theorem dX5_personAt_15 : decode cX5_personAt 15 = .ok (.iload_n 1, 1) := dk_27 (dk_at dksX5_personAt_0 15 rfl rfl)
theorem dX5_personAt_16 : decode cX5_personAt 16 = .ok (.if_icmp .ne 5, 3) := dk_160 0 5 (dk_at dksX5_personAt_0 16 rfl rfl)
theorem dX5_personAt_19 : decode cX5_personAt 19 = .ok (.iload_n 2, 1) := dk_28 (dk_at dksX5_personAt_0 19 rfl rfl)
theorem dX5_personAt_20 : decode cX5_personAt 20 = .ok (.ireturn, 1) := dk_172 (dk_at dksX5_personAt_0 20 rfl rfl)
theorem dX5_personAt_21 : decode cX5_personAt 21 = .ok (.iinc 2 1, 3) := dk_132 2 1 (dk_at dksX5_personAt_0 21 rfl rfl)
theorem dX5_personAt_24 : decode cX5_personAt 24 = .ok (.goto (-22), 3) := dk_167 255 234 (dk_at dksX5_personAt_1 0 rfl rfl)
theorem dX5_personAt_27 : decode cX5_personAt 27 = .ok (.iconst (-1), 1) := dk_2 (dk_at dksX5_personAt_1 3 rfl rfl)
theorem dX5_personAt_28 : decode cX5_personAt 28 = .ok (.ireturn, 1) := dk_172 (dk_at dksX5_personAt_1 4 rfl rfl)
abbrev cX5_aheadOf : ByteArray := prog_25_method_62_code
def yX5_aheadOf : MethodName := ⟨RX5, "aheadOf", "(I)I"⟩
def dkwX5_aheadOf_1 : List UInt8 := [120, 128, 61, 132, 3, 1, 167, 255, 230, 28, 172]
abbrev dktX5_aheadOf_1 : List UInt8 := dkwX5_aheadOf_1 ++ []
def dkwX5_aheadOf_0 : List UInt8 := [3, 61, 3, 62, 29, 42, 180, 0, 111, 162, 0, 24, 42, 29, 27, 182, 0, 168, 153, 0, 9, 28, 4, 29]
abbrev dktX5_aheadOf_0 : List UInt8 := dkwX5_aheadOf_0 ++ dktX5_aheadOf_1
theorem dksX5_aheadOf_0 : cX5_aheadOf.data.toList.drop 0 = dktX5_aheadOf_0 := by decide +kernel
theorem dksX5_aheadOf_1 : cX5_aheadOf.data.toList.drop 24 = dktX5_aheadOf_1 := dk_seg dksX5_aheadOf_0 24 rfl rfl
theorem dX5_aheadOf_0 : decode cX5_aheadOf 0 = .ok (.iconst 0, 1) := dk_3 (dk_at dksX5_aheadOf_0 0 rfl rfl)
theorem dX5_aheadOf_1 : decode cX5_aheadOf 1 = .ok (.istore_n 2, 1) := dk_61 (dk_at dksX5_aheadOf_0 1 rfl rfl)
theorem dX5_aheadOf_2 : decode cX5_aheadOf 2 = .ok (.iconst 0, 1) := dk_3 (dk_at dksX5_aheadOf_0 2 rfl rfl)
theorem dX5_aheadOf_3 : decode cX5_aheadOf 3 = .ok (.istore_n 3, 1) := dk_62 (dk_at dksX5_aheadOf_0 3 rfl rfl)
theorem dX5_aheadOf_4 : decode cX5_aheadOf 4 = .ok (.iload_n 3, 1) := dk_29 (dk_at dksX5_aheadOf_0 4 rfl rfl)
theorem dX5_aheadOf_5 : decode cX5_aheadOf 5 = .ok (.aload_n 0, 1) := dk_42 (dk_at dksX5_aheadOf_0 5 rfl rfl)
theorem dX5_aheadOf_6 : decode cX5_aheadOf 6 = .ok (.getfield 111, 3) := dk_180 0 111 (dk_at dksX5_aheadOf_0 6 rfl rfl)
theorem dX5_aheadOf_9 : decode cX5_aheadOf 9 = .ok (.if_icmp .ge 24, 3) := dk_162 0 24 (dk_at dksX5_aheadOf_0 9 rfl rfl)
theorem dX5_aheadOf_12 : decode cX5_aheadOf 12 = .ok (.aload_n 0, 1) := dk_42 (dk_at dksX5_aheadOf_0 12 rfl rfl)
theorem dX5_aheadOf_13 : decode cX5_aheadOf 13 = .ok (.iload_n 3, 1) := dk_29 (dk_at dksX5_aheadOf_0 13 rfl rfl)
theorem dX5_aheadOf_14 : decode cX5_aheadOf 14 = .ok (.iload_n 1, 1) := dk_27 (dk_at dksX5_aheadOf_0 14 rfl rfl)
theorem dX5_aheadOf_15 : decode cX5_aheadOf 15 = .ok (.invokevirtual 168, 3) := dk_182 0 168 (dk_at dksX5_aheadOf_0 15 rfl rfl)
theorem dX5_aheadOf_18 : decode cX5_aheadOf 18 = .ok (.ifCond .eq 9, 3) := dk_153 0 9 (dk_at dksX5_aheadOf_0 18 rfl rfl)
theorem dX5_aheadOf_21 : decode cX5_aheadOf 21 = .ok (.iload_n 2, 1) := dk_28 (dk_at dksX5_aheadOf_0 21 rfl rfl)
theorem dX5_aheadOf_22 : decode cX5_aheadOf 22 = .ok (.iconst 1, 1) := dk_4 (dk_at dksX5_aheadOf_0 22 rfl rfl)
theorem dX5_aheadOf_23 : decode cX5_aheadOf 23 = .ok (.iload_n 3, 1) := dk_29 (dk_at dksX5_aheadOf_0 23 rfl rfl)
theorem dX5_aheadOf_24 : decode cX5_aheadOf 24 = .ok (.ishl, 1) := dk_120 (dk_at dksX5_aheadOf_1 0 rfl rfl)
theorem dX5_aheadOf_25 : decode cX5_aheadOf 25 = .ok (.ior, 1) := dk_128 (dk_at dksX5_aheadOf_1 1 rfl rfl)
theorem dX5_aheadOf_26 : decode cX5_aheadOf 26 = .ok (.istore_n 2, 1) := dk_61 (dk_at dksX5_aheadOf_1 2 rfl rfl)
theorem dX5_aheadOf_27 : decode cX5_aheadOf 27 = .ok (.iinc 3 1, 3) := dk_132 3 1 (dk_at dksX5_aheadOf_1 3 rfl rfl)
theorem dX5_aheadOf_30 : decode cX5_aheadOf 30 = .ok (.goto (-26), 3) := dk_167 255 230 (dk_at dksX5_aheadOf_1 6 rfl rfl)
theorem dX5_aheadOf_33 : decode cX5_aheadOf 33 = .ok (.iload_n 2, 1) := dk_28 (dk_at dksX5_aheadOf_1 9 rfl rfl)
theorem dX5_aheadOf_34 : decode cX5_aheadOf 34 = .ok (.ireturn, 1) := dk_172 (dk_at dksX5_aheadOf_1 10 rfl rfl)
abbrev cX5_give : ByteArray := prog_25_method_66_code
def yX5_give : MethodName := ⟨RX5, "give", "(II)I"⟩
def dkwX5_give_2 : List UInt8 := [180, 0, 16, 27, 29, 79, 29, 172]
abbrev dktX5_give_2 : List UInt8 := dkwX5_give_2 ++ []
def dkwX5_give_1 : List UInt8 := [46, 155, 0, 6, 16, 251, 172, 42, 182, 1, 17, 42, 27, 28, 182, 1, 41, 62, 29, 155, 0, 10, 42]
abbrev dktX5_give_1 : List UInt8 := dkwX5_give_1 ++ dktX5_give_2
def dkwX5_give_0 : List UInt8 := [42, 27, 182, 0, 135, 153, 0, 12, 28, 3, 5, 184, 0, 114, 154, 0, 5, 2, 172, 42, 180, 0, 16, 27]
abbrev dktX5_give_0 : List UInt8 := dkwX5_give_0 ++ dktX5_give_1
theorem dksX5_give_0 : cX5_give.data.toList.drop 0 = dktX5_give_0 := by decide +kernel
theorem dksX5_give_1 : cX5_give.data.toList.drop 24 = dktX5_give_1 := dk_seg dksX5_give_0 24 rfl rfl
theorem dksX5_give_2 : cX5_give.data.toList.drop 47 = dktX5_give_2 := dk_seg dksX5_give_1 23 rfl rfl
theorem dX5_give_0 : decode cX5_give 0 = .ok (.aload_n 0, 1) := dk_42 (dk_at dksX5_give_0 0 rfl rfl)
theorem dX5_give_1 : decode cX5_give 1 = .ok (.iload_n 1, 1) := dk_27 (dk_at dksX5_give_0 1 rfl rfl)
theorem dX5_give_2 : decode cX5_give 2 = .ok (.invokevirtual 135, 3) := dk_182 0 135 (dk_at dksX5_give_0 2 rfl rfl)
theorem dX5_give_5 : decode cX5_give 5 = .ok (.ifCond .eq 12, 3) := dk_153 0 12 (dk_at dksX5_give_0 5 rfl rfl)
theorem dX5_give_8 : decode cX5_give 8 = .ok (.iload_n 2, 1) := dk_28 (dk_at dksX5_give_0 8 rfl rfl)
theorem dX5_give_9 : decode cX5_give 9 = .ok (.iconst 0, 1) := dk_3 (dk_at dksX5_give_0 9 rfl rfl)
theorem dX5_give_10 : decode cX5_give 10 = .ok (.iconst 2, 1) := dk_5 (dk_at dksX5_give_0 10 rfl rfl)
theorem dX5_give_11 : decode cX5_give 11 = .ok (.invokestatic 114, 3) := dk_184 0 114 (dk_at dksX5_give_0 11 rfl rfl)
theorem dX5_give_14 : decode cX5_give 14 = .ok (.ifCond .ne 5, 3) := dk_154 0 5 (dk_at dksX5_give_0 14 rfl rfl)
theorem dX5_give_17 : decode cX5_give 17 = .ok (.iconst (-1), 1) := dk_2 (dk_at dksX5_give_0 17 rfl rfl)
theorem dX5_give_18 : decode cX5_give 18 = .ok (.ireturn, 1) := dk_172 (dk_at dksX5_give_0 18 rfl rfl)
theorem dX5_give_19 : decode cX5_give 19 = .ok (.aload_n 0, 1) := dk_42 (dk_at dksX5_give_0 19 rfl rfl)
theorem dX5_give_20 : decode cX5_give 20 = .ok (.getfield 16, 3) := dk_180 0 16 (dk_at dksX5_give_0 20 rfl rfl)
theorem dX5_give_23 : decode cX5_give 23 = .ok (.iload_n 1, 1) := dk_27 (dk_at dksX5_give_0 23 rfl rfl)
theorem dX5_give_24 : decode cX5_give 24 = .ok (.iaload, 1) := dk_46 (dk_at dksX5_give_1 0 rfl rfl)
theorem dX5_give_25 : decode cX5_give 25 = .ok (.ifCond .lt 6, 3) := dk_155 0 6 (dk_at dksX5_give_1 1 rfl rfl)
theorem dX5_give_28 : decode cX5_give 28 = .ok (.bipush (-5), 2) := dk_16 251 (dk_at dksX5_give_1 4 rfl rfl)
theorem dX5_give_30 : decode cX5_give 30 = .ok (.ireturn, 1) := dk_172 (dk_at dksX5_give_1 6 rfl rfl)
theorem dX5_give_31 : decode cX5_give 31 = .ok (.aload_n 0, 1) := dk_42 (dk_at dksX5_give_1 7 rfl rfl)
theorem dX5_give_32 : decode cX5_give 32 = .ok (.invokevirtual 273, 3) := dk_182 1 17 (dk_at dksX5_give_1 8 rfl rfl)
theorem dX5_give_35 : decode cX5_give 35 = .ok (.aload_n 0, 1) := dk_42 (dk_at dksX5_give_1 11 rfl rfl)
theorem dX5_give_36 : decode cX5_give 36 = .ok (.iload_n 1, 1) := dk_27 (dk_at dksX5_give_1 12 rfl rfl)
theorem dX5_give_37 : decode cX5_give 37 = .ok (.iload_n 2, 1) := dk_28 (dk_at dksX5_give_1 13 rfl rfl)
theorem dX5_give_38 : decode cX5_give 38 = .ok (.invokevirtual 297, 3) := dk_182 1 41 (dk_at dksX5_give_1 14 rfl rfl)
theorem dX5_give_41 : decode cX5_give 41 = .ok (.istore_n 3, 1) := dk_62 (dk_at dksX5_give_1 17 rfl rfl)
theorem dX5_give_42 : decode cX5_give 42 = .ok (.iload_n 3, 1) := dk_29 (dk_at dksX5_give_1 18 rfl rfl)
theorem dX5_give_43 : decode cX5_give 43 = .ok (.ifCond .lt 10, 3) := dk_155 0 10 (dk_at dksX5_give_1 19 rfl rfl)
theorem dX5_give_46 : decode cX5_give 46 = .ok (.aload_n 0, 1) := dk_42 (dk_at dksX5_give_1 22 rfl rfl)
theorem dX5_give_47 : decode cX5_give 47 = .ok (.getfield 16, 3) := dk_180 0 16 (dk_at dksX5_give_2 0 rfl rfl)
theorem dX5_give_50 : decode cX5_give 50 = .ok (.iload_n 1, 1) := dk_27 (dk_at dksX5_give_2 3 rfl rfl)
theorem dX5_give_51 : decode cX5_give 51 = .ok (.iload_n 3, 1) := dk_29 (dk_at dksX5_give_2 4 rfl rfl)
theorem dX5_give_52 : decode cX5_give 52 = .ok (.iastore, 1) := dk_79 (dk_at dksX5_give_2 5 rfl rfl)
theorem dX5_give_53 : decode cX5_give 53 = .ok (.iload_n 3, 1) := dk_29 (dk_at dksX5_give_2 6 rfl rfl)
theorem dX5_give_54 : decode cX5_give 54 = .ok (.ireturn, 1) := dk_172 (dk_at dksX5_give_2 7 rfl rfl)
abbrev cX5_given : ByteArray := prog_25_method_65_code
def yX5_given : MethodName := ⟨RX5, "given", "(II)I"⟩
def dkwX5_given_6 : List UInt8 := [163, 0, 6, 167, 0, 11, 21, 7, 54, 5, 21, 8, 54, 6, 132, 7, 1, 167, 255, 172, 21, 5, 172]
abbrev dktX5_given_6 : List UInt8 := dkwX5_given_6 ++ []
def dkwX5_given_5 : List UInt8 := [182, 1, 38, 167, 0, 10, 42, 180, 0, 28, 21, 7, 46, 54, 8, 21, 5, 155, 0, 13, 21, 8, 21, 6]
abbrev dktX5_given_5 : List UInt8 := dkwX5_given_5 ++ dktX5_given_6
def dkwX5_given_4 : List UInt8 := [154, 0, 7, 3, 167, 0, 31, 28, 4, 160, 0, 19, 42, 21, 7, 42, 180, 0, 7, 27, 46, 29]
abbrev dktX5_given_4 : List UInt8 := dkwX5_given_4 ++ dktX5_given_5
def dkwX5_given_3 : List UInt8 := [54, 7, 21, 7, 16, 12, 162, 0, 83, 21, 4, 21, 7, 122, 4, 126, 154, 0, 6, 167, 0, 64, 28]
abbrev dktX5_given_3 : List UInt8 := dkwX5_given_3 ++ dktX5_given_4
def dkwX5_given_2 : List UInt8 := [21, 4, 4, 21, 5, 120, 128, 54, 4, 132, 5, 1, 167, 255, 221, 16, 254, 54, 5, 3, 54, 6, 3]
abbrev dktX5_given_2 : List UInt8 := dkwX5_given_2 ++ dktX5_given_3
def dkwX5_given_1 : List UInt8 := [21, 5, 16, 12, 162, 0, 34, 42, 21, 5, 42, 180, 0, 7, 27, 46, 29, 182, 1, 23, 154, 0, 12]
abbrev dktX5_given_1 : List UInt8 := dkwX5_given_1 ++ dktX5_given_2
def dkwX5_given_0 : List UInt8 := [42, 27, 182, 1, 35, 62, 42, 42, 180, 0, 7, 27, 46, 3, 182, 0, 254, 3, 54, 4, 3, 54, 5]
abbrev dktX5_given_0 : List UInt8 := dkwX5_given_0 ++ dktX5_given_1
theorem dksX5_given_0 : cX5_given.data.toList.drop 0 = dktX5_given_0 := by decide +kernel
theorem dksX5_given_1 : cX5_given.data.toList.drop 23 = dktX5_given_1 := dk_seg dksX5_given_0 23 rfl rfl
theorem dksX5_given_2 : cX5_given.data.toList.drop 46 = dktX5_given_2 := dk_seg dksX5_given_1 23 rfl rfl
theorem dksX5_given_3 : cX5_given.data.toList.drop 69 = dktX5_given_3 := dk_seg dksX5_given_2 23 rfl rfl
theorem dksX5_given_4 : cX5_given.data.toList.drop 92 = dktX5_given_4 := dk_seg dksX5_given_3 23 rfl rfl
theorem dksX5_given_5 : cX5_given.data.toList.drop 114 = dktX5_given_5 := dk_seg dksX5_given_4 22 rfl rfl
theorem dksX5_given_6 : cX5_given.data.toList.drop 138 = dktX5_given_6 := dk_seg dksX5_given_5 24 rfl rfl
theorem dX5_given_0 : decode cX5_given 0 = .ok (.aload_n 0, 1) := dk_42 (dk_at dksX5_given_0 0 rfl rfl)
theorem dX5_given_1 : decode cX5_given 1 = .ok (.iload_n 1, 1) := dk_27 (dk_at dksX5_given_0 1 rfl rfl)
theorem dX5_given_2 : decode cX5_given 2 = .ok (.invokevirtual 291, 3) := dk_182 1 35 (dk_at dksX5_given_0 2 rfl rfl)
theorem dX5_given_5 : decode cX5_given 5 = .ok (.istore_n 3, 1) := dk_62 (dk_at dksX5_given_0 5 rfl rfl)
theorem dX5_given_6 : decode cX5_given 6 = .ok (.aload_n 0, 1) := dk_42 (dk_at dksX5_given_0 6 rfl rfl)
theorem dX5_given_7 : decode cX5_given 7 = .ok (.aload_n 0, 1) := dk_42 (dk_at dksX5_given_0 7 rfl rfl)
theorem dX5_given_8 : decode cX5_given 8 = .ok (.getfield 7, 3) := dk_180 0 7 (dk_at dksX5_given_0 8 rfl rfl)
theorem dX5_given_11 : decode cX5_given 11 = .ok (.iload_n 1, 1) := dk_27 (dk_at dksX5_given_0 11 rfl rfl)
theorem dX5_given_12 : decode cX5_given 12 = .ok (.iaload, 1) := dk_46 (dk_at dksX5_given_0 12 rfl rfl)
theorem dX5_given_13 : decode cX5_given 13 = .ok (.iconst 0, 1) := dk_3 (dk_at dksX5_given_0 13 rfl rfl)
theorem dX5_given_14 : decode cX5_given 14 = .ok (.invokevirtual 254, 3) := dk_182 0 254 (dk_at dksX5_given_0 14 rfl rfl)
theorem dX5_given_17 : decode cX5_given 17 = .ok (.iconst 0, 1) := dk_3 (dk_at dksX5_given_0 17 rfl rfl)
theorem dX5_given_18 : decode cX5_given 18 = .ok (.istore 4, 2) := dk_54 4 (dk_at dksX5_given_0 18 rfl rfl)
theorem dX5_given_20 : decode cX5_given 20 = .ok (.iconst 0, 1) := dk_3 (dk_at dksX5_given_0 20 rfl rfl)
theorem dX5_given_21 : decode cX5_given 21 = .ok (.istore 5, 2) := dk_54 5 (dk_at dksX5_given_0 21 rfl rfl)
theorem dX5_given_23 : decode cX5_given 23 = .ok (.iload 5, 2) := dk_21 5 (dk_at dksX5_given_1 0 rfl rfl)
theorem dX5_given_25 : decode cX5_given 25 = .ok (.bipush 12, 2) := dk_16 12 (dk_at dksX5_given_1 2 rfl rfl)
theorem dX5_given_27 : decode cX5_given 27 = .ok (.if_icmp .ge 34, 3) := dk_162 0 34 (dk_at dksX5_given_1 4 rfl rfl)
theorem dX5_given_30 : decode cX5_given 30 = .ok (.aload_n 0, 1) := dk_42 (dk_at dksX5_given_1 7 rfl rfl)
theorem dX5_given_31 : decode cX5_given 31 = .ok (.iload 5, 2) := dk_21 5 (dk_at dksX5_given_1 8 rfl rfl)
theorem dX5_given_33 : decode cX5_given 33 = .ok (.aload_n 0, 1) := dk_42 (dk_at dksX5_given_1 10 rfl rfl)
theorem dX5_given_34 : decode cX5_given 34 = .ok (.getfield 7, 3) := dk_180 0 7 (dk_at dksX5_given_1 11 rfl rfl)
theorem dX5_given_37 : decode cX5_given 37 = .ok (.iload_n 1, 1) := dk_27 (dk_at dksX5_given_1 14 rfl rfl)
theorem dX5_given_38 : decode cX5_given 38 = .ok (.iaload, 1) := dk_46 (dk_at dksX5_given_1 15 rfl rfl)
theorem dX5_given_39 : decode cX5_given 39 = .ok (.iload_n 3, 1) := dk_29 (dk_at dksX5_given_1 16 rfl rfl)
theorem dX5_given_40 : decode cX5_given 40 = .ok (.invokevirtual 279, 3) := dk_182 1 23 (dk_at dksX5_given_1 17 rfl rfl)
theorem dX5_given_43 : decode cX5_given 43 = .ok (.ifCond .ne 12, 3) := dk_154 0 12 (dk_at dksX5_given_1 20 rfl rfl)
theorem dX5_given_46 : decode cX5_given 46 = .ok (.iload 4, 2) := dk_21 4 (dk_at dksX5_given_2 0 rfl rfl)
theorem dX5_given_48 : decode cX5_given 48 = .ok (.iconst 1, 1) := dk_4 (dk_at dksX5_given_2 2 rfl rfl)
theorem dX5_given_49 : decode cX5_given 49 = .ok (.iload 5, 2) := dk_21 5 (dk_at dksX5_given_2 3 rfl rfl)
theorem dX5_given_51 : decode cX5_given 51 = .ok (.ishl, 1) := dk_120 (dk_at dksX5_given_2 5 rfl rfl)
theorem dX5_given_52 : decode cX5_given 52 = .ok (.ior, 1) := dk_128 (dk_at dksX5_given_2 6 rfl rfl)
theorem dX5_given_53 : decode cX5_given 53 = .ok (.istore 4, 2) := dk_54 4 (dk_at dksX5_given_2 7 rfl rfl)
theorem dX5_given_55 : decode cX5_given 55 = .ok (.iinc 5 1, 3) := dk_132 5 1 (dk_at dksX5_given_2 9 rfl rfl)
theorem dX5_given_58 : decode cX5_given 58 = .ok (.goto (-35), 3) := dk_167 255 221 (dk_at dksX5_given_2 12 rfl rfl)
theorem dX5_given_61 : decode cX5_given 61 = .ok (.bipush (-2), 2) := dk_16 254 (dk_at dksX5_given_2 15 rfl rfl)
theorem dX5_given_63 : decode cX5_given 63 = .ok (.istore 5, 2) := dk_54 5 (dk_at dksX5_given_2 17 rfl rfl)
theorem dX5_given_65 : decode cX5_given 65 = .ok (.iconst 0, 1) := dk_3 (dk_at dksX5_given_2 19 rfl rfl)
theorem dX5_given_66 : decode cX5_given 66 = .ok (.istore 6, 2) := dk_54 6 (dk_at dksX5_given_2 20 rfl rfl)
theorem dX5_given_68 : decode cX5_given 68 = .ok (.iconst 0, 1) := dk_3 (dk_at dksX5_given_2 22 rfl rfl)
theorem dX5_given_69 : decode cX5_given 69 = .ok (.istore 7, 2) := dk_54 7 (dk_at dksX5_given_3 0 rfl rfl)
theorem dX5_given_71 : decode cX5_given 71 = .ok (.iload 7, 2) := dk_21 7 (dk_at dksX5_given_3 2 rfl rfl)
theorem dX5_given_73 : decode cX5_given 73 = .ok (.bipush 12, 2) := dk_16 12 (dk_at dksX5_given_3 4 rfl rfl)
theorem dX5_given_75 : decode cX5_given 75 = .ok (.if_icmp .ge 83, 3) := dk_162 0 83 (dk_at dksX5_given_3 6 rfl rfl)
theorem dX5_given_78 : decode cX5_given 78 = .ok (.iload 4, 2) := dk_21 4 (dk_at dksX5_given_3 9 rfl rfl)
theorem dX5_given_80 : decode cX5_given 80 = .ok (.iload 7, 2) := dk_21 7 (dk_at dksX5_given_3 11 rfl rfl)
theorem dX5_given_82 : decode cX5_given 82 = .ok (.ishr, 1) := dk_122 (dk_at dksX5_given_3 13 rfl rfl)
theorem dX5_given_83 : decode cX5_given 83 = .ok (.iconst 1, 1) := dk_4 (dk_at dksX5_given_3 14 rfl rfl)
theorem dX5_given_84 : decode cX5_given 84 = .ok (.iand, 1) := dk_126 (dk_at dksX5_given_3 15 rfl rfl)
theorem dX5_given_85 : decode cX5_given 85 = .ok (.ifCond .ne 6, 3) := dk_154 0 6 (dk_at dksX5_given_3 16 rfl rfl)
theorem dX5_given_88 : decode cX5_given 88 = .ok (.goto 64, 3) := dk_167 0 64 (dk_at dksX5_given_3 19 rfl rfl)
theorem dX5_given_91 : decode cX5_given 91 = .ok (.iload_n 2, 1) := dk_28 (dk_at dksX5_given_3 22 rfl rfl)
theorem dX5_given_92 : decode cX5_given 92 = .ok (.ifCond .ne 7, 3) := dk_154 0 7 (dk_at dksX5_given_4 0 rfl rfl)
theorem dX5_given_95 : decode cX5_given 95 = .ok (.iconst 0, 1) := dk_3 (dk_at dksX5_given_4 3 rfl rfl)
theorem dX5_given_96 : decode cX5_given 96 = .ok (.goto 31, 3) := dk_167 0 31 (dk_at dksX5_given_4 4 rfl rfl)
theorem dX5_given_99 : decode cX5_given 99 = .ok (.iload_n 2, 1) := dk_28 (dk_at dksX5_given_4 7 rfl rfl)
theorem dX5_given_100 : decode cX5_given 100 = .ok (.iconst 1, 1) := dk_4 (dk_at dksX5_given_4 8 rfl rfl)
theorem dX5_given_101 : decode cX5_given 101 = .ok (.if_icmp .ne 19, 3) := dk_160 0 19 (dk_at dksX5_given_4 9 rfl rfl)
theorem dX5_given_104 : decode cX5_given 104 = .ok (.aload_n 0, 1) := dk_42 (dk_at dksX5_given_4 12 rfl rfl)
theorem dX5_given_105 : decode cX5_given 105 = .ok (.iload 7, 2) := dk_21 7 (dk_at dksX5_given_4 13 rfl rfl)
theorem dX5_given_107 : decode cX5_given 107 = .ok (.aload_n 0, 1) := dk_42 (dk_at dksX5_given_4 15 rfl rfl)
theorem dX5_given_108 : decode cX5_given 108 = .ok (.getfield 7, 3) := dk_180 0 7 (dk_at dksX5_given_4 16 rfl rfl)
theorem dX5_given_111 : decode cX5_given 111 = .ok (.iload_n 1, 1) := dk_27 (dk_at dksX5_given_4 19 rfl rfl)
theorem dX5_given_112 : decode cX5_given 112 = .ok (.iaload, 1) := dk_46 (dk_at dksX5_given_4 20 rfl rfl)
theorem dX5_given_113 : decode cX5_given 113 = .ok (.iload_n 3, 1) := dk_29 (dk_at dksX5_given_4 21 rfl rfl)
theorem dX5_given_114 : decode cX5_given 114 = .ok (.invokevirtual 294, 3) := dk_182 1 38 (dk_at dksX5_given_5 0 rfl rfl)
theorem dX5_given_117 : decode cX5_given 117 = .ok (.goto 10, 3) := dk_167 0 10 (dk_at dksX5_given_5 3 rfl rfl)
theorem dX5_given_120 : decode cX5_given 120 = .ok (.aload_n 0, 1) := dk_42 (dk_at dksX5_given_5 6 rfl rfl)
theorem dX5_given_121 : decode cX5_given 121 = .ok (.getfield 28, 3) := dk_180 0 28 (dk_at dksX5_given_5 7 rfl rfl)
theorem dX5_given_124 : decode cX5_given 124 = .ok (.iload 7, 2) := dk_21 7 (dk_at dksX5_given_5 10 rfl rfl)
theorem dX5_given_126 : decode cX5_given 126 = .ok (.iaload, 1) := dk_46 (dk_at dksX5_given_5 12 rfl rfl)
theorem dX5_given_127 : decode cX5_given 127 = .ok (.istore 8, 2) := dk_54 8 (dk_at dksX5_given_5 13 rfl rfl)
theorem dX5_given_129 : decode cX5_given 129 = .ok (.iload 5, 2) := dk_21 5 (dk_at dksX5_given_5 15 rfl rfl)
theorem dX5_given_131 : decode cX5_given 131 = .ok (.ifCond .lt 13, 3) := dk_155 0 13 (dk_at dksX5_given_5 17 rfl rfl)
theorem dX5_given_134 : decode cX5_given 134 = .ok (.iload 8, 2) := dk_21 8 (dk_at dksX5_given_5 20 rfl rfl)
theorem dX5_given_136 : decode cX5_given 136 = .ok (.iload 6, 2) := dk_21 6 (dk_at dksX5_given_5 22 rfl rfl)
theorem dX5_given_138 : decode cX5_given 138 = .ok (.if_icmp .gt 6, 3) := dk_163 0 6 (dk_at dksX5_given_6 0 rfl rfl)
theorem dX5_given_141 : decode cX5_given 141 = .ok (.goto 11, 3) := dk_167 0 11 (dk_at dksX5_given_6 3 rfl rfl)
theorem dX5_given_144 : decode cX5_given 144 = .ok (.iload 7, 2) := dk_21 7 (dk_at dksX5_given_6 6 rfl rfl)
theorem dX5_given_146 : decode cX5_given 146 = .ok (.istore 5, 2) := dk_54 5 (dk_at dksX5_given_6 8 rfl rfl)
theorem dX5_given_148 : decode cX5_given 148 = .ok (.iload 8, 2) := dk_21 8 (dk_at dksX5_given_6 10 rfl rfl)
theorem dX5_given_150 : decode cX5_given 150 = .ok (.istore 6, 2) := dk_54 6 (dk_at dksX5_given_6 12 rfl rfl)
theorem dX5_given_152 : decode cX5_given 152 = .ok (.iinc 7 1, 3) := dk_132 7 1 (dk_at dksX5_given_6 14 rfl rfl)
theorem dX5_given_155 : decode cX5_given 155 = .ok (.goto (-84), 3) := dk_167 255 172 (dk_at dksX5_given_6 17 rfl rfl)
theorem dX5_given_158 : decode cX5_given 158 = .ok (.iload 5, 2) := dk_21 5 (dk_at dksX5_given_6 20 rfl rfl)
theorem dX5_given_160 : decode cX5_given 160 = .ok (.ireturn, 1) := dk_172 (dk_at dksX5_given_6 22 rfl rfl)
abbrev cX5_latestHeld : ByteArray := prog_25_method_64_code
def yX5_latestHeld : MethodName := ⟨RX5, "latestHeld", "(III)I"⟩
def dkwX5_latestHeld_1 : List UInt8 := [182, 1, 23, 153, 0, 6, 21, 4, 172, 132, 4, 255, 167, 255, 227, 2, 172]
abbrev dktX5_latestHeld_1 : List UInt8 := dkwX5_latestHeld_1 ++ []
def dkwX5_latestHeld_0 : List UInt8 := [28, 4, 100, 54, 4, 21, 4, 155, 0, 30, 42, 21, 4, 3, 182, 0, 254, 42, 27, 21, 4, 29]
abbrev dktX5_latestHeld_0 : List UInt8 := dkwX5_latestHeld_0 ++ dktX5_latestHeld_1
theorem dksX5_latestHeld_0 : cX5_latestHeld.data.toList.drop 0 = dktX5_latestHeld_0 := by decide +kernel
theorem dksX5_latestHeld_1 : cX5_latestHeld.data.toList.drop 22 = dktX5_latestHeld_1 := dk_seg dksX5_latestHeld_0 22 rfl rfl
theorem dX5_latestHeld_0 : decode cX5_latestHeld 0 = .ok (.iload_n 2, 1) := dk_28 (dk_at dksX5_latestHeld_0 0 rfl rfl)
theorem dX5_latestHeld_1 : decode cX5_latestHeld 1 = .ok (.iconst 1, 1) := dk_4 (dk_at dksX5_latestHeld_0 1 rfl rfl)
theorem dX5_latestHeld_2 : decode cX5_latestHeld 2 = .ok (.isub, 1) := dk_100 (dk_at dksX5_latestHeld_0 2 rfl rfl)
theorem dX5_latestHeld_3 : decode cX5_latestHeld 3 = .ok (.istore 4, 2) := dk_54 4 (dk_at dksX5_latestHeld_0 3 rfl rfl)
theorem dX5_latestHeld_5 : decode cX5_latestHeld 5 = .ok (.iload 4, 2) := dk_21 4 (dk_at dksX5_latestHeld_0 5 rfl rfl)
theorem dX5_latestHeld_7 : decode cX5_latestHeld 7 = .ok (.ifCond .lt 30, 3) := dk_155 0 30 (dk_at dksX5_latestHeld_0 7 rfl rfl)
theorem dX5_latestHeld_10 : decode cX5_latestHeld 10 = .ok (.aload_n 0, 1) := dk_42 (dk_at dksX5_latestHeld_0 10 rfl rfl)
theorem dX5_latestHeld_11 : decode cX5_latestHeld 11 = .ok (.iload 4, 2) := dk_21 4 (dk_at dksX5_latestHeld_0 11 rfl rfl)
theorem dX5_latestHeld_13 : decode cX5_latestHeld 13 = .ok (.iconst 0, 1) := dk_3 (dk_at dksX5_latestHeld_0 13 rfl rfl)
theorem dX5_latestHeld_14 : decode cX5_latestHeld 14 = .ok (.invokevirtual 254, 3) := dk_182 0 254 (dk_at dksX5_latestHeld_0 14 rfl rfl)
theorem dX5_latestHeld_17 : decode cX5_latestHeld 17 = .ok (.aload_n 0, 1) := dk_42 (dk_at dksX5_latestHeld_0 17 rfl rfl)
theorem dX5_latestHeld_18 : decode cX5_latestHeld 18 = .ok (.iload_n 1, 1) := dk_27 (dk_at dksX5_latestHeld_0 18 rfl rfl)
theorem dX5_latestHeld_19 : decode cX5_latestHeld 19 = .ok (.iload 4, 2) := dk_21 4 (dk_at dksX5_latestHeld_0 19 rfl rfl)
theorem dX5_latestHeld_21 : decode cX5_latestHeld 21 = .ok (.iload_n 3, 1) := dk_29 (dk_at dksX5_latestHeld_0 21 rfl rfl)
theorem dX5_latestHeld_22 : decode cX5_latestHeld 22 = .ok (.invokevirtual 279, 3) := dk_182 1 23 (dk_at dksX5_latestHeld_1 0 rfl rfl)
theorem dX5_latestHeld_25 : decode cX5_latestHeld 25 = .ok (.ifCond .eq 6, 3) := dk_153 0 6 (dk_at dksX5_latestHeld_1 3 rfl rfl)
theorem dX5_latestHeld_28 : decode cX5_latestHeld 28 = .ok (.iload 4, 2) := dk_21 4 (dk_at dksX5_latestHeld_1 6 rfl rfl)
theorem dX5_latestHeld_30 : decode cX5_latestHeld 30 = .ok (.ireturn, 1) := dk_172 (dk_at dksX5_latestHeld_1 8 rfl rfl)
theorem dX5_latestHeld_31 : decode cX5_latestHeld 31 = .ok (.iinc 4 (-1), 3) := dk_132 4 255 (dk_at dksX5_latestHeld_1 9 rfl rfl)
theorem dX5_latestHeld_34 : decode cX5_latestHeld 34 = .ok (.goto (-29), 3) := dk_167 255 227 (dk_at dksX5_latestHeld_1 12 rfl rfl)
theorem dX5_latestHeld_37 : decode cX5_latestHeld 37 = .ok (.iconst (-1), 1) := dk_2 (dk_at dksX5_latestHeld_1 15 rfl rfl)
theorem dX5_latestHeld_38 : decode cX5_latestHeld 38 = .ok (.ireturn, 1) := dk_172 (dk_at dksX5_latestHeld_1 16 rfl rfl)
abbrev cX5_run : ByteArray := prog_25_method_68_code
def yX5_run : MethodName := ⟨RX5, "run", "(II)I"⟩
def dkwX5_run_1 : List UInt8 := [42, 180, 0, 79, 28, 46, 156, 0, 8, 16, 254, 167, 0, 9, 42, 180, 0, 79, 28, 46, 172]
abbrev dktX5_run_1 : List UInt8 := dkwX5_run_1 ++ []
def dkwX5_run_0 : List UInt8 := [27, 3, 5, 184, 0, 114, 153, 0, 11, 42, 28, 182, 0, 135, 154, 0, 5, 2, 172, 42, 27, 182, 1, 44]
abbrev dktX5_run_0 : List UInt8 := dkwX5_run_0 ++ dktX5_run_1
theorem dksX5_run_0 : cX5_run.data.toList.drop 0 = dktX5_run_0 := by decide +kernel
theorem dksX5_run_1 : cX5_run.data.toList.drop 24 = dktX5_run_1 := dk_seg dksX5_run_0 24 rfl rfl
theorem dX5_run_0 : decode cX5_run 0 = .ok (.iload_n 1, 1) := dk_27 (dk_at dksX5_run_0 0 rfl rfl)
theorem dX5_run_1 : decode cX5_run 1 = .ok (.iconst 0, 1) := dk_3 (dk_at dksX5_run_0 1 rfl rfl)
theorem dX5_run_2 : decode cX5_run 2 = .ok (.iconst 2, 1) := dk_5 (dk_at dksX5_run_0 2 rfl rfl)
theorem dX5_run_3 : decode cX5_run 3 = .ok (.invokestatic 114, 3) := dk_184 0 114 (dk_at dksX5_run_0 3 rfl rfl)
theorem dX5_run_6 : decode cX5_run 6 = .ok (.ifCond .eq 11, 3) := dk_153 0 11 (dk_at dksX5_run_0 6 rfl rfl)
theorem dX5_run_9 : decode cX5_run 9 = .ok (.aload_n 0, 1) := dk_42 (dk_at dksX5_run_0 9 rfl rfl)
theorem dX5_run_10 : decode cX5_run 10 = .ok (.iload_n 2, 1) := dk_28 (dk_at dksX5_run_0 10 rfl rfl)
theorem dX5_run_11 : decode cX5_run 11 = .ok (.invokevirtual 135, 3) := dk_182 0 135 (dk_at dksX5_run_0 11 rfl rfl)
theorem dX5_run_14 : decode cX5_run 14 = .ok (.ifCond .ne 5, 3) := dk_154 0 5 (dk_at dksX5_run_0 14 rfl rfl)
theorem dX5_run_17 : decode cX5_run 17 = .ok (.iconst (-1), 1) := dk_2 (dk_at dksX5_run_0 17 rfl rfl)
theorem dX5_run_18 : decode cX5_run 18 = .ok (.ireturn, 1) := dk_172 (dk_at dksX5_run_0 18 rfl rfl)
theorem dX5_run_19 : decode cX5_run 19 = .ok (.aload_n 0, 1) := dk_42 (dk_at dksX5_run_0 19 rfl rfl)
theorem dX5_run_20 : decode cX5_run 20 = .ok (.iload_n 1, 1) := dk_27 (dk_at dksX5_run_0 20 rfl rfl)
theorem dX5_run_21 : decode cX5_run 21 = .ok (.invokevirtual 300, 3) := dk_182 1 44 (dk_at dksX5_run_0 21 rfl rfl)
theorem dX5_run_24 : decode cX5_run 24 = .ok (.aload_n 0, 1) := dk_42 (dk_at dksX5_run_1 0 rfl rfl)
theorem dX5_run_25 : decode cX5_run 25 = .ok (.getfield 79, 3) := dk_180 0 79 (dk_at dksX5_run_1 1 rfl rfl)
theorem dX5_run_28 : decode cX5_run 28 = .ok (.iload_n 2, 1) := dk_28 (dk_at dksX5_run_1 4 rfl rfl)
theorem dX5_run_29 : decode cX5_run 29 = .ok (.iaload, 1) := dk_46 (dk_at dksX5_run_1 5 rfl rfl)
theorem dX5_run_30 : decode cX5_run 30 = .ok (.ifCond .ge 8, 3) := dk_156 0 8 (dk_at dksX5_run_1 6 rfl rfl)
theorem dX5_run_33 : decode cX5_run 33 = .ok (.bipush (-2), 2) := dk_16 254 (dk_at dksX5_run_1 9 rfl rfl)
theorem dX5_run_35 : decode cX5_run 35 = .ok (.goto 9, 3) := dk_167 0 9 (dk_at dksX5_run_1 11 rfl rfl)
theorem dX5_run_38 : decode cX5_run 38 = .ok (.aload_n 0, 1) := dk_42 (dk_at dksX5_run_1 14 rfl rfl)
theorem dX5_run_39 : decode cX5_run 39 = .ok (.getfield 79, 3) := dk_180 0 79 (dk_at dksX5_run_1 15 rfl rfl)
theorem dX5_run_42 : decode cX5_run 42 = .ok (.iload_n 2, 1) := dk_28 (dk_at dksX5_run_1 18 rfl rfl)
theorem dX5_run_43 : decode cX5_run 43 = .ok (.iaload, 1) := dk_46 (dk_at dksX5_run_1 19 rfl rfl)
theorem dX5_run_44 : decode cX5_run 44 = .ok (.ireturn, 1) := dk_172 (dk_at dksX5_run_1 20 rfl rfl)
abbrev cX5_runBy : ByteArray := prog_25_method_67_code
def yX5_runBy : MethodName := ⟨RX5, "runBy", "(I)V"⟩
def dkwX5_runBy_2 : List UInt8 := [180, 0, 79, 29, 21, 4, 156, 0, 7, 2, 167, 0, 5, 21, 4, 79, 132, 2, 1, 167, 255, 214, 177]
abbrev dktX5_runBy_2 : List UInt8 := dkwX5_runBy_2 ++ []
def dkwX5_runBy_1 : List UInt8 := [42, 180, 0, 111, 162, 0, 40, 42, 28, 182, 1, 32, 62, 42, 29, 27, 182, 1, 41, 54, 4, 42]
abbrev dktX5_runBy_1 : List UInt8 := dkwX5_runBy_1 ++ dktX5_runBy_2
def dkwX5_runBy_0 : List UInt8 := [3, 61, 28, 16, 12, 162, 0, 16, 42, 180, 0, 79, 28, 2, 79, 132, 2, 1, 167, 255, 240, 3, 61, 28]
abbrev dktX5_runBy_0 : List UInt8 := dkwX5_runBy_0 ++ dktX5_runBy_1
theorem dksX5_runBy_0 : cX5_runBy.data.toList.drop 0 = dktX5_runBy_0 := by decide +kernel
theorem dksX5_runBy_1 : cX5_runBy.data.toList.drop 24 = dktX5_runBy_1 := dk_seg dksX5_runBy_0 24 rfl rfl
theorem dksX5_runBy_2 : cX5_runBy.data.toList.drop 46 = dktX5_runBy_2 := dk_seg dksX5_runBy_1 22 rfl rfl
theorem dX5_runBy_0 : decode cX5_runBy 0 = .ok (.iconst 0, 1) := dk_3 (dk_at dksX5_runBy_0 0 rfl rfl)
theorem dX5_runBy_1 : decode cX5_runBy 1 = .ok (.istore_n 2, 1) := dk_61 (dk_at dksX5_runBy_0 1 rfl rfl)
theorem dX5_runBy_2 : decode cX5_runBy 2 = .ok (.iload_n 2, 1) := dk_28 (dk_at dksX5_runBy_0 2 rfl rfl)
theorem dX5_runBy_3 : decode cX5_runBy 3 = .ok (.bipush 12, 2) := dk_16 12 (dk_at dksX5_runBy_0 3 rfl rfl)
theorem dX5_runBy_5 : decode cX5_runBy 5 = .ok (.if_icmp .ge 16, 3) := dk_162 0 16 (dk_at dksX5_runBy_0 5 rfl rfl)
theorem dX5_runBy_8 : decode cX5_runBy 8 = .ok (.aload_n 0, 1) := dk_42 (dk_at dksX5_runBy_0 8 rfl rfl)
theorem dX5_runBy_9 : decode cX5_runBy 9 = .ok (.getfield 79, 3) := dk_180 0 79 (dk_at dksX5_runBy_0 9 rfl rfl)
theorem dX5_runBy_12 : decode cX5_runBy 12 = .ok (.iload_n 2, 1) := dk_28 (dk_at dksX5_runBy_0 12 rfl rfl)
theorem dX5_runBy_13 : decode cX5_runBy 13 = .ok (.iconst (-1), 1) := dk_2 (dk_at dksX5_runBy_0 13 rfl rfl)
theorem dX5_runBy_14 : decode cX5_runBy 14 = .ok (.iastore, 1) := dk_79 (dk_at dksX5_runBy_0 14 rfl rfl)
theorem dX5_runBy_15 : decode cX5_runBy 15 = .ok (.iinc 2 1, 3) := dk_132 2 1 (dk_at dksX5_runBy_0 15 rfl rfl)
theorem dX5_runBy_18 : decode cX5_runBy 18 = .ok (.goto (-16), 3) := dk_167 255 240 (dk_at dksX5_runBy_0 18 rfl rfl)
theorem dX5_runBy_21 : decode cX5_runBy 21 = .ok (.iconst 0, 1) := dk_3 (dk_at dksX5_runBy_0 21 rfl rfl)
theorem dX5_runBy_22 : decode cX5_runBy 22 = .ok (.istore_n 2, 1) := dk_61 (dk_at dksX5_runBy_0 22 rfl rfl)
theorem dX5_runBy_23 : decode cX5_runBy 23 = .ok (.iload_n 2, 1) := dk_28 (dk_at dksX5_runBy_0 23 rfl rfl)
theorem dX5_runBy_24 : decode cX5_runBy 24 = .ok (.aload_n 0, 1) := dk_42 (dk_at dksX5_runBy_1 0 rfl rfl)
theorem dX5_runBy_25 : decode cX5_runBy 25 = .ok (.getfield 111, 3) := dk_180 0 111 (dk_at dksX5_runBy_1 1 rfl rfl)
theorem dX5_runBy_28 : decode cX5_runBy 28 = .ok (.if_icmp .ge 40, 3) := dk_162 0 40 (dk_at dksX5_runBy_1 4 rfl rfl)
theorem dX5_runBy_31 : decode cX5_runBy 31 = .ok (.aload_n 0, 1) := dk_42 (dk_at dksX5_runBy_1 7 rfl rfl)
theorem dX5_runBy_32 : decode cX5_runBy 32 = .ok (.iload_n 2, 1) := dk_28 (dk_at dksX5_runBy_1 8 rfl rfl)
theorem dX5_runBy_33 : decode cX5_runBy 33 = .ok (.invokevirtual 288, 3) := dk_182 1 32 (dk_at dksX5_runBy_1 9 rfl rfl)
theorem dX5_runBy_36 : decode cX5_runBy 36 = .ok (.istore_n 3, 1) := dk_62 (dk_at dksX5_runBy_1 12 rfl rfl)
theorem dX5_runBy_37 : decode cX5_runBy 37 = .ok (.aload_n 0, 1) := dk_42 (dk_at dksX5_runBy_1 13 rfl rfl)
theorem dX5_runBy_38 : decode cX5_runBy 38 = .ok (.iload_n 3, 1) := dk_29 (dk_at dksX5_runBy_1 14 rfl rfl)
theorem dX5_runBy_39 : decode cX5_runBy 39 = .ok (.iload_n 1, 1) := dk_27 (dk_at dksX5_runBy_1 15 rfl rfl)
theorem dX5_runBy_40 : decode cX5_runBy 40 = .ok (.invokevirtual 297, 3) := dk_182 1 41 (dk_at dksX5_runBy_1 16 rfl rfl)
theorem dX5_runBy_43 : decode cX5_runBy 43 = .ok (.istore 4, 2) := dk_54 4 (dk_at dksX5_runBy_1 19 rfl rfl)
theorem dX5_runBy_45 : decode cX5_runBy 45 = .ok (.aload_n 0, 1) := dk_42 (dk_at dksX5_runBy_1 21 rfl rfl)
theorem dX5_runBy_46 : decode cX5_runBy 46 = .ok (.getfield 79, 3) := dk_180 0 79 (dk_at dksX5_runBy_2 0 rfl rfl)
theorem dX5_runBy_49 : decode cX5_runBy 49 = .ok (.iload_n 3, 1) := dk_29 (dk_at dksX5_runBy_2 3 rfl rfl)
theorem dX5_runBy_50 : decode cX5_runBy 50 = .ok (.iload 4, 2) := dk_21 4 (dk_at dksX5_runBy_2 4 rfl rfl)
theorem dX5_runBy_52 : decode cX5_runBy 52 = .ok (.ifCond .ge 7, 3) := dk_156 0 7 (dk_at dksX5_runBy_2 6 rfl rfl)
theorem dX5_runBy_55 : decode cX5_runBy 55 = .ok (.iconst (-1), 1) := dk_2 (dk_at dksX5_runBy_2 9 rfl rfl)
theorem dX5_runBy_56 : decode cX5_runBy 56 = .ok (.goto 5, 3) := dk_167 0 5 (dk_at dksX5_runBy_2 10 rfl rfl)
theorem dX5_runBy_59 : decode cX5_runBy 59 = .ok (.iload 4, 2) := dk_21 4 (dk_at dksX5_runBy_2 13 rfl rfl)
theorem dX5_runBy_61 : decode cX5_runBy 61 = .ok (.iastore, 1) := dk_79 (dk_at dksX5_runBy_2 15 rfl rfl)
theorem dX5_runBy_62 : decode cX5_runBy 62 = .ok (.iinc 2 1, 3) := dk_132 2 1 (dk_at dksX5_runBy_2 16 rfl rfl)
theorem dX5_runBy_65 : decode cX5_runBy 65 = .ok (.goto (-42), 3) := dk_167 255 214 (dk_at dksX5_runBy_2 19 rfl rfl)
theorem dX5_runBy_68 : decode cX5_runBy 68 = .ok (.return_, 1) := dk_177 (dk_at dksX5_runBy_2 22 rfl rfl)
abbrev cX5_used : ByteArray := prog_25_method_70_code
def yX5_used : MethodName := ⟨RX5, "used", "(II)I"⟩
def dkwX5_used_4 : List UInt8 := [132, 3, 1, 132, 4, 1, 167, 255, 196, 29, 172]
abbrev dktX5_used_4 : List UInt8 := dkwX5_used_4 ++ []
def dkwX5_used_3 : List UInt8 := [180, 0, 79, 21, 4, 46, 46, 96, 62, 28, 5, 160, 0, 16, 42, 180, 0, 79, 21, 4, 46, 156, 0, 6]
abbrev dktX5_used_3 : List UInt8 := dkwX5_used_3 ++ dktX5_used_4
def dkwX5_used_2 : List UInt8 := [162, 0, 57, 28, 4, 160, 0, 28, 42, 180, 0, 79, 21, 4, 46, 155, 0, 18, 29, 42, 180, 0, 28, 42]
abbrev dktX5_used_2 : List UInt8 := dkwX5_used_2 ++ dktX5_used_3
def dkwX5_used_1 : List UInt8 := [182, 1, 44, 28, 154, 0, 8, 42, 182, 1, 48, 172, 3, 62, 3, 54, 4, 21, 4, 42, 180, 0, 111]
abbrev dktX5_used_1 : List UInt8 := dkwX5_used_1 ++ dktX5_used_2
def dkwX5_used_0 : List UInt8 := [27, 3, 5, 184, 0, 114, 153, 0, 12, 28, 3, 5, 184, 0, 114, 154, 0, 5, 2, 172, 42, 27]
abbrev dktX5_used_0 : List UInt8 := dkwX5_used_0 ++ dktX5_used_1
theorem dksX5_used_0 : cX5_used.data.toList.drop 0 = dktX5_used_0 := by decide +kernel
theorem dksX5_used_1 : cX5_used.data.toList.drop 22 = dktX5_used_1 := dk_seg dksX5_used_0 22 rfl rfl
theorem dksX5_used_2 : cX5_used.data.toList.drop 45 = dktX5_used_2 := dk_seg dksX5_used_1 23 rfl rfl
theorem dksX5_used_3 : cX5_used.data.toList.drop 69 = dktX5_used_3 := dk_seg dksX5_used_2 24 rfl rfl
theorem dksX5_used_4 : cX5_used.data.toList.drop 93 = dktX5_used_4 := dk_seg dksX5_used_3 24 rfl rfl
theorem dX5_used_0 : decode cX5_used 0 = .ok (.iload_n 1, 1) := dk_27 (dk_at dksX5_used_0 0 rfl rfl)
theorem dX5_used_1 : decode cX5_used 1 = .ok (.iconst 0, 1) := dk_3 (dk_at dksX5_used_0 1 rfl rfl)
theorem dX5_used_2 : decode cX5_used 2 = .ok (.iconst 2, 1) := dk_5 (dk_at dksX5_used_0 2 rfl rfl)
theorem dX5_used_3 : decode cX5_used 3 = .ok (.invokestatic 114, 3) := dk_184 0 114 (dk_at dksX5_used_0 3 rfl rfl)
theorem dX5_used_6 : decode cX5_used 6 = .ok (.ifCond .eq 12, 3) := dk_153 0 12 (dk_at dksX5_used_0 6 rfl rfl)
theorem dX5_used_9 : decode cX5_used 9 = .ok (.iload_n 2, 1) := dk_28 (dk_at dksX5_used_0 9 rfl rfl)
theorem dX5_used_10 : decode cX5_used 10 = .ok (.iconst 0, 1) := dk_3 (dk_at dksX5_used_0 10 rfl rfl)
theorem dX5_used_11 : decode cX5_used 11 = .ok (.iconst 2, 1) := dk_5 (dk_at dksX5_used_0 11 rfl rfl)
theorem dX5_used_12 : decode cX5_used 12 = .ok (.invokestatic 114, 3) := dk_184 0 114 (dk_at dksX5_used_0 12 rfl rfl)
theorem dX5_used_15 : decode cX5_used 15 = .ok (.ifCond .ne 5, 3) := dk_154 0 5 (dk_at dksX5_used_0 15 rfl rfl)
theorem dX5_used_18 : decode cX5_used 18 = .ok (.iconst (-1), 1) := dk_2 (dk_at dksX5_used_0 18 rfl rfl)
theorem dX5_used_19 : decode cX5_used 19 = .ok (.ireturn, 1) := dk_172 (dk_at dksX5_used_0 19 rfl rfl)
theorem dX5_used_20 : decode cX5_used 20 = .ok (.aload_n 0, 1) := dk_42 (dk_at dksX5_used_0 20 rfl rfl)
theorem dX5_used_21 : decode cX5_used 21 = .ok (.iload_n 1, 1) := dk_27 (dk_at dksX5_used_0 21 rfl rfl)
theorem dX5_used_22 : decode cX5_used 22 = .ok (.invokevirtual 300, 3) := dk_182 1 44 (dk_at dksX5_used_1 0 rfl rfl)
theorem dX5_used_25 : decode cX5_used 25 = .ok (.iload_n 2, 1) := dk_28 (dk_at dksX5_used_1 3 rfl rfl)
theorem dX5_used_26 : decode cX5_used 26 = .ok (.ifCond .ne 8, 3) := dk_154 0 8 (dk_at dksX5_used_1 4 rfl rfl)
theorem dX5_used_29 : decode cX5_used 29 = .ok (.aload_n 0, 1) := dk_42 (dk_at dksX5_used_1 7 rfl rfl)
theorem dX5_used_30 : decode cX5_used 30 = .ok (.invokevirtual 304, 3) := dk_182 1 48 (dk_at dksX5_used_1 8 rfl rfl)
theorem dX5_used_33 : decode cX5_used 33 = .ok (.ireturn, 1) := dk_172 (dk_at dksX5_used_1 11 rfl rfl)
theorem dX5_used_34 : decode cX5_used 34 = .ok (.iconst 0, 1) := dk_3 (dk_at dksX5_used_1 12 rfl rfl)
theorem dX5_used_35 : decode cX5_used 35 = .ok (.istore_n 3, 1) := dk_62 (dk_at dksX5_used_1 13 rfl rfl)
theorem dX5_used_36 : decode cX5_used 36 = .ok (.iconst 0, 1) := dk_3 (dk_at dksX5_used_1 14 rfl rfl)
theorem dX5_used_37 : decode cX5_used 37 = .ok (.istore 4, 2) := dk_54 4 (dk_at dksX5_used_1 15 rfl rfl)
theorem dX5_used_39 : decode cX5_used 39 = .ok (.iload 4, 2) := dk_21 4 (dk_at dksX5_used_1 17 rfl rfl)
theorem dX5_used_41 : decode cX5_used 41 = .ok (.aload_n 0, 1) := dk_42 (dk_at dksX5_used_1 19 rfl rfl)
theorem dX5_used_42 : decode cX5_used 42 = .ok (.getfield 111, 3) := dk_180 0 111 (dk_at dksX5_used_1 20 rfl rfl)
theorem dX5_used_45 : decode cX5_used 45 = .ok (.if_icmp .ge 57, 3) := dk_162 0 57 (dk_at dksX5_used_2 0 rfl rfl)
theorem dX5_used_48 : decode cX5_used 48 = .ok (.iload_n 2, 1) := dk_28 (dk_at dksX5_used_2 3 rfl rfl)
theorem dX5_used_49 : decode cX5_used 49 = .ok (.iconst 1, 1) := dk_4 (dk_at dksX5_used_2 4 rfl rfl)
theorem dX5_used_50 : decode cX5_used 50 = .ok (.if_icmp .ne 28, 3) := dk_160 0 28 (dk_at dksX5_used_2 5 rfl rfl)
theorem dX5_used_53 : decode cX5_used 53 = .ok (.aload_n 0, 1) := dk_42 (dk_at dksX5_used_2 8 rfl rfl)
theorem dX5_used_54 : decode cX5_used 54 = .ok (.getfield 79, 3) := dk_180 0 79 (dk_at dksX5_used_2 9 rfl rfl)
theorem dX5_used_57 : decode cX5_used 57 = .ok (.iload 4, 2) := dk_21 4 (dk_at dksX5_used_2 12 rfl rfl)
theorem dX5_used_59 : decode cX5_used 59 = .ok (.iaload, 1) := dk_46 (dk_at dksX5_used_2 14 rfl rfl)
theorem dX5_used_60 : decode cX5_used 60 = .ok (.ifCond .lt 18, 3) := dk_155 0 18 (dk_at dksX5_used_2 15 rfl rfl)
theorem dX5_used_63 : decode cX5_used 63 = .ok (.iload_n 3, 1) := dk_29 (dk_at dksX5_used_2 18 rfl rfl)
theorem dX5_used_64 : decode cX5_used 64 = .ok (.aload_n 0, 1) := dk_42 (dk_at dksX5_used_2 19 rfl rfl)
theorem dX5_used_65 : decode cX5_used 65 = .ok (.getfield 28, 3) := dk_180 0 28 (dk_at dksX5_used_2 20 rfl rfl)
theorem dX5_used_68 : decode cX5_used 68 = .ok (.aload_n 0, 1) := dk_42 (dk_at dksX5_used_2 23 rfl rfl)
theorem dX5_used_69 : decode cX5_used 69 = .ok (.getfield 79, 3) := dk_180 0 79 (dk_at dksX5_used_3 0 rfl rfl)
theorem dX5_used_72 : decode cX5_used 72 = .ok (.iload 4, 2) := dk_21 4 (dk_at dksX5_used_3 3 rfl rfl)
theorem dX5_used_74 : decode cX5_used 74 = .ok (.iaload, 1) := dk_46 (dk_at dksX5_used_3 5 rfl rfl)
theorem dX5_used_75 : decode cX5_used 75 = .ok (.iaload, 1) := dk_46 (dk_at dksX5_used_3 6 rfl rfl)
theorem dX5_used_76 : decode cX5_used 76 = .ok (.iadd, 1) := dk_96 (dk_at dksX5_used_3 7 rfl rfl)
theorem dX5_used_77 : decode cX5_used 77 = .ok (.istore_n 3, 1) := dk_62 (dk_at dksX5_used_3 8 rfl rfl)
theorem dX5_used_78 : decode cX5_used 78 = .ok (.iload_n 2, 1) := dk_28 (dk_at dksX5_used_3 9 rfl rfl)
theorem dX5_used_79 : decode cX5_used 79 = .ok (.iconst 2, 1) := dk_5 (dk_at dksX5_used_3 10 rfl rfl)
theorem dX5_used_80 : decode cX5_used 80 = .ok (.if_icmp .ne 16, 3) := dk_160 0 16 (dk_at dksX5_used_3 11 rfl rfl)
theorem dX5_used_83 : decode cX5_used 83 = .ok (.aload_n 0, 1) := dk_42 (dk_at dksX5_used_3 14 rfl rfl)
theorem dX5_used_84 : decode cX5_used 84 = .ok (.getfield 79, 3) := dk_180 0 79 (dk_at dksX5_used_3 15 rfl rfl)
theorem dX5_used_87 : decode cX5_used 87 = .ok (.iload 4, 2) := dk_21 4 (dk_at dksX5_used_3 18 rfl rfl)
theorem dX5_used_89 : decode cX5_used 89 = .ok (.iaload, 1) := dk_46 (dk_at dksX5_used_3 20 rfl rfl)
theorem dX5_used_90 : decode cX5_used 90 = .ok (.ifCond .ge 6, 3) := dk_156 0 6 (dk_at dksX5_used_3 21 rfl rfl)
theorem dX5_used_93 : decode cX5_used 93 = .ok (.iinc 3 1, 3) := dk_132 3 1 (dk_at dksX5_used_4 0 rfl rfl)
theorem dX5_used_96 : decode cX5_used 96 = .ok (.iinc 4 1, 3) := dk_132 4 1 (dk_at dksX5_used_4 3 rfl rfl)
theorem dX5_used_99 : decode cX5_used 99 = .ok (.goto (-60), 3) := dk_167 255 196 (dk_at dksX5_used_4 6 rfl rfl)
theorem dX5_used_102 : decode cX5_used 102 = .ok (.iload_n 3, 1) := dk_29 (dk_at dksX5_used_4 9 rfl rfl)
theorem dX5_used_103 : decode cX5_used 103 = .ok (.ireturn, 1) := dk_172 (dk_at dksX5_used_4 10 rfl rfl)
abbrev cX5_unlikeNames : ByteArray := prog_25_method_69_code
def yX5_unlikeNames : MethodName := ⟨RX5, "unlikeNames", "()I"⟩
def dkwX5_unlikeNames_1 : List UInt8 := [180, 0, 79, 28, 46, 120, 128, 60, 132, 2, 1, 167, 255, 225, 27, 184, 1, 29, 172]
abbrev dktX5_unlikeNames_1 : List UInt8 := dkwX5_unlikeNames_1 ++ []
def dkwX5_unlikeNames_0 : List UInt8 := [3, 60, 3, 61, 28, 42, 180, 0, 111, 162, 0, 29, 42, 180, 0, 79, 28, 46, 155, 0, 14, 27, 4, 42]
abbrev dktX5_unlikeNames_0 : List UInt8 := dkwX5_unlikeNames_0 ++ dktX5_unlikeNames_1
theorem dksX5_unlikeNames_0 : cX5_unlikeNames.data.toList.drop 0 = dktX5_unlikeNames_0 := by decide +kernel
theorem dksX5_unlikeNames_1 : cX5_unlikeNames.data.toList.drop 24 = dktX5_unlikeNames_1 := dk_seg dksX5_unlikeNames_0 24 rfl rfl
theorem dX5_unlikeNames_0 : decode cX5_unlikeNames 0 = .ok (.iconst 0, 1) := dk_3 (dk_at dksX5_unlikeNames_0 0 rfl rfl)
theorem dX5_unlikeNames_1 : decode cX5_unlikeNames 1 = .ok (.istore_n 1, 1) := dk_60 (dk_at dksX5_unlikeNames_0 1 rfl rfl)
theorem dX5_unlikeNames_2 : decode cX5_unlikeNames 2 = .ok (.iconst 0, 1) := dk_3 (dk_at dksX5_unlikeNames_0 2 rfl rfl)
theorem dX5_unlikeNames_3 : decode cX5_unlikeNames 3 = .ok (.istore_n 2, 1) := dk_61 (dk_at dksX5_unlikeNames_0 3 rfl rfl)
theorem dX5_unlikeNames_4 : decode cX5_unlikeNames 4 = .ok (.iload_n 2, 1) := dk_28 (dk_at dksX5_unlikeNames_0 4 rfl rfl)
theorem dX5_unlikeNames_5 : decode cX5_unlikeNames 5 = .ok (.aload_n 0, 1) := dk_42 (dk_at dksX5_unlikeNames_0 5 rfl rfl)
theorem dX5_unlikeNames_6 : decode cX5_unlikeNames 6 = .ok (.getfield 111, 3) := dk_180 0 111 (dk_at dksX5_unlikeNames_0 6 rfl rfl)
theorem dX5_unlikeNames_9 : decode cX5_unlikeNames 9 = .ok (.if_icmp .ge 29, 3) := dk_162 0 29 (dk_at dksX5_unlikeNames_0 9 rfl rfl)
theorem dX5_unlikeNames_12 : decode cX5_unlikeNames 12 = .ok (.aload_n 0, 1) := dk_42 (dk_at dksX5_unlikeNames_0 12 rfl rfl)
theorem dX5_unlikeNames_13 : decode cX5_unlikeNames 13 = .ok (.getfield 79, 3) := dk_180 0 79 (dk_at dksX5_unlikeNames_0 13 rfl rfl)
theorem dX5_unlikeNames_16 : decode cX5_unlikeNames 16 = .ok (.iload_n 2, 1) := dk_28 (dk_at dksX5_unlikeNames_0 16 rfl rfl)
theorem dX5_unlikeNames_17 : decode cX5_unlikeNames 17 = .ok (.iaload, 1) := dk_46 (dk_at dksX5_unlikeNames_0 17 rfl rfl)
theorem dX5_unlikeNames_18 : decode cX5_unlikeNames 18 = .ok (.ifCond .lt 14, 3) := dk_155 0 14 (dk_at dksX5_unlikeNames_0 18 rfl rfl)
theorem dX5_unlikeNames_21 : decode cX5_unlikeNames 21 = .ok (.iload_n 1, 1) := dk_27 (dk_at dksX5_unlikeNames_0 21 rfl rfl)
theorem dX5_unlikeNames_22 : decode cX5_unlikeNames 22 = .ok (.iconst 1, 1) := dk_4 (dk_at dksX5_unlikeNames_0 22 rfl rfl)
theorem dX5_unlikeNames_23 : decode cX5_unlikeNames 23 = .ok (.aload_n 0, 1) := dk_42 (dk_at dksX5_unlikeNames_0 23 rfl rfl)
theorem dX5_unlikeNames_24 : decode cX5_unlikeNames 24 = .ok (.getfield 79, 3) := dk_180 0 79 (dk_at dksX5_unlikeNames_1 0 rfl rfl)
theorem dX5_unlikeNames_27 : decode cX5_unlikeNames 27 = .ok (.iload_n 2, 1) := dk_28 (dk_at dksX5_unlikeNames_1 3 rfl rfl)
theorem dX5_unlikeNames_28 : decode cX5_unlikeNames 28 = .ok (.iaload, 1) := dk_46 (dk_at dksX5_unlikeNames_1 4 rfl rfl)
theorem dX5_unlikeNames_29 : decode cX5_unlikeNames 29 = .ok (.ishl, 1) := dk_120 (dk_at dksX5_unlikeNames_1 5 rfl rfl)
theorem dX5_unlikeNames_30 : decode cX5_unlikeNames 30 = .ok (.ior, 1) := dk_128 (dk_at dksX5_unlikeNames_1 6 rfl rfl)
theorem dX5_unlikeNames_31 : decode cX5_unlikeNames 31 = .ok (.istore_n 1, 1) := dk_60 (dk_at dksX5_unlikeNames_1 7 rfl rfl)
theorem dX5_unlikeNames_32 : decode cX5_unlikeNames 32 = .ok (.iinc 2 1, 3) := dk_132 2 1 (dk_at dksX5_unlikeNames_1 8 rfl rfl)
theorem dX5_unlikeNames_35 : decode cX5_unlikeNames 35 = .ok (.goto (-31), 3) := dk_167 255 225 (dk_at dksX5_unlikeNames_1 11 rfl rfl)
theorem dX5_unlikeNames_38 : decode cX5_unlikeNames 38 = .ok (.iload_n 1, 1) := dk_27 (dk_at dksX5_unlikeNames_1 14 rfl rfl)
theorem dX5_unlikeNames_39 : decode cX5_unlikeNames 39 = .ok (.invokestatic 285, 3) := dk_184 1 29 (dk_at dksX5_unlikeNames_1 15 rfl rfl)
theorem dX5_unlikeNames_42 : decode cX5_unlikeNames 42 = .ok (.ireturn, 1) := dk_172 (dk_at dksX5_unlikeNames_1 18 rfl rfl)
abbrev cX5_apart : ByteArray := prog_25_method_72_code
def yX5_apart : MethodName := ⟨RX5, "apart", "(II)I"⟩
def dkwX5_apart_6 : List UInt8 := [132, 4, 1, 167, 255, 196, 16, 254, 172]
abbrev dktX5_apart_6 : List UInt8 := dkwX5_apart_6 ++ []
def dkwX5_apart_5 : List UInt8 := [160, 0, 17, 42, 27, 28, 21, 5, 182, 1, 51, 153, 0, 6, 21, 5, 172, 132, 5, 1, 167, 255, 214]
abbrev dktX5_apart_5 : List UInt8 := dkwX5_apart_5 ++ dktX5_apart_6
def dkwX5_apart_4 : List UInt8 := [21, 5, 29, 163, 0, 42, 21, 5, 29, 2, 130, 126, 154, 0, 27, 21, 5, 184, 1, 29, 21, 4]
abbrev dktX5_apart_4 : List UInt8 := dkwX5_apart_4 ++ dktX5_apart_5
def dkwX5_apart_3 : List UInt8 := [182, 1, 51, 154, 0, 6, 16, 254, 172, 3, 54, 4, 21, 4, 42, 180, 0, 141, 163, 0, 57, 3, 54, 5]
abbrev dktX5_apart_3 : List UInt8 := dkwX5_apart_3 ++ dktX5_apart_4
def dkwX5_apart_2 : List UInt8 := [21, 4, 46, 28, 163, 0, 10, 29, 4, 21, 4, 120, 128, 62, 132, 4, 1, 167, 255, 217, 42, 27, 28, 29]
abbrev dktX5_apart_2 : List UInt8 := dkwX5_apart_2 ++ dktX5_apart_3
def dkwX5_apart_1 : List UInt8 := [54, 4, 21, 4, 42, 180, 0, 141, 162, 0, 36, 42, 21, 4, 182, 0, 178, 153, 0, 21, 42, 180, 0, 25]
abbrev dktX5_apart_1 : List UInt8 := dkwX5_apart_1 ++ dktX5_apart_2
def dkwX5_apart_0 : List UInt8 := [27, 184, 0, 148, 153, 0, 10, 28, 184, 0, 118, 154, 0, 5, 2, 172, 42, 182, 1, 17, 3, 62, 3]
abbrev dktX5_apart_0 : List UInt8 := dkwX5_apart_0 ++ dktX5_apart_1
theorem dksX5_apart_0 : cX5_apart.data.toList.drop 0 = dktX5_apart_0 := by decide +kernel
theorem dksX5_apart_1 : cX5_apart.data.toList.drop 23 = dktX5_apart_1 := dk_seg dksX5_apart_0 23 rfl rfl
theorem dksX5_apart_2 : cX5_apart.data.toList.drop 47 = dktX5_apart_2 := dk_seg dksX5_apart_1 24 rfl rfl
theorem dksX5_apart_3 : cX5_apart.data.toList.drop 71 = dktX5_apart_3 := dk_seg dksX5_apart_2 24 rfl rfl
theorem dksX5_apart_4 : cX5_apart.data.toList.drop 95 = dktX5_apart_4 := dk_seg dksX5_apart_3 24 rfl rfl
theorem dksX5_apart_5 : cX5_apart.data.toList.drop 117 = dktX5_apart_5 := dk_seg dksX5_apart_4 22 rfl rfl
theorem dksX5_apart_6 : cX5_apart.data.toList.drop 140 = dktX5_apart_6 := dk_seg dksX5_apart_5 23 rfl rfl
theorem dX5_apart_0 : decode cX5_apart 0 = .ok (.iload_n 1, 1) := dk_27 (dk_at dksX5_apart_0 0 rfl rfl)
theorem dX5_apart_1 : decode cX5_apart 1 = .ok (.invokestatic 148, 3) := dk_184 0 148 (dk_at dksX5_apart_0 1 rfl rfl)
theorem dX5_apart_4 : decode cX5_apart 4 = .ok (.ifCond .eq 10, 3) := dk_153 0 10 (dk_at dksX5_apart_0 4 rfl rfl)
theorem dX5_apart_7 : decode cX5_apart 7 = .ok (.iload_n 2, 1) := dk_28 (dk_at dksX5_apart_0 7 rfl rfl)
theorem dX5_apart_8 : decode cX5_apart 8 = .ok (.invokestatic 118, 3) := dk_184 0 118 (dk_at dksX5_apart_0 8 rfl rfl)
theorem dX5_apart_11 : decode cX5_apart 11 = .ok (.ifCond .ne 5, 3) := dk_154 0 5 (dk_at dksX5_apart_0 11 rfl rfl)
theorem dX5_apart_14 : decode cX5_apart 14 = .ok (.iconst (-1), 1) := dk_2 (dk_at dksX5_apart_0 14 rfl rfl)
theorem dX5_apart_15 : decode cX5_apart 15 = .ok (.ireturn, 1) := dk_172 (dk_at dksX5_apart_0 15 rfl rfl)
theorem dX5_apart_16 : decode cX5_apart 16 = .ok (.aload_n 0, 1) := dk_42 (dk_at dksX5_apart_0 16 rfl rfl)
theorem dX5_apart_17 : decode cX5_apart 17 = .ok (.invokevirtual 273, 3) := dk_182 1 17 (dk_at dksX5_apart_0 17 rfl rfl)
theorem dX5_apart_20 : decode cX5_apart 20 = .ok (.iconst 0, 1) := dk_3 (dk_at dksX5_apart_0 20 rfl rfl)
theorem dX5_apart_21 : decode cX5_apart 21 = .ok (.istore_n 3, 1) := dk_62 (dk_at dksX5_apart_0 21 rfl rfl)
theorem dX5_apart_22 : decode cX5_apart 22 = .ok (.iconst 0, 1) := dk_3 (dk_at dksX5_apart_0 22 rfl rfl)
theorem dX5_apart_23 : decode cX5_apart 23 = .ok (.istore 4, 2) := dk_54 4 (dk_at dksX5_apart_1 0 rfl rfl)
theorem dX5_apart_25 : decode cX5_apart 25 = .ok (.iload 4, 2) := dk_21 4 (dk_at dksX5_apart_1 2 rfl rfl)
theorem dX5_apart_27 : decode cX5_apart 27 = .ok (.aload_n 0, 1) := dk_42 (dk_at dksX5_apart_1 4 rfl rfl)
theorem dX5_apart_28 : decode cX5_apart 28 = .ok (.getfield 141, 3) := dk_180 0 141 (dk_at dksX5_apart_1 5 rfl rfl)
theorem dX5_apart_31 : decode cX5_apart 31 = .ok (.if_icmp .ge 36, 3) := dk_162 0 36 (dk_at dksX5_apart_1 8 rfl rfl)
theorem dX5_apart_34 : decode cX5_apart 34 = .ok (.aload_n 0, 1) := dk_42 (dk_at dksX5_apart_1 11 rfl rfl)
theorem dX5_apart_35 : decode cX5_apart 35 = .ok (.iload 4, 2) := dk_21 4 (dk_at dksX5_apart_1 12 rfl rfl)
theorem dX5_apart_37 : decode cX5_apart 37 = .ok (.invokevirtual 178, 3) := dk_182 0 178 (dk_at dksX5_apart_1 14 rfl rfl)
theorem dX5_apart_40 : decode cX5_apart 40 = .ok (.ifCond .eq 21, 3) := dk_153 0 21 (dk_at dksX5_apart_1 17 rfl rfl)
theorem dX5_apart_43 : decode cX5_apart 43 = .ok (.aload_n 0, 1) := dk_42 (dk_at dksX5_apart_1 20 rfl rfl)
theorem dX5_apart_44 : decode cX5_apart 44 = .ok (.getfield 25, 3) := dk_180 0 25 (dk_at dksX5_apart_1 21 rfl rfl)
theorem dX5_apart_47 : decode cX5_apart 47 = .ok (.iload 4, 2) := dk_21 4 (dk_at dksX5_apart_2 0 rfl rfl)
theorem dX5_apart_49 : decode cX5_apart 49 = .ok (.iaload, 1) := dk_46 (dk_at dksX5_apart_2 2 rfl rfl)
theorem dX5_apart_50 : decode cX5_apart 50 = .ok (.iload_n 2, 1) := dk_28 (dk_at dksX5_apart_2 3 rfl rfl)
theorem dX5_apart_51 : decode cX5_apart 51 = .ok (.if_icmp .gt 10, 3) := dk_163 0 10 (dk_at dksX5_apart_2 4 rfl rfl)
theorem dX5_apart_54 : decode cX5_apart 54 = .ok (.iload_n 3, 1) := dk_29 (dk_at dksX5_apart_2 7 rfl rfl)
theorem dX5_apart_55 : decode cX5_apart 55 = .ok (.iconst 1, 1) := dk_4 (dk_at dksX5_apart_2 8 rfl rfl)
theorem dX5_apart_56 : decode cX5_apart 56 = .ok (.iload 4, 2) := dk_21 4 (dk_at dksX5_apart_2 9 rfl rfl)
theorem dX5_apart_58 : decode cX5_apart 58 = .ok (.ishl, 1) := dk_120 (dk_at dksX5_apart_2 11 rfl rfl)
theorem dX5_apart_59 : decode cX5_apart 59 = .ok (.ior, 1) := dk_128 (dk_at dksX5_apart_2 12 rfl rfl)
theorem dX5_apart_60 : decode cX5_apart 60 = .ok (.istore_n 3, 1) := dk_62 (dk_at dksX5_apart_2 13 rfl rfl)
theorem dX5_apart_61 : decode cX5_apart 61 = .ok (.iinc 4 1, 3) := dk_132 4 1 (dk_at dksX5_apart_2 14 rfl rfl)
theorem dX5_apart_64 : decode cX5_apart 64 = .ok (.goto (-39), 3) := dk_167 255 217 (dk_at dksX5_apart_2 17 rfl rfl)
theorem dX5_apart_67 : decode cX5_apart 67 = .ok (.aload_n 0, 1) := dk_42 (dk_at dksX5_apart_2 20 rfl rfl)
theorem dX5_apart_68 : decode cX5_apart 68 = .ok (.iload_n 1, 1) := dk_27 (dk_at dksX5_apart_2 21 rfl rfl)
theorem dX5_apart_69 : decode cX5_apart 69 = .ok (.iload_n 2, 1) := dk_28 (dk_at dksX5_apart_2 22 rfl rfl)
theorem dX5_apart_70 : decode cX5_apart 70 = .ok (.iload_n 3, 1) := dk_29 (dk_at dksX5_apart_2 23 rfl rfl)
theorem dX5_apart_71 : decode cX5_apart 71 = .ok (.invokevirtual 307, 3) := dk_182 1 51 (dk_at dksX5_apart_3 0 rfl rfl)
theorem dX5_apart_74 : decode cX5_apart 74 = .ok (.ifCond .ne 6, 3) := dk_154 0 6 (dk_at dksX5_apart_3 3 rfl rfl)
theorem dX5_apart_77 : decode cX5_apart 77 = .ok (.bipush (-2), 2) := dk_16 254 (dk_at dksX5_apart_3 6 rfl rfl)
theorem dX5_apart_79 : decode cX5_apart 79 = .ok (.ireturn, 1) := dk_172 (dk_at dksX5_apart_3 8 rfl rfl)
theorem dX5_apart_80 : decode cX5_apart 80 = .ok (.iconst 0, 1) := dk_3 (dk_at dksX5_apart_3 9 rfl rfl)
theorem dX5_apart_81 : decode cX5_apart 81 = .ok (.istore 4, 2) := dk_54 4 (dk_at dksX5_apart_3 10 rfl rfl)
theorem dX5_apart_83 : decode cX5_apart 83 = .ok (.iload 4, 2) := dk_21 4 (dk_at dksX5_apart_3 12 rfl rfl)
theorem dX5_apart_85 : decode cX5_apart 85 = .ok (.aload_n 0, 1) := dk_42 (dk_at dksX5_apart_3 14 rfl rfl)
theorem dX5_apart_86 : decode cX5_apart 86 = .ok (.getfield 141, 3) := dk_180 0 141 (dk_at dksX5_apart_3 15 rfl rfl)
theorem dX5_apart_89 : decode cX5_apart 89 = .ok (.if_icmp .gt 57, 3) := dk_163 0 57 (dk_at dksX5_apart_3 18 rfl rfl)
theorem dX5_apart_92 : decode cX5_apart 92 = .ok (.iconst 0, 1) := dk_3 (dk_at dksX5_apart_3 21 rfl rfl)
theorem dX5_apart_93 : decode cX5_apart 93 = .ok (.istore 5, 2) := dk_54 5 (dk_at dksX5_apart_3 22 rfl rfl)
theorem dX5_apart_95 : decode cX5_apart 95 = .ok (.iload 5, 2) := dk_21 5 (dk_at dksX5_apart_4 0 rfl rfl)
theorem dX5_apart_97 : decode cX5_apart 97 = .ok (.iload_n 3, 1) := dk_29 (dk_at dksX5_apart_4 2 rfl rfl)
theorem dX5_apart_98 : decode cX5_apart 98 = .ok (.if_icmp .gt 42, 3) := dk_163 0 42 (dk_at dksX5_apart_4 3 rfl rfl)
theorem dX5_apart_101 : decode cX5_apart 101 = .ok (.iload 5, 2) := dk_21 5 (dk_at dksX5_apart_4 6 rfl rfl)
theorem dX5_apart_103 : decode cX5_apart 103 = .ok (.iload_n 3, 1) := dk_29 (dk_at dksX5_apart_4 8 rfl rfl)
theorem dX5_apart_104 : decode cX5_apart 104 = .ok (.iconst (-1), 1) := dk_2 (dk_at dksX5_apart_4 9 rfl rfl)
theorem dX5_apart_105 : decode cX5_apart 105 = .ok (.ixor, 1) := dk_130 (dk_at dksX5_apart_4 10 rfl rfl)
theorem dX5_apart_106 : decode cX5_apart 106 = .ok (.iand, 1) := dk_126 (dk_at dksX5_apart_4 11 rfl rfl)
theorem dX5_apart_107 : decode cX5_apart 107 = .ok (.ifCond .ne 27, 3) := dk_154 0 27 (dk_at dksX5_apart_4 12 rfl rfl)
theorem dX5_apart_110 : decode cX5_apart 110 = .ok (.iload 5, 2) := dk_21 5 (dk_at dksX5_apart_4 15 rfl rfl)
theorem dX5_apart_112 : decode cX5_apart 112 = .ok (.invokestatic 285, 3) := dk_184 1 29 (dk_at dksX5_apart_4 17 rfl rfl)
theorem dX5_apart_115 : decode cX5_apart 115 = .ok (.iload 4, 2) := dk_21 4 (dk_at dksX5_apart_4 20 rfl rfl)
theorem dX5_apart_117 : decode cX5_apart 117 = .ok (.if_icmp .ne 17, 3) := dk_160 0 17 (dk_at dksX5_apart_5 0 rfl rfl)
theorem dX5_apart_120 : decode cX5_apart 120 = .ok (.aload_n 0, 1) := dk_42 (dk_at dksX5_apart_5 3 rfl rfl)
theorem dX5_apart_121 : decode cX5_apart 121 = .ok (.iload_n 1, 1) := dk_27 (dk_at dksX5_apart_5 4 rfl rfl)
theorem dX5_apart_122 : decode cX5_apart 122 = .ok (.iload_n 2, 1) := dk_28 (dk_at dksX5_apart_5 5 rfl rfl)
theorem dX5_apart_123 : decode cX5_apart 123 = .ok (.iload 5, 2) := dk_21 5 (dk_at dksX5_apart_5 6 rfl rfl)
theorem dX5_apart_125 : decode cX5_apart 125 = .ok (.invokevirtual 307, 3) := dk_182 1 51 (dk_at dksX5_apart_5 8 rfl rfl)
theorem dX5_apart_128 : decode cX5_apart 128 = .ok (.ifCond .eq 6, 3) := dk_153 0 6 (dk_at dksX5_apart_5 11 rfl rfl)
theorem dX5_apart_131 : decode cX5_apart 131 = .ok (.iload 5, 2) := dk_21 5 (dk_at dksX5_apart_5 14 rfl rfl)
theorem dX5_apart_133 : decode cX5_apart 133 = .ok (.ireturn, 1) := dk_172 (dk_at dksX5_apart_5 16 rfl rfl)
theorem dX5_apart_134 : decode cX5_apart 134 = .ok (.iinc 5 1, 3) := dk_132 5 1 (dk_at dksX5_apart_5 17 rfl rfl)
theorem dX5_apart_137 : decode cX5_apart 137 = .ok (.goto (-42), 3) := dk_167 255 214 (dk_at dksX5_apart_5 20 rfl rfl)
theorem dX5_apart_140 : decode cX5_apart 140 = .ok (.iinc 4 1, 3) := dk_132 4 1 (dk_at dksX5_apart_6 0 rfl rfl)
theorem dX5_apart_143 : decode cX5_apart 143 = .ok (.goto (-60), 3) := dk_167 255 196 (dk_at dksX5_apart_6 3 rfl rfl)
theorem dX5_apart_146 : decode cX5_apart 146 = .ok (.bipush (-2), 2) := dk_16 254 (dk_at dksX5_apart_6 6 rfl rfl)
theorem dX5_apart_148 : decode cX5_apart 148 = .ok (.ireturn, 1) := dk_172 (dk_at dksX5_apart_6 8 rfl rfl)
abbrev cX5_isFreeWithout : ByteArray := prog_25_method_71_code
def yX5_isFreeWithout : MethodName := ⟨RX5, "isFreeWithout", "(III)Z"⟩
def dkwX5_isFreeWithout_1 : List UInt8 := [172]
abbrev dktX5_isFreeWithout_1 : List UInt8 := dkwX5_isFreeWithout_1 ++ []
def dkwX5_isFreeWithout_0 : List UInt8 := [42, 28, 29, 182, 0, 254, 42, 27, 28, 42, 182, 1, 20, 182, 1, 23, 154, 0, 7, 4, 167, 0, 4, 3]
abbrev dktX5_isFreeWithout_0 : List UInt8 := dkwX5_isFreeWithout_0 ++ dktX5_isFreeWithout_1
theorem dksX5_isFreeWithout_0 : cX5_isFreeWithout.data.toList.drop 0 = dktX5_isFreeWithout_0 := by decide +kernel
theorem dksX5_isFreeWithout_1 : cX5_isFreeWithout.data.toList.drop 24 = dktX5_isFreeWithout_1 := dk_seg dksX5_isFreeWithout_0 24 rfl rfl
theorem dX5_isFreeWithout_0 : decode cX5_isFreeWithout 0 = .ok (.aload_n 0, 1) := dk_42 (dk_at dksX5_isFreeWithout_0 0 rfl rfl)
theorem dX5_isFreeWithout_1 : decode cX5_isFreeWithout 1 = .ok (.iload_n 2, 1) := dk_28 (dk_at dksX5_isFreeWithout_0 1 rfl rfl)
theorem dX5_isFreeWithout_2 : decode cX5_isFreeWithout 2 = .ok (.iload_n 3, 1) := dk_29 (dk_at dksX5_isFreeWithout_0 2 rfl rfl)
theorem dX5_isFreeWithout_3 : decode cX5_isFreeWithout 3 = .ok (.invokevirtual 254, 3) := dk_182 0 254 (dk_at dksX5_isFreeWithout_0 3 rfl rfl)
theorem dX5_isFreeWithout_6 : decode cX5_isFreeWithout 6 = .ok (.aload_n 0, 1) := dk_42 (dk_at dksX5_isFreeWithout_0 6 rfl rfl)
theorem dX5_isFreeWithout_7 : decode cX5_isFreeWithout 7 = .ok (.iload_n 1, 1) := dk_27 (dk_at dksX5_isFreeWithout_0 7 rfl rfl)
theorem dX5_isFreeWithout_8 : decode cX5_isFreeWithout 8 = .ok (.iload_n 2, 1) := dk_28 (dk_at dksX5_isFreeWithout_0 8 rfl rfl)
theorem dX5_isFreeWithout_9 : decode cX5_isFreeWithout 9 = .ok (.aload_n 0, 1) := dk_42 (dk_at dksX5_isFreeWithout_0 9 rfl rfl)
theorem dX5_isFreeWithout_10 : decode cX5_isFreeWithout 10 = .ok (.invokevirtual 276, 3) := dk_182 1 20 (dk_at dksX5_isFreeWithout_0 10 rfl rfl)
theorem dX5_isFreeWithout_13 : decode cX5_isFreeWithout 13 = .ok (.invokevirtual 279, 3) := dk_182 1 23 (dk_at dksX5_isFreeWithout_0 13 rfl rfl)
theorem dX5_isFreeWithout_16 : decode cX5_isFreeWithout 16 = .ok (.ifCond .ne 7, 3) := dk_154 0 7 (dk_at dksX5_isFreeWithout_0 16 rfl rfl)
theorem dX5_isFreeWithout_19 : decode cX5_isFreeWithout 19 = .ok (.iconst 1, 1) := dk_4 (dk_at dksX5_isFreeWithout_0 19 rfl rfl)
theorem dX5_isFreeWithout_20 : decode cX5_isFreeWithout 20 = .ok (.goto 4, 3) := dk_167 0 4 (dk_at dksX5_isFreeWithout_0 20 rfl rfl)
theorem dX5_isFreeWithout_23 : decode cX5_isFreeWithout 23 = .ok (.iconst 0, 1) := dk_3 (dk_at dksX5_isFreeWithout_0 23 rfl rfl)
theorem dX5_isFreeWithout_24 : decode cX5_isFreeWithout 24 = .ok (.ireturn, 1) := dk_172 (dk_at dksX5_isFreeWithout_1 0 rfl rfl)
abbrev cX5_freed : ByteArray := prog_25_method_73_code
def yX5_freed : MethodName := ⟨RX5, "freed", "(II)I"⟩
def dkwX5_freed_3 : List UInt8 := [4, 21, 4, 120, 128, 62, 132, 4, 1, 167, 255, 208, 29, 172]
abbrev dktX5_freed_3 : List UInt8 := dkwX5_freed_3 ++ []
def dkwX5_freed_2 : List UInt8 := [182, 1, 11, 154, 0, 27, 42, 21, 4, 28, 42, 182, 1, 20, 182, 1, 14, 4, 27, 120, 160, 0, 10, 29]
abbrev dktX5_freed_2 : List UInt8 := dkwX5_freed_2 ++ dktX5_freed_3
def dkwX5_freed_1 : List UInt8 := [182, 0, 254, 3, 62, 3, 54, 4, 21, 4, 16, 12, 162, 0, 47, 42, 21, 4, 28, 42, 182, 1, 20]
abbrev dktX5_freed_1 : List UInt8 := dkwX5_freed_1 ++ dktX5_freed_2
def dkwX5_freed_0 : List UInt8 := [42, 27, 182, 0, 135, 153, 0, 10, 28, 184, 0, 118, 154, 0, 5, 2, 172, 42, 182, 1, 17, 42, 28, 3]
abbrev dktX5_freed_0 : List UInt8 := dkwX5_freed_0 ++ dktX5_freed_1
theorem dksX5_freed_0 : cX5_freed.data.toList.drop 0 = dktX5_freed_0 := by decide +kernel
theorem dksX5_freed_1 : cX5_freed.data.toList.drop 24 = dktX5_freed_1 := dk_seg dksX5_freed_0 24 rfl rfl
theorem dksX5_freed_2 : cX5_freed.data.toList.drop 47 = dktX5_freed_2 := dk_seg dksX5_freed_1 23 rfl rfl
theorem dksX5_freed_3 : cX5_freed.data.toList.drop 71 = dktX5_freed_3 := dk_seg dksX5_freed_2 24 rfl rfl
theorem dX5_freed_0 : decode cX5_freed 0 = .ok (.aload_n 0, 1) := dk_42 (dk_at dksX5_freed_0 0 rfl rfl)
theorem dX5_freed_1 : decode cX5_freed 1 = .ok (.iload_n 1, 1) := dk_27 (dk_at dksX5_freed_0 1 rfl rfl)
theorem dX5_freed_2 : decode cX5_freed 2 = .ok (.invokevirtual 135, 3) := dk_182 0 135 (dk_at dksX5_freed_0 2 rfl rfl)
theorem dX5_freed_5 : decode cX5_freed 5 = .ok (.ifCond .eq 10, 3) := dk_153 0 10 (dk_at dksX5_freed_0 5 rfl rfl)
theorem dX5_freed_8 : decode cX5_freed 8 = .ok (.iload_n 2, 1) := dk_28 (dk_at dksX5_freed_0 8 rfl rfl)
theorem dX5_freed_9 : decode cX5_freed 9 = .ok (.invokestatic 118, 3) := dk_184 0 118 (dk_at dksX5_freed_0 9 rfl rfl)
theorem dX5_freed_12 : decode cX5_freed 12 = .ok (.ifCond .ne 5, 3) := dk_154 0 5 (dk_at dksX5_freed_0 12 rfl rfl)
theorem dX5_freed_15 : decode cX5_freed 15 = .ok (.iconst (-1), 1) := dk_2 (dk_at dksX5_freed_0 15 rfl rfl)
theorem dX5_freed_16 : decode cX5_freed 16 = .ok (.ireturn, 1) := dk_172 (dk_at dksX5_freed_0 16 rfl rfl)
theorem dX5_freed_17 : decode cX5_freed 17 = .ok (.aload_n 0, 1) := dk_42 (dk_at dksX5_freed_0 17 rfl rfl)
theorem dX5_freed_18 : decode cX5_freed 18 = .ok (.invokevirtual 273, 3) := dk_182 1 17 (dk_at dksX5_freed_0 18 rfl rfl)
theorem dX5_freed_21 : decode cX5_freed 21 = .ok (.aload_n 0, 1) := dk_42 (dk_at dksX5_freed_0 21 rfl rfl)
theorem dX5_freed_22 : decode cX5_freed 22 = .ok (.iload_n 2, 1) := dk_28 (dk_at dksX5_freed_0 22 rfl rfl)
theorem dX5_freed_23 : decode cX5_freed 23 = .ok (.iconst 0, 1) := dk_3 (dk_at dksX5_freed_0 23 rfl rfl)
theorem dX5_freed_24 : decode cX5_freed 24 = .ok (.invokevirtual 254, 3) := dk_182 0 254 (dk_at dksX5_freed_1 0 rfl rfl)
theorem dX5_freed_27 : decode cX5_freed 27 = .ok (.iconst 0, 1) := dk_3 (dk_at dksX5_freed_1 3 rfl rfl)
theorem dX5_freed_28 : decode cX5_freed 28 = .ok (.istore_n 3, 1) := dk_62 (dk_at dksX5_freed_1 4 rfl rfl)
theorem dX5_freed_29 : decode cX5_freed 29 = .ok (.iconst 0, 1) := dk_3 (dk_at dksX5_freed_1 5 rfl rfl)
theorem dX5_freed_30 : decode cX5_freed 30 = .ok (.istore 4, 2) := dk_54 4 (dk_at dksX5_freed_1 6 rfl rfl)
theorem dX5_freed_32 : decode cX5_freed 32 = .ok (.iload 4, 2) := dk_21 4 (dk_at dksX5_freed_1 8 rfl rfl)
theorem dX5_freed_34 : decode cX5_freed 34 = .ok (.bipush 12, 2) := dk_16 12 (dk_at dksX5_freed_1 10 rfl rfl)
theorem dX5_freed_36 : decode cX5_freed 36 = .ok (.if_icmp .ge 47, 3) := dk_162 0 47 (dk_at dksX5_freed_1 12 rfl rfl)
theorem dX5_freed_39 : decode cX5_freed 39 = .ok (.aload_n 0, 1) := dk_42 (dk_at dksX5_freed_1 15 rfl rfl)
theorem dX5_freed_40 : decode cX5_freed 40 = .ok (.iload 4, 2) := dk_21 4 (dk_at dksX5_freed_1 16 rfl rfl)
theorem dX5_freed_42 : decode cX5_freed 42 = .ok (.iload_n 2, 1) := dk_28 (dk_at dksX5_freed_1 18 rfl rfl)
theorem dX5_freed_43 : decode cX5_freed 43 = .ok (.aload_n 0, 1) := dk_42 (dk_at dksX5_freed_1 19 rfl rfl)
theorem dX5_freed_44 : decode cX5_freed 44 = .ok (.invokevirtual 276, 3) := dk_182 1 20 (dk_at dksX5_freed_1 20 rfl rfl)
theorem dX5_freed_47 : decode cX5_freed 47 = .ok (.invokevirtual 267, 3) := dk_182 1 11 (dk_at dksX5_freed_2 0 rfl rfl)
theorem dX5_freed_50 : decode cX5_freed 50 = .ok (.ifCond .ne 27, 3) := dk_154 0 27 (dk_at dksX5_freed_2 3 rfl rfl)
theorem dX5_freed_53 : decode cX5_freed 53 = .ok (.aload_n 0, 1) := dk_42 (dk_at dksX5_freed_2 6 rfl rfl)
theorem dX5_freed_54 : decode cX5_freed 54 = .ok (.iload 4, 2) := dk_21 4 (dk_at dksX5_freed_2 7 rfl rfl)
theorem dX5_freed_56 : decode cX5_freed 56 = .ok (.iload_n 2, 1) := dk_28 (dk_at dksX5_freed_2 9 rfl rfl)
theorem dX5_freed_57 : decode cX5_freed 57 = .ok (.aload_n 0, 1) := dk_42 (dk_at dksX5_freed_2 10 rfl rfl)
theorem dX5_freed_58 : decode cX5_freed 58 = .ok (.invokevirtual 276, 3) := dk_182 1 20 (dk_at dksX5_freed_2 11 rfl rfl)
theorem dX5_freed_61 : decode cX5_freed 61 = .ok (.invokevirtual 270, 3) := dk_182 1 14 (dk_at dksX5_freed_2 14 rfl rfl)
theorem dX5_freed_64 : decode cX5_freed 64 = .ok (.iconst 1, 1) := dk_4 (dk_at dksX5_freed_2 17 rfl rfl)
theorem dX5_freed_65 : decode cX5_freed 65 = .ok (.iload_n 1, 1) := dk_27 (dk_at dksX5_freed_2 18 rfl rfl)
theorem dX5_freed_66 : decode cX5_freed 66 = .ok (.ishl, 1) := dk_120 (dk_at dksX5_freed_2 19 rfl rfl)
theorem dX5_freed_67 : decode cX5_freed 67 = .ok (.if_icmp .ne 10, 3) := dk_160 0 10 (dk_at dksX5_freed_2 20 rfl rfl)
theorem dX5_freed_70 : decode cX5_freed 70 = .ok (.iload_n 3, 1) := dk_29 (dk_at dksX5_freed_2 23 rfl rfl)
theorem dX5_freed_71 : decode cX5_freed 71 = .ok (.iconst 1, 1) := dk_4 (dk_at dksX5_freed_3 0 rfl rfl)
theorem dX5_freed_72 : decode cX5_freed 72 = .ok (.iload 4, 2) := dk_21 4 (dk_at dksX5_freed_3 1 rfl rfl)
theorem dX5_freed_74 : decode cX5_freed 74 = .ok (.ishl, 1) := dk_120 (dk_at dksX5_freed_3 3 rfl rfl)
theorem dX5_freed_75 : decode cX5_freed 75 = .ok (.ior, 1) := dk_128 (dk_at dksX5_freed_3 4 rfl rfl)
theorem dX5_freed_76 : decode cX5_freed 76 = .ok (.istore_n 3, 1) := dk_62 (dk_at dksX5_freed_3 5 rfl rfl)
theorem dX5_freed_77 : decode cX5_freed 77 = .ok (.iinc 4 1, 3) := dk_132 4 1 (dk_at dksX5_freed_3 6 rfl rfl)
theorem dX5_freed_80 : decode cX5_freed 80 = .ok (.goto (-48), 3) := dk_167 255 208 (dk_at dksX5_freed_3 9 rfl rfl)
theorem dX5_freed_83 : decode cX5_freed 83 = .ok (.iload_n 3, 1) := dk_29 (dk_at dksX5_freed_3 12 rfl rfl)
theorem dX5_freed_84 : decode cX5_freed 84 = .ok (.ireturn, 1) := dk_172 (dk_at dksX5_freed_3 13 rfl rfl)
abbrev cX5_never : ByteArray := prog_25_method_74_code
def yX5_never : MethodName := ⟨RX5, "never", "(I)I"⟩
def dkwX5_never_5 : List UInt8 := [132, 3, 1, 167, 255, 152, 28, 172]
abbrev dktX5_never_5 : List UInt8 := dkwX5_never_5 ++ []
def dkwX5_never_4 : List UInt8 := [180, 0, 7, 29, 46, 182, 0, 138, 153, 0, 10, 28, 4, 21, 4, 120, 128, 61, 132, 4, 1, 167, 255, 210]
abbrev dktX5_never_4 : List UInt8 := dkwX5_never_4 ++ dktX5_never_5
def dkwX5_never_3 : List UInt8 := [180, 0, 111, 162, 0, 43, 21, 4, 27, 159, 0, 31, 21, 4, 29, 159, 0, 25, 42, 21, 4, 42]
abbrev dktX5_never_3 : List UInt8 := dkwX5_never_3 ++ dktX5_never_4
def dkwX5_never_2 : List UInt8 := [46, 160, 0, 67, 42, 27, 29, 182, 0, 168, 154, 0, 6, 167, 0, 55, 3, 54, 4, 21, 4, 42]
abbrev dktX5_never_2 : List UInt8 := dkwX5_never_2 ++ dktX5_never_3
def dkwX5_never_1 : List UInt8 := [180, 0, 16, 27, 46, 155, 0, 87, 29, 27, 159, 0, 82, 42, 180, 0, 16, 29, 46, 42, 180, 0, 16, 27]
abbrev dktX5_never_1 : List UInt8 := dkwX5_never_1 ++ dktX5_never_2
def dkwX5_never_0 : List UInt8 := [42, 27, 182, 0, 135, 154, 0, 5, 2, 172, 3, 61, 3, 62, 29, 42, 180, 0, 111, 162, 0, 102, 42]
abbrev dktX5_never_0 : List UInt8 := dkwX5_never_0 ++ dktX5_never_1
theorem dksX5_never_0 : cX5_never.data.toList.drop 0 = dktX5_never_0 := by decide +kernel
theorem dksX5_never_1 : cX5_never.data.toList.drop 23 = dktX5_never_1 := dk_seg dksX5_never_0 23 rfl rfl
theorem dksX5_never_2 : cX5_never.data.toList.drop 47 = dktX5_never_2 := dk_seg dksX5_never_1 24 rfl rfl
theorem dksX5_never_3 : cX5_never.data.toList.drop 69 = dktX5_never_3 := dk_seg dksX5_never_2 22 rfl rfl
theorem dksX5_never_4 : cX5_never.data.toList.drop 91 = dktX5_never_4 := dk_seg dksX5_never_3 22 rfl rfl
theorem dksX5_never_5 : cX5_never.data.toList.drop 115 = dktX5_never_5 := dk_seg dksX5_never_4 24 rfl rfl
theorem dX5_never_0 : decode cX5_never 0 = .ok (.aload_n 0, 1) := dk_42 (dk_at dksX5_never_0 0 rfl rfl)
theorem dX5_never_1 : decode cX5_never 1 = .ok (.iload_n 1, 1) := dk_27 (dk_at dksX5_never_0 1 rfl rfl)
theorem dX5_never_2 : decode cX5_never 2 = .ok (.invokevirtual 135, 3) := dk_182 0 135 (dk_at dksX5_never_0 2 rfl rfl)
theorem dX5_never_5 : decode cX5_never 5 = .ok (.ifCond .ne 5, 3) := dk_154 0 5 (dk_at dksX5_never_0 5 rfl rfl)
theorem dX5_never_8 : decode cX5_never 8 = .ok (.iconst (-1), 1) := dk_2 (dk_at dksX5_never_0 8 rfl rfl)
theorem dX5_never_9 : decode cX5_never 9 = .ok (.ireturn, 1) := dk_172 (dk_at dksX5_never_0 9 rfl rfl)
theorem dX5_never_10 : decode cX5_never 10 = .ok (.iconst 0, 1) := dk_3 (dk_at dksX5_never_0 10 rfl rfl)
theorem dX5_never_11 : decode cX5_never 11 = .ok (.istore_n 2, 1) := dk_61 (dk_at dksX5_never_0 11 rfl rfl)
theorem dX5_never_12 : decode cX5_never 12 = .ok (.iconst 0, 1) := dk_3 (dk_at dksX5_never_0 12 rfl rfl)
theorem dX5_never_13 : decode cX5_never 13 = .ok (.istore_n 3, 1) := dk_62 (dk_at dksX5_never_0 13 rfl rfl)
theorem dX5_never_14 : decode cX5_never 14 = .ok (.iload_n 3, 1) := dk_29 (dk_at dksX5_never_0 14 rfl rfl)
theorem dX5_never_15 : decode cX5_never 15 = .ok (.aload_n 0, 1) := dk_42 (dk_at dksX5_never_0 15 rfl rfl)
theorem dX5_never_16 : decode cX5_never 16 = .ok (.getfield 111, 3) := dk_180 0 111 (dk_at dksX5_never_0 16 rfl rfl)
theorem dX5_never_19 : decode cX5_never 19 = .ok (.if_icmp .ge 102, 3) := dk_162 0 102 (dk_at dksX5_never_0 19 rfl rfl)
theorem dX5_never_22 : decode cX5_never 22 = .ok (.aload_n 0, 1) := dk_42 (dk_at dksX5_never_0 22 rfl rfl)
theorem dX5_never_23 : decode cX5_never 23 = .ok (.getfield 16, 3) := dk_180 0 16 (dk_at dksX5_never_1 0 rfl rfl)
theorem dX5_never_26 : decode cX5_never 26 = .ok (.iload_n 1, 1) := dk_27 (dk_at dksX5_never_1 3 rfl rfl)
theorem dX5_never_27 : decode cX5_never 27 = .ok (.iaload, 1) := dk_46 (dk_at dksX5_never_1 4 rfl rfl)
theorem dX5_never_28 : decode cX5_never 28 = .ok (.ifCond .lt 87, 3) := dk_155 0 87 (dk_at dksX5_never_1 5 rfl rfl)
theorem dX5_never_31 : decode cX5_never 31 = .ok (.iload_n 3, 1) := dk_29 (dk_at dksX5_never_1 8 rfl rfl)
theorem dX5_never_32 : decode cX5_never 32 = .ok (.iload_n 1, 1) := dk_27 (dk_at dksX5_never_1 9 rfl rfl)
theorem dX5_never_33 : decode cX5_never 33 = .ok (.if_icmp .eq 82, 3) := dk_159 0 82 (dk_at dksX5_never_1 10 rfl rfl)
theorem dX5_never_36 : decode cX5_never 36 = .ok (.aload_n 0, 1) := dk_42 (dk_at dksX5_never_1 13 rfl rfl)
theorem dX5_never_37 : decode cX5_never 37 = .ok (.getfield 16, 3) := dk_180 0 16 (dk_at dksX5_never_1 14 rfl rfl)
theorem dX5_never_40 : decode cX5_never 40 = .ok (.iload_n 3, 1) := dk_29 (dk_at dksX5_never_1 17 rfl rfl)
theorem dX5_never_41 : decode cX5_never 41 = .ok (.iaload, 1) := dk_46 (dk_at dksX5_never_1 18 rfl rfl)
theorem dX5_never_42 : decode cX5_never 42 = .ok (.aload_n 0, 1) := dk_42 (dk_at dksX5_never_1 19 rfl rfl)
theorem dX5_never_43 : decode cX5_never 43 = .ok (.getfield 16, 3) := dk_180 0 16 (dk_at dksX5_never_1 20 rfl rfl)
theorem dX5_never_46 : decode cX5_never 46 = .ok (.iload_n 1, 1) := dk_27 (dk_at dksX5_never_1 23 rfl rfl)
theorem dX5_never_47 : decode cX5_never 47 = .ok (.iaload, 1) := dk_46 (dk_at dksX5_never_2 0 rfl rfl)
theorem dX5_never_48 : decode cX5_never 48 = .ok (.if_icmp .ne 67, 3) := dk_160 0 67 (dk_at dksX5_never_2 1 rfl rfl)
theorem dX5_never_51 : decode cX5_never 51 = .ok (.aload_n 0, 1) := dk_42 (dk_at dksX5_never_2 4 rfl rfl)
theorem dX5_never_52 : decode cX5_never 52 = .ok (.iload_n 1, 1) := dk_27 (dk_at dksX5_never_2 5 rfl rfl)
theorem dX5_never_53 : decode cX5_never 53 = .ok (.iload_n 3, 1) := dk_29 (dk_at dksX5_never_2 6 rfl rfl)
theorem dX5_never_54 : decode cX5_never 54 = .ok (.invokevirtual 168, 3) := dk_182 0 168 (dk_at dksX5_never_2 7 rfl rfl)
theorem dX5_never_57 : decode cX5_never 57 = .ok (.ifCond .ne 6, 3) := dk_154 0 6 (dk_at dksX5_never_2 10 rfl rfl)
theorem dX5_never_60 : decode cX5_never 60 = .ok (.goto 55, 3) := dk_167 0 55 (dk_at dksX5_never_2 13 rfl rfl)
theorem dX5_never_63 : decode cX5_never 63 = .ok (.iconst 0, 1) := dk_3 (dk_at dksX5_never_2 16 rfl rfl)
theorem dX5_never_64 : decode cX5_never 64 = .ok (.istore 4, 2) := dk_54 4 (dk_at dksX5_never_2 17 rfl rfl)
theorem dX5_never_66 : decode cX5_never 66 = .ok (.iload 4, 2) := dk_21 4 (dk_at dksX5_never_2 19 rfl rfl)
theorem dX5_never_68 : decode cX5_never 68 = .ok (.aload_n 0, 1) := dk_42 (dk_at dksX5_never_2 21 rfl rfl)
theorem dX5_never_69 : decode cX5_never 69 = .ok (.getfield 111, 3) := dk_180 0 111 (dk_at dksX5_never_3 0 rfl rfl)
theorem dX5_never_72 : decode cX5_never 72 = .ok (.if_icmp .ge 43, 3) := dk_162 0 43 (dk_at dksX5_never_3 3 rfl rfl)
theorem dX5_never_75 : decode cX5_never 75 = .ok (.iload 4, 2) := dk_21 4 (dk_at dksX5_never_3 6 rfl rfl)
theorem dX5_never_77 : decode cX5_never 77 = .ok (.iload_n 1, 1) := dk_27 (dk_at dksX5_never_3 8 rfl rfl)
theorem dX5_never_78 : decode cX5_never 78 = .ok (.if_icmp .eq 31, 3) := dk_159 0 31 (dk_at dksX5_never_3 9 rfl rfl)
theorem dX5_never_81 : decode cX5_never 81 = .ok (.iload 4, 2) := dk_21 4 (dk_at dksX5_never_3 12 rfl rfl)
theorem dX5_never_83 : decode cX5_never 83 = .ok (.iload_n 3, 1) := dk_29 (dk_at dksX5_never_3 14 rfl rfl)
theorem dX5_never_84 : decode cX5_never 84 = .ok (.if_icmp .eq 25, 3) := dk_159 0 25 (dk_at dksX5_never_3 15 rfl rfl)
theorem dX5_never_87 : decode cX5_never 87 = .ok (.aload_n 0, 1) := dk_42 (dk_at dksX5_never_3 18 rfl rfl)
theorem dX5_never_88 : decode cX5_never 88 = .ok (.iload 4, 2) := dk_21 4 (dk_at dksX5_never_3 19 rfl rfl)
theorem dX5_never_90 : decode cX5_never 90 = .ok (.aload_n 0, 1) := dk_42 (dk_at dksX5_never_3 21 rfl rfl)
theorem dX5_never_91 : decode cX5_never 91 = .ok (.getfield 7, 3) := dk_180 0 7 (dk_at dksX5_never_4 0 rfl rfl)
theorem dX5_never_94 : decode cX5_never 94 = .ok (.iload_n 3, 1) := dk_29 (dk_at dksX5_never_4 3 rfl rfl)
theorem dX5_never_95 : decode cX5_never 95 = .ok (.iaload, 1) := dk_46 (dk_at dksX5_never_4 4 rfl rfl)
theorem dX5_never_96 : decode cX5_never 96 = .ok (.invokevirtual 138, 3) := dk_182 0 138 (dk_at dksX5_never_4 5 rfl rfl)
theorem dX5_never_99 : decode cX5_never 99 = .ok (.ifCond .eq 10, 3) := dk_153 0 10 (dk_at dksX5_never_4 8 rfl rfl)
theorem dX5_never_102 : decode cX5_never 102 = .ok (.iload_n 2, 1) := dk_28 (dk_at dksX5_never_4 11 rfl rfl)
theorem dX5_never_103 : decode cX5_never 103 = .ok (.iconst 1, 1) := dk_4 (dk_at dksX5_never_4 12 rfl rfl)
theorem dX5_never_104 : decode cX5_never 104 = .ok (.iload 4, 2) := dk_21 4 (dk_at dksX5_never_4 13 rfl rfl)
theorem dX5_never_106 : decode cX5_never 106 = .ok (.ishl, 1) := dk_120 (dk_at dksX5_never_4 15 rfl rfl)
theorem dX5_never_107 : decode cX5_never 107 = .ok (.ior, 1) := dk_128 (dk_at dksX5_never_4 16 rfl rfl)
theorem dX5_never_108 : decode cX5_never 108 = .ok (.istore_n 2, 1) := dk_61 (dk_at dksX5_never_4 17 rfl rfl)
theorem dX5_never_109 : decode cX5_never 109 = .ok (.iinc 4 1, 3) := dk_132 4 1 (dk_at dksX5_never_4 18 rfl rfl)
theorem dX5_never_112 : decode cX5_never 112 = .ok (.goto (-46), 3) := dk_167 255 210 (dk_at dksX5_never_4 21 rfl rfl)
theorem dX5_never_115 : decode cX5_never 115 = .ok (.iinc 3 1, 3) := dk_132 3 1 (dk_at dksX5_never_5 0 rfl rfl)
theorem dX5_never_118 : decode cX5_never 118 = .ok (.goto (-104), 3) := dk_167 255 152 (dk_at dksX5_never_5 3 rfl rfl)
theorem dX5_never_121 : decode cX5_never 121 = .ok (.iload_n 2, 1) := dk_28 (dk_at dksX5_never_5 6 rfl rfl)
theorem dX5_never_122 : decode cX5_never 122 = .ok (.ireturn, 1) := dk_172 (dk_at dksX5_never_5 7 rfl rfl)
abbrev cX5_needs : ByteArray := prog_25_method_75_code
def yX5_needs : MethodName := ⟨RX5, "needs", "(III)I"⟩
def dkwX5_needs_9 : List UInt8 := [167, 0, 5, 21, 6, 172]
abbrev dktX5_needs_9 : List UInt8 := dkwX5_needs_9 ++ []
def dkwX5_needs_8 : List UInt8 := [42, 180, 0, 82, 21, 7, 46, 79, 132, 7, 1, 167, 255, 230, 29, 154, 0, 10, 21, 5, 28, 108]
abbrev dktX5_needs_8 : List UInt8 := dkwX5_needs_8 ++ dktX5_needs_9
def dkwX5_needs_7 : List UInt8 := [132, 7, 1, 167, 255, 155, 3, 54, 7, 21, 7, 42, 180, 0, 111, 162, 0, 23, 42, 180, 0, 13, 21, 7]
abbrev dktX5_needs_7 : List UInt8 := dkwX5_needs_7 ++ dktX5_needs_8
def dkwX5_needs_6 : List UInt8 := [182, 1, 48, 54, 8, 21, 5, 21, 8, 96, 54, 5, 21, 8, 21, 6, 164, 0, 7, 21, 8, 54, 6]
abbrev dktX5_needs_6 : List UInt8 := dkwX5_needs_6 ++ dktX5_needs_7
def dkwX5_needs_5 : List UInt8 := [180, 0, 7, 21, 8, 46, 100, 112, 96, 79, 132, 8, 1, 167, 255, 199, 42, 3, 182, 1, 44, 42]
abbrev dktX5_needs_5 : List UInt8 := dkwX5_needs_5 ++ dktX5_needs_6
def dkwX5_needs_4 : List UInt8 := [42, 180, 0, 13, 21, 8, 42, 180, 0, 7, 21, 8, 46, 4, 96, 21, 4, 16, 8, 124, 16, 100, 42]
abbrev dktX5_needs_4 : List UInt8 := dkwX5_needs_4 ++ dktX5_needs_5
def dkwX5_needs_3 : List UInt8 := [3, 54, 8, 21, 8, 42, 180, 0, 111, 162, 0, 54, 21, 4, 19, 1, 54, 104, 17, 48, 57, 96, 54, 4]
abbrev dktX5_needs_3 : List UInt8 := dkwX5_needs_3 ++ dktX5_needs_4
def dkwX5_needs_2 : List UInt8 := [132, 4, 1, 167, 255, 230, 27, 54, 4, 3, 54, 5, 3, 54, 6, 3, 54, 7, 21, 7, 28, 162, 0, 101]
abbrev dktX5_needs_2 : List UInt8 := dkwX5_needs_2 ++ dktX5_needs_3
def dkwX5_needs_1 : List UInt8 := [21, 4, 42, 180, 0, 111, 162, 0, 23, 42, 180, 0, 82, 21, 4, 42, 180, 0, 13, 21, 4, 46, 79]
abbrev dktX5_needs_1 : List UInt8 := dkwX5_needs_1 ++ dktX5_needs_2
def dkwX5_needs_0 : List UInt8 := [28, 4, 16, 20, 184, 0, 114, 153, 0, 12, 29, 3, 4, 184, 0, 114, 154, 0, 5, 2, 172, 3, 54, 4]
abbrev dktX5_needs_0 : List UInt8 := dkwX5_needs_0 ++ dktX5_needs_1
theorem dksX5_needs_0 : cX5_needs.data.toList.drop 0 = dktX5_needs_0 := by decide +kernel
theorem dksX5_needs_1 : cX5_needs.data.toList.drop 24 = dktX5_needs_1 := dk_seg dksX5_needs_0 24 rfl rfl
theorem dksX5_needs_2 : cX5_needs.data.toList.drop 47 = dktX5_needs_2 := dk_seg dksX5_needs_1 23 rfl rfl
theorem dksX5_needs_3 : cX5_needs.data.toList.drop 71 = dktX5_needs_3 := dk_seg dksX5_needs_2 24 rfl rfl
theorem dksX5_needs_4 : cX5_needs.data.toList.drop 95 = dktX5_needs_4 := dk_seg dksX5_needs_3 24 rfl rfl
theorem dksX5_needs_5 : cX5_needs.data.toList.drop 118 = dktX5_needs_5 := dk_seg dksX5_needs_4 23 rfl rfl
theorem dksX5_needs_6 : cX5_needs.data.toList.drop 140 = dktX5_needs_6 := dk_seg dksX5_needs_5 22 rfl rfl
theorem dksX5_needs_7 : cX5_needs.data.toList.drop 163 = dktX5_needs_7 := dk_seg dksX5_needs_6 23 rfl rfl
theorem dksX5_needs_8 : cX5_needs.data.toList.drop 187 = dktX5_needs_8 := dk_seg dksX5_needs_7 24 rfl rfl
theorem dksX5_needs_9 : cX5_needs.data.toList.drop 209 = dktX5_needs_9 := dk_seg dksX5_needs_8 22 rfl rfl
theorem dX5_needs_0 : decode cX5_needs 0 = .ok (.iload_n 2, 1) := dk_28 (dk_at dksX5_needs_0 0 rfl rfl)
theorem dX5_needs_1 : decode cX5_needs 1 = .ok (.iconst 1, 1) := dk_4 (dk_at dksX5_needs_0 1 rfl rfl)
theorem dX5_needs_2 : decode cX5_needs 2 = .ok (.bipush 20, 2) := dk_16 20 (dk_at dksX5_needs_0 2 rfl rfl)
theorem dX5_needs_4 : decode cX5_needs 4 = .ok (.invokestatic 114, 3) := dk_184 0 114 (dk_at dksX5_needs_0 4 rfl rfl)
theorem dX5_needs_7 : decode cX5_needs 7 = .ok (.ifCond .eq 12, 3) := dk_153 0 12 (dk_at dksX5_needs_0 7 rfl rfl)
theorem dX5_needs_10 : decode cX5_needs 10 = .ok (.iload_n 3, 1) := dk_29 (dk_at dksX5_needs_0 10 rfl rfl)
theorem dX5_needs_11 : decode cX5_needs 11 = .ok (.iconst 0, 1) := dk_3 (dk_at dksX5_needs_0 11 rfl rfl)
theorem dX5_needs_12 : decode cX5_needs 12 = .ok (.iconst 1, 1) := dk_4 (dk_at dksX5_needs_0 12 rfl rfl)
theorem dX5_needs_13 : decode cX5_needs 13 = .ok (.invokestatic 114, 3) := dk_184 0 114 (dk_at dksX5_needs_0 13 rfl rfl)
theorem dX5_needs_16 : decode cX5_needs 16 = .ok (.ifCond .ne 5, 3) := dk_154 0 5 (dk_at dksX5_needs_0 16 rfl rfl)
theorem dX5_needs_19 : decode cX5_needs 19 = .ok (.iconst (-1), 1) := dk_2 (dk_at dksX5_needs_0 19 rfl rfl)
theorem dX5_needs_20 : decode cX5_needs 20 = .ok (.ireturn, 1) := dk_172 (dk_at dksX5_needs_0 20 rfl rfl)
theorem dX5_needs_21 : decode cX5_needs 21 = .ok (.iconst 0, 1) := dk_3 (dk_at dksX5_needs_0 21 rfl rfl)
theorem dX5_needs_22 : decode cX5_needs 22 = .ok (.istore 4, 2) := dk_54 4 (dk_at dksX5_needs_0 22 rfl rfl)
theorem dX5_needs_24 : decode cX5_needs 24 = .ok (.iload 4, 2) := dk_21 4 (dk_at dksX5_needs_1 0 rfl rfl)
theorem dX5_needs_26 : decode cX5_needs 26 = .ok (.aload_n 0, 1) := dk_42 (dk_at dksX5_needs_1 2 rfl rfl)
theorem dX5_needs_27 : decode cX5_needs 27 = .ok (.getfield 111, 3) := dk_180 0 111 (dk_at dksX5_needs_1 3 rfl rfl)
theorem dX5_needs_30 : decode cX5_needs 30 = .ok (.if_icmp .ge 23, 3) := dk_162 0 23 (dk_at dksX5_needs_1 6 rfl rfl)
theorem dX5_needs_33 : decode cX5_needs 33 = .ok (.aload_n 0, 1) := dk_42 (dk_at dksX5_needs_1 9 rfl rfl)
theorem dX5_needs_34 : decode cX5_needs 34 = .ok (.getfield 82, 3) := dk_180 0 82 (dk_at dksX5_needs_1 10 rfl rfl)
theorem dX5_needs_37 : decode cX5_needs 37 = .ok (.iload 4, 2) := dk_21 4 (dk_at dksX5_needs_1 13 rfl rfl)
theorem dX5_needs_39 : decode cX5_needs 39 = .ok (.aload_n 0, 1) := dk_42 (dk_at dksX5_needs_1 15 rfl rfl)
theorem dX5_needs_40 : decode cX5_needs 40 = .ok (.getfield 13, 3) := dk_180 0 13 (dk_at dksX5_needs_1 16 rfl rfl)
theorem dX5_needs_43 : decode cX5_needs 43 = .ok (.iload 4, 2) := dk_21 4 (dk_at dksX5_needs_1 19 rfl rfl)
theorem dX5_needs_45 : decode cX5_needs 45 = .ok (.iaload, 1) := dk_46 (dk_at dksX5_needs_1 21 rfl rfl)
theorem dX5_needs_46 : decode cX5_needs 46 = .ok (.iastore, 1) := dk_79 (dk_at dksX5_needs_1 22 rfl rfl)
theorem dX5_needs_47 : decode cX5_needs 47 = .ok (.iinc 4 1, 3) := dk_132 4 1 (dk_at dksX5_needs_2 0 rfl rfl)
theorem dX5_needs_50 : decode cX5_needs 50 = .ok (.goto (-26), 3) := dk_167 255 230 (dk_at dksX5_needs_2 3 rfl rfl)
theorem dX5_needs_53 : decode cX5_needs 53 = .ok (.iload_n 1, 1) := dk_27 (dk_at dksX5_needs_2 6 rfl rfl)
theorem dX5_needs_54 : decode cX5_needs 54 = .ok (.istore 4, 2) := dk_54 4 (dk_at dksX5_needs_2 7 rfl rfl)
theorem dX5_needs_56 : decode cX5_needs 56 = .ok (.iconst 0, 1) := dk_3 (dk_at dksX5_needs_2 9 rfl rfl)
theorem dX5_needs_57 : decode cX5_needs 57 = .ok (.istore 5, 2) := dk_54 5 (dk_at dksX5_needs_2 10 rfl rfl)
theorem dX5_needs_59 : decode cX5_needs 59 = .ok (.iconst 0, 1) := dk_3 (dk_at dksX5_needs_2 12 rfl rfl)
theorem dX5_needs_60 : decode cX5_needs 60 = .ok (.istore 6, 2) := dk_54 6 (dk_at dksX5_needs_2 13 rfl rfl)
theorem dX5_needs_62 : decode cX5_needs 62 = .ok (.iconst 0, 1) := dk_3 (dk_at dksX5_needs_2 15 rfl rfl)
theorem dX5_needs_63 : decode cX5_needs 63 = .ok (.istore 7, 2) := dk_54 7 (dk_at dksX5_needs_2 16 rfl rfl)
theorem dX5_needs_65 : decode cX5_needs 65 = .ok (.iload 7, 2) := dk_21 7 (dk_at dksX5_needs_2 18 rfl rfl)
theorem dX5_needs_67 : decode cX5_needs 67 = .ok (.iload_n 2, 1) := dk_28 (dk_at dksX5_needs_2 20 rfl rfl)
theorem dX5_needs_68 : decode cX5_needs 68 = .ok (.if_icmp .ge 101, 3) := dk_162 0 101 (dk_at dksX5_needs_2 21 rfl rfl)
theorem dX5_needs_71 : decode cX5_needs 71 = .ok (.iconst 0, 1) := dk_3 (dk_at dksX5_needs_3 0 rfl rfl)
theorem dX5_needs_72 : decode cX5_needs 72 = .ok (.istore 8, 2) := dk_54 8 (dk_at dksX5_needs_3 1 rfl rfl)
theorem dX5_needs_74 : decode cX5_needs 74 = .ok (.iload 8, 2) := dk_21 8 (dk_at dksX5_needs_3 3 rfl rfl)
theorem dX5_needs_76 : decode cX5_needs 76 = .ok (.aload_n 0, 1) := dk_42 (dk_at dksX5_needs_3 5 rfl rfl)
theorem dX5_needs_77 : decode cX5_needs 77 = .ok (.getfield 111, 3) := dk_180 0 111 (dk_at dksX5_needs_3 6 rfl rfl)
theorem dX5_needs_80 : decode cX5_needs 80 = .ok (.if_icmp .ge 54, 3) := dk_162 0 54 (dk_at dksX5_needs_3 9 rfl rfl)
theorem dX5_needs_83 : decode cX5_needs 83 = .ok (.iload 4, 2) := dk_21 4 (dk_at dksX5_needs_3 12 rfl rfl)
theorem dX5_needs_85 : decode cX5_needs 85 = .ok (.ldc_w 310, 3) := dk_19 1 54 (dk_at dksX5_needs_3 14 rfl rfl)
theorem dX5_needs_88 : decode cX5_needs 88 = .ok (.imul, 1) := dk_104 (dk_at dksX5_needs_3 17 rfl rfl)
theorem dX5_needs_89 : decode cX5_needs 89 = .ok (.sipush 12345, 3) := dk_17 48 57 (dk_at dksX5_needs_3 18 rfl rfl)
theorem dX5_needs_92 : decode cX5_needs 92 = .ok (.iadd, 1) := dk_96 (dk_at dksX5_needs_3 21 rfl rfl)
theorem dX5_needs_93 : decode cX5_needs 93 = .ok (.istore 4, 2) := dk_54 4 (dk_at dksX5_needs_3 22 rfl rfl)
theorem dX5_needs_95 : decode cX5_needs 95 = .ok (.aload_n 0, 1) := dk_42 (dk_at dksX5_needs_4 0 rfl rfl)
theorem dX5_needs_96 : decode cX5_needs 96 = .ok (.getfield 13, 3) := dk_180 0 13 (dk_at dksX5_needs_4 1 rfl rfl)
theorem dX5_needs_99 : decode cX5_needs 99 = .ok (.iload 8, 2) := dk_21 8 (dk_at dksX5_needs_4 4 rfl rfl)
theorem dX5_needs_101 : decode cX5_needs 101 = .ok (.aload_n 0, 1) := dk_42 (dk_at dksX5_needs_4 6 rfl rfl)
theorem dX5_needs_102 : decode cX5_needs 102 = .ok (.getfield 7, 3) := dk_180 0 7 (dk_at dksX5_needs_4 7 rfl rfl)
theorem dX5_needs_105 : decode cX5_needs 105 = .ok (.iload 8, 2) := dk_21 8 (dk_at dksX5_needs_4 10 rfl rfl)
theorem dX5_needs_107 : decode cX5_needs 107 = .ok (.iaload, 1) := dk_46 (dk_at dksX5_needs_4 12 rfl rfl)
theorem dX5_needs_108 : decode cX5_needs 108 = .ok (.iconst 1, 1) := dk_4 (dk_at dksX5_needs_4 13 rfl rfl)
theorem dX5_needs_109 : decode cX5_needs 109 = .ok (.iadd, 1) := dk_96 (dk_at dksX5_needs_4 14 rfl rfl)
theorem dX5_needs_110 : decode cX5_needs 110 = .ok (.iload 4, 2) := dk_21 4 (dk_at dksX5_needs_4 15 rfl rfl)
theorem dX5_needs_112 : decode cX5_needs 112 = .ok (.bipush 8, 2) := dk_16 8 (dk_at dksX5_needs_4 17 rfl rfl)
theorem dX5_needs_114 : decode cX5_needs 114 = .ok (.iushr, 1) := dk_124 (dk_at dksX5_needs_4 19 rfl rfl)
theorem dX5_needs_115 : decode cX5_needs 115 = .ok (.bipush 100, 2) := dk_16 100 (dk_at dksX5_needs_4 20 rfl rfl)
theorem dX5_needs_117 : decode cX5_needs 117 = .ok (.aload_n 0, 1) := dk_42 (dk_at dksX5_needs_4 22 rfl rfl)
theorem dX5_needs_118 : decode cX5_needs 118 = .ok (.getfield 7, 3) := dk_180 0 7 (dk_at dksX5_needs_5 0 rfl rfl)
theorem dX5_needs_121 : decode cX5_needs 121 = .ok (.iload 8, 2) := dk_21 8 (dk_at dksX5_needs_5 3 rfl rfl)
theorem dX5_needs_123 : decode cX5_needs 123 = .ok (.iaload, 1) := dk_46 (dk_at dksX5_needs_5 5 rfl rfl)
theorem dX5_needs_124 : decode cX5_needs 124 = .ok (.isub, 1) := dk_100 (dk_at dksX5_needs_5 6 rfl rfl)
theorem dX5_needs_125 : decode cX5_needs 125 = .ok (.irem, 1) := dk_112 (dk_at dksX5_needs_5 7 rfl rfl)
theorem dX5_needs_126 : decode cX5_needs 126 = .ok (.iadd, 1) := dk_96 (dk_at dksX5_needs_5 8 rfl rfl)
theorem dX5_needs_127 : decode cX5_needs 127 = .ok (.iastore, 1) := dk_79 (dk_at dksX5_needs_5 9 rfl rfl)
theorem dX5_needs_128 : decode cX5_needs 128 = .ok (.iinc 8 1, 3) := dk_132 8 1 (dk_at dksX5_needs_5 10 rfl rfl)
theorem dX5_needs_131 : decode cX5_needs 131 = .ok (.goto (-57), 3) := dk_167 255 199 (dk_at dksX5_needs_5 13 rfl rfl)
theorem dX5_needs_134 : decode cX5_needs 134 = .ok (.aload_n 0, 1) := dk_42 (dk_at dksX5_needs_5 16 rfl rfl)
theorem dX5_needs_135 : decode cX5_needs 135 = .ok (.iconst 0, 1) := dk_3 (dk_at dksX5_needs_5 17 rfl rfl)
theorem dX5_needs_136 : decode cX5_needs 136 = .ok (.invokevirtual 300, 3) := dk_182 1 44 (dk_at dksX5_needs_5 18 rfl rfl)
theorem dX5_needs_139 : decode cX5_needs 139 = .ok (.aload_n 0, 1) := dk_42 (dk_at dksX5_needs_5 21 rfl rfl)
theorem dX5_needs_140 : decode cX5_needs 140 = .ok (.invokevirtual 304, 3) := dk_182 1 48 (dk_at dksX5_needs_6 0 rfl rfl)
theorem dX5_needs_143 : decode cX5_needs 143 = .ok (.istore 8, 2) := dk_54 8 (dk_at dksX5_needs_6 3 rfl rfl)
theorem dX5_needs_145 : decode cX5_needs 145 = .ok (.iload 5, 2) := dk_21 5 (dk_at dksX5_needs_6 5 rfl rfl)
theorem dX5_needs_147 : decode cX5_needs 147 = .ok (.iload 8, 2) := dk_21 8 (dk_at dksX5_needs_6 7 rfl rfl)
theorem dX5_needs_149 : decode cX5_needs 149 = .ok (.iadd, 1) := dk_96 (dk_at dksX5_needs_6 9 rfl rfl)
theorem dX5_needs_150 : decode cX5_needs 150 = .ok (.istore 5, 2) := dk_54 5 (dk_at dksX5_needs_6 10 rfl rfl)
theorem dX5_needs_152 : decode cX5_needs 152 = .ok (.iload 8, 2) := dk_21 8 (dk_at dksX5_needs_6 12 rfl rfl)
theorem dX5_needs_154 : decode cX5_needs 154 = .ok (.iload 6, 2) := dk_21 6 (dk_at dksX5_needs_6 14 rfl rfl)
theorem dX5_needs_156 : decode cX5_needs 156 = .ok (.if_icmp .le 7, 3) := dk_164 0 7 (dk_at dksX5_needs_6 16 rfl rfl)
theorem dX5_needs_159 : decode cX5_needs 159 = .ok (.iload 8, 2) := dk_21 8 (dk_at dksX5_needs_6 19 rfl rfl)
theorem dX5_needs_161 : decode cX5_needs 161 = .ok (.istore 6, 2) := dk_54 6 (dk_at dksX5_needs_6 21 rfl rfl)
theorem dX5_needs_163 : decode cX5_needs 163 = .ok (.iinc 7 1, 3) := dk_132 7 1 (dk_at dksX5_needs_7 0 rfl rfl)
theorem dX5_needs_166 : decode cX5_needs 166 = .ok (.goto (-101), 3) := dk_167 255 155 (dk_at dksX5_needs_7 3 rfl rfl)
theorem dX5_needs_169 : decode cX5_needs 169 = .ok (.iconst 0, 1) := dk_3 (dk_at dksX5_needs_7 6 rfl rfl)
theorem dX5_needs_170 : decode cX5_needs 170 = .ok (.istore 7, 2) := dk_54 7 (dk_at dksX5_needs_7 7 rfl rfl)
theorem dX5_needs_172 : decode cX5_needs 172 = .ok (.iload 7, 2) := dk_21 7 (dk_at dksX5_needs_7 9 rfl rfl)
theorem dX5_needs_174 : decode cX5_needs 174 = .ok (.aload_n 0, 1) := dk_42 (dk_at dksX5_needs_7 11 rfl rfl)
theorem dX5_needs_175 : decode cX5_needs 175 = .ok (.getfield 111, 3) := dk_180 0 111 (dk_at dksX5_needs_7 12 rfl rfl)
theorem dX5_needs_178 : decode cX5_needs 178 = .ok (.if_icmp .ge 23, 3) := dk_162 0 23 (dk_at dksX5_needs_7 15 rfl rfl)
theorem dX5_needs_181 : decode cX5_needs 181 = .ok (.aload_n 0, 1) := dk_42 (dk_at dksX5_needs_7 18 rfl rfl)
theorem dX5_needs_182 : decode cX5_needs 182 = .ok (.getfield 13, 3) := dk_180 0 13 (dk_at dksX5_needs_7 19 rfl rfl)
theorem dX5_needs_185 : decode cX5_needs 185 = .ok (.iload 7, 2) := dk_21 7 (dk_at dksX5_needs_7 22 rfl rfl)
theorem dX5_needs_187 : decode cX5_needs 187 = .ok (.aload_n 0, 1) := dk_42 (dk_at dksX5_needs_8 0 rfl rfl)
theorem dX5_needs_188 : decode cX5_needs 188 = .ok (.getfield 82, 3) := dk_180 0 82 (dk_at dksX5_needs_8 1 rfl rfl)
theorem dX5_needs_191 : decode cX5_needs 191 = .ok (.iload 7, 2) := dk_21 7 (dk_at dksX5_needs_8 4 rfl rfl)
theorem dX5_needs_193 : decode cX5_needs 193 = .ok (.iaload, 1) := dk_46 (dk_at dksX5_needs_8 6 rfl rfl)
theorem dX5_needs_194 : decode cX5_needs 194 = .ok (.iastore, 1) := dk_79 (dk_at dksX5_needs_8 7 rfl rfl)
theorem dX5_needs_195 : decode cX5_needs 195 = .ok (.iinc 7 1, 3) := dk_132 7 1 (dk_at dksX5_needs_8 8 rfl rfl)
theorem dX5_needs_198 : decode cX5_needs 198 = .ok (.goto (-26), 3) := dk_167 255 230 (dk_at dksX5_needs_8 11 rfl rfl)
theorem dX5_needs_201 : decode cX5_needs 201 = .ok (.iload_n 3, 1) := dk_29 (dk_at dksX5_needs_8 14 rfl rfl)
theorem dX5_needs_202 : decode cX5_needs 202 = .ok (.ifCond .ne 10, 3) := dk_154 0 10 (dk_at dksX5_needs_8 15 rfl rfl)
theorem dX5_needs_205 : decode cX5_needs 205 = .ok (.iload 5, 2) := dk_21 5 (dk_at dksX5_needs_8 18 rfl rfl)
theorem dX5_needs_207 : decode cX5_needs 207 = .ok (.iload_n 2, 1) := dk_28 (dk_at dksX5_needs_8 20 rfl rfl)
theorem dX5_needs_208 : decode cX5_needs 208 = .ok (.idiv, 1) := dk_108 (dk_at dksX5_needs_8 21 rfl rfl)
theorem dX5_needs_209 : decode cX5_needs 209 = .ok (.goto 5, 3) := dk_167 0 5 (dk_at dksX5_needs_9 0 rfl rfl)
theorem dX5_needs_212 : decode cX5_needs 212 = .ok (.iload 6, 2) := dk_21 6 (dk_at dksX5_needs_9 3 rfl rfl)
theorem dX5_needs_214 : decode cX5_needs 214 = .ok (.ireturn, 1) := dk_172 (dk_at dksX5_needs_9 5 rfl rfl)
abbrev cX5_image : ByteArray := prog_25_method_76_code
def yX5_image : MethodName := ⟨RX5, "image", "()I"⟩
def dkwX5_image_1 : List UInt8 := [180, 0, 85, 27, 42, 180, 0, 16, 27, 46, 79, 132, 1, 1, 167, 255, 233, 42, 180, 0, 111, 172]
abbrev dktX5_image_1 : List UInt8 := dkwX5_image_1 ++ []
def dkwX5_image_0 : List UInt8 := [42, 4, 181, 1, 55, 42, 42, 180, 0, 111, 181, 1, 58, 3, 60, 27, 42, 180, 0, 111, 162, 0, 21, 42]
abbrev dktX5_image_0 : List UInt8 := dkwX5_image_0 ++ dktX5_image_1
theorem dksX5_image_0 : cX5_image.data.toList.drop 0 = dktX5_image_0 := by decide +kernel
theorem dksX5_image_1 : cX5_image.data.toList.drop 24 = dktX5_image_1 := dk_seg dksX5_image_0 24 rfl rfl
theorem dX5_image_0 : decode cX5_image 0 = .ok (.aload_n 0, 1) := dk_42 (dk_at dksX5_image_0 0 rfl rfl)
theorem dX5_image_1 : decode cX5_image 1 = .ok (.iconst 1, 1) := dk_4 (dk_at dksX5_image_0 1 rfl rfl)
theorem dX5_image_2 : decode cX5_image 2 = .ok (.putfield 311, 3) := dk_181 1 55 (dk_at dksX5_image_0 2 rfl rfl)
theorem dX5_image_5 : decode cX5_image 5 = .ok (.aload_n 0, 1) := dk_42 (dk_at dksX5_image_0 5 rfl rfl)
theorem dX5_image_6 : decode cX5_image 6 = .ok (.aload_n 0, 1) := dk_42 (dk_at dksX5_image_0 6 rfl rfl)
theorem dX5_image_7 : decode cX5_image 7 = .ok (.getfield 111, 3) := dk_180 0 111 (dk_at dksX5_image_0 7 rfl rfl)
theorem dX5_image_10 : decode cX5_image 10 = .ok (.putfield 314, 3) := dk_181 1 58 (dk_at dksX5_image_0 10 rfl rfl)
theorem dX5_image_13 : decode cX5_image 13 = .ok (.iconst 0, 1) := dk_3 (dk_at dksX5_image_0 13 rfl rfl)
theorem dX5_image_14 : decode cX5_image 14 = .ok (.istore_n 1, 1) := dk_60 (dk_at dksX5_image_0 14 rfl rfl)
theorem dX5_image_15 : decode cX5_image 15 = .ok (.iload_n 1, 1) := dk_27 (dk_at dksX5_image_0 15 rfl rfl)
theorem dX5_image_16 : decode cX5_image 16 = .ok (.aload_n 0, 1) := dk_42 (dk_at dksX5_image_0 16 rfl rfl)
theorem dX5_image_17 : decode cX5_image 17 = .ok (.getfield 111, 3) := dk_180 0 111 (dk_at dksX5_image_0 17 rfl rfl)
theorem dX5_image_20 : decode cX5_image 20 = .ok (.if_icmp .ge 21, 3) := dk_162 0 21 (dk_at dksX5_image_0 20 rfl rfl)
theorem dX5_image_23 : decode cX5_image 23 = .ok (.aload_n 0, 1) := dk_42 (dk_at dksX5_image_0 23 rfl rfl)
theorem dX5_image_24 : decode cX5_image 24 = .ok (.getfield 85, 3) := dk_180 0 85 (dk_at dksX5_image_1 0 rfl rfl)
theorem dX5_image_27 : decode cX5_image 27 = .ok (.iload_n 1, 1) := dk_27 (dk_at dksX5_image_1 3 rfl rfl)
theorem dX5_image_28 : decode cX5_image 28 = .ok (.aload_n 0, 1) := dk_42 (dk_at dksX5_image_1 4 rfl rfl)
theorem dX5_image_29 : decode cX5_image 29 = .ok (.getfield 16, 3) := dk_180 0 16 (dk_at dksX5_image_1 5 rfl rfl)
theorem dX5_image_32 : decode cX5_image 32 = .ok (.iload_n 1, 1) := dk_27 (dk_at dksX5_image_1 8 rfl rfl)
theorem dX5_image_33 : decode cX5_image 33 = .ok (.iaload, 1) := dk_46 (dk_at dksX5_image_1 9 rfl rfl)
theorem dX5_image_34 : decode cX5_image 34 = .ok (.iastore, 1) := dk_79 (dk_at dksX5_image_1 10 rfl rfl)
theorem dX5_image_35 : decode cX5_image 35 = .ok (.iinc 1 1, 3) := dk_132 1 1 (dk_at dksX5_image_1 11 rfl rfl)
theorem dX5_image_38 : decode cX5_image 38 = .ok (.goto (-23), 3) := dk_167 255 233 (dk_at dksX5_image_1 14 rfl rfl)
theorem dX5_image_41 : decode cX5_image 41 = .ok (.aload_n 0, 1) := dk_42 (dk_at dksX5_image_1 17 rfl rfl)
theorem dX5_image_42 : decode cX5_image 42 = .ok (.getfield 111, 3) := dk_180 0 111 (dk_at dksX5_image_1 18 rfl rfl)
theorem dX5_image_45 : decode cX5_image 45 = .ok (.ireturn, 1) := dk_172 (dk_at dksX5_image_1 21 rfl rfl)
abbrev cX5_back : ByteArray := prog_25_method_77_code
def yX5_back : MethodName := ⟨RX5, "back", "()I"⟩
def dkwX5_back_1 : List UInt8 := [27, 42, 180, 0, 85, 27, 46, 79, 132, 1, 1, 167, 255, 233, 42, 180, 1, 58, 172]
abbrev dktX5_back_1 : List UInt8 := dkwX5_back_1 ++ []
def dkwX5_back_0 : List UInt8 := [42, 180, 1, 55, 154, 0, 6, 16, 251, 172, 3, 60, 27, 42, 180, 1, 58, 162, 0, 21, 42, 180, 0, 16]
abbrev dktX5_back_0 : List UInt8 := dkwX5_back_0 ++ dktX5_back_1
theorem dksX5_back_0 : cX5_back.data.toList.drop 0 = dktX5_back_0 := by decide +kernel
theorem dksX5_back_1 : cX5_back.data.toList.drop 24 = dktX5_back_1 := dk_seg dksX5_back_0 24 rfl rfl
theorem dX5_back_0 : decode cX5_back 0 = .ok (.aload_n 0, 1) := dk_42 (dk_at dksX5_back_0 0 rfl rfl)
theorem dX5_back_1 : decode cX5_back 1 = .ok (.getfield 311, 3) := dk_180 1 55 (dk_at dksX5_back_0 1 rfl rfl)
theorem dX5_back_4 : decode cX5_back 4 = .ok (.ifCond .ne 6, 3) := dk_154 0 6 (dk_at dksX5_back_0 4 rfl rfl)
theorem dX5_back_7 : decode cX5_back 7 = .ok (.bipush (-5), 2) := dk_16 251 (dk_at dksX5_back_0 7 rfl rfl)
theorem dX5_back_9 : decode cX5_back 9 = .ok (.ireturn, 1) := dk_172 (dk_at dksX5_back_0 9 rfl rfl)
theorem dX5_back_10 : decode cX5_back 10 = .ok (.iconst 0, 1) := dk_3 (dk_at dksX5_back_0 10 rfl rfl)
theorem dX5_back_11 : decode cX5_back 11 = .ok (.istore_n 1, 1) := dk_60 (dk_at dksX5_back_0 11 rfl rfl)
theorem dX5_back_12 : decode cX5_back 12 = .ok (.iload_n 1, 1) := dk_27 (dk_at dksX5_back_0 12 rfl rfl)
theorem dX5_back_13 : decode cX5_back 13 = .ok (.aload_n 0, 1) := dk_42 (dk_at dksX5_back_0 13 rfl rfl)
theorem dX5_back_14 : decode cX5_back 14 = .ok (.getfield 314, 3) := dk_180 1 58 (dk_at dksX5_back_0 14 rfl rfl)
theorem dX5_back_17 : decode cX5_back 17 = .ok (.if_icmp .ge 21, 3) := dk_162 0 21 (dk_at dksX5_back_0 17 rfl rfl)
theorem dX5_back_20 : decode cX5_back 20 = .ok (.aload_n 0, 1) := dk_42 (dk_at dksX5_back_0 20 rfl rfl)
theorem dX5_back_21 : decode cX5_back 21 = .ok (.getfield 16, 3) := dk_180 0 16 (dk_at dksX5_back_0 21 rfl rfl)
theorem dX5_back_24 : decode cX5_back 24 = .ok (.iload_n 1, 1) := dk_27 (dk_at dksX5_back_1 0 rfl rfl)
theorem dX5_back_25 : decode cX5_back 25 = .ok (.aload_n 0, 1) := dk_42 (dk_at dksX5_back_1 1 rfl rfl)
theorem dX5_back_26 : decode cX5_back 26 = .ok (.getfield 85, 3) := dk_180 0 85 (dk_at dksX5_back_1 2 rfl rfl)
theorem dX5_back_29 : decode cX5_back 29 = .ok (.iload_n 1, 1) := dk_27 (dk_at dksX5_back_1 5 rfl rfl)
theorem dX5_back_30 : decode cX5_back 30 = .ok (.iaload, 1) := dk_46 (dk_at dksX5_back_1 6 rfl rfl)
theorem dX5_back_31 : decode cX5_back 31 = .ok (.iastore, 1) := dk_79 (dk_at dksX5_back_1 7 rfl rfl)
theorem dX5_back_32 : decode cX5_back 32 = .ok (.iinc 1 1, 3) := dk_132 1 1 (dk_at dksX5_back_1 8 rfl rfl)
theorem dX5_back_35 : decode cX5_back 35 = .ok (.goto (-23), 3) := dk_167 255 233 (dk_at dksX5_back_1 11 rfl rfl)
theorem dX5_back_38 : decode cX5_back 38 = .ok (.aload_n 0, 1) := dk_42 (dk_at dksX5_back_1 14 rfl rfl)
theorem dX5_back_39 : decode cX5_back 39 = .ok (.getfield 314, 3) := dk_180 1 58 (dk_at dksX5_back_1 15 rfl rfl)
theorem dX5_back_42 : decode cX5_back 42 = .ok (.ireturn, 1) := dk_172 (dk_at dksX5_back_1 18 rfl rfl)
abbrev cX5_trace : ByteArray := prog_25_method_80_code
def yX5_trace : MethodName := ⟨RX5, "trace", "(I)I"⟩
def dkwX5_trace_1 : List UInt8 := [167, 0, 4, 2, 172]
abbrev dktX5_trace_1 : List UInt8 := dkwX5_trace_1 ++ []
def dkwX5_trace_0 : List UInt8 := [27, 155, 0, 26, 27, 42, 180, 1, 64, 162, 0, 18, 27, 16, 24, 162, 0, 12, 42, 180, 0, 91, 27, 46]
abbrev dktX5_trace_0 : List UInt8 := dkwX5_trace_0 ++ dktX5_trace_1
theorem dksX5_trace_0 : cX5_trace.data.toList.drop 0 = dktX5_trace_0 := by decide +kernel
theorem dksX5_trace_1 : cX5_trace.data.toList.drop 24 = dktX5_trace_1 := dk_seg dksX5_trace_0 24 rfl rfl
theorem dX5_trace_0 : decode cX5_trace 0 = .ok (.iload_n 1, 1) := dk_27 (dk_at dksX5_trace_0 0 rfl rfl)
theorem dX5_trace_1 : decode cX5_trace 1 = .ok (.ifCond .lt 26, 3) := dk_155 0 26 (dk_at dksX5_trace_0 1 rfl rfl)
theorem dX5_trace_4 : decode cX5_trace 4 = .ok (.iload_n 1, 1) := dk_27 (dk_at dksX5_trace_0 4 rfl rfl)
theorem dX5_trace_5 : decode cX5_trace 5 = .ok (.aload_n 0, 1) := dk_42 (dk_at dksX5_trace_0 5 rfl rfl)
theorem dX5_trace_6 : decode cX5_trace 6 = .ok (.getfield 320, 3) := dk_180 1 64 (dk_at dksX5_trace_0 6 rfl rfl)
theorem dX5_trace_9 : decode cX5_trace 9 = .ok (.if_icmp .ge 18, 3) := dk_162 0 18 (dk_at dksX5_trace_0 9 rfl rfl)
theorem dX5_trace_12 : decode cX5_trace 12 = .ok (.iload_n 1, 1) := dk_27 (dk_at dksX5_trace_0 12 rfl rfl)
theorem dX5_trace_13 : decode cX5_trace 13 = .ok (.bipush 24, 2) := dk_16 24 (dk_at dksX5_trace_0 13 rfl rfl)
theorem dX5_trace_15 : decode cX5_trace 15 = .ok (.if_icmp .ge 12, 3) := dk_162 0 12 (dk_at dksX5_trace_0 15 rfl rfl)
theorem dX5_trace_18 : decode cX5_trace 18 = .ok (.aload_n 0, 1) := dk_42 (dk_at dksX5_trace_0 18 rfl rfl)
theorem dX5_trace_19 : decode cX5_trace 19 = .ok (.getfield 91, 3) := dk_180 0 91 (dk_at dksX5_trace_0 19 rfl rfl)
theorem dX5_trace_22 : decode cX5_trace 22 = .ok (.iload_n 1, 1) := dk_27 (dk_at dksX5_trace_0 22 rfl rfl)
theorem dX5_trace_23 : decode cX5_trace 23 = .ok (.iaload, 1) := dk_46 (dk_at dksX5_trace_0 23 rfl rfl)
theorem dX5_trace_24 : decode cX5_trace 24 = .ok (.goto 4, 3) := dk_167 0 4 (dk_at dksX5_trace_1 0 rfl rfl)
theorem dX5_trace_27 : decode cX5_trace 27 = .ok (.iconst (-1), 1) := dk_2 (dk_at dksX5_trace_1 3 rfl rfl)
theorem dX5_trace_28 : decode cX5_trace 28 = .ok (.ireturn, 1) := dk_172 (dk_at dksX5_trace_1 4 rfl rfl)
abbrev cX5_body : ByteArray := prog_25_method_81_code
def yX5_body : MethodName := ⟨RX5, "body", "(I)I"⟩
def dkwX5_body_2 : List UInt8 := [4, 100, 172]
abbrev dktX5_body_2 : List UInt8 := dkwX5_body_2 ++ []
def dkwX5_body_1 : List UInt8 := [42, 180, 0, 88, 42, 180, 1, 61, 27, 79, 42, 89, 180, 1, 61, 4, 96, 181, 1, 61, 42, 180, 1, 61]
abbrev dktX5_body_1 : List UInt8 := dkwX5_body_1 ++ dktX5_body_2
def dkwX5_body_0 : List UInt8 := [27, 3, 16, 7, 184, 0, 114, 154, 0, 5, 2, 172, 42, 180, 1, 61, 16, 50, 160, 0, 6, 16, 253, 172]
abbrev dktX5_body_0 : List UInt8 := dkwX5_body_0 ++ dktX5_body_1
theorem dksX5_body_0 : cX5_body.data.toList.drop 0 = dktX5_body_0 := by decide +kernel
theorem dksX5_body_1 : cX5_body.data.toList.drop 24 = dktX5_body_1 := dk_seg dksX5_body_0 24 rfl rfl
theorem dksX5_body_2 : cX5_body.data.toList.drop 48 = dktX5_body_2 := dk_seg dksX5_body_1 24 rfl rfl
theorem dX5_body_0 : decode cX5_body 0 = .ok (.iload_n 1, 1) := dk_27 (dk_at dksX5_body_0 0 rfl rfl)
theorem dX5_body_1 : decode cX5_body 1 = .ok (.iconst 0, 1) := dk_3 (dk_at dksX5_body_0 1 rfl rfl)
theorem dX5_body_2 : decode cX5_body 2 = .ok (.bipush 7, 2) := dk_16 7 (dk_at dksX5_body_0 2 rfl rfl)
theorem dX5_body_4 : decode cX5_body 4 = .ok (.invokestatic 114, 3) := dk_184 0 114 (dk_at dksX5_body_0 4 rfl rfl)
theorem dX5_body_7 : decode cX5_body 7 = .ok (.ifCond .ne 5, 3) := dk_154 0 5 (dk_at dksX5_body_0 7 rfl rfl)
theorem dX5_body_10 : decode cX5_body 10 = .ok (.iconst (-1), 1) := dk_2 (dk_at dksX5_body_0 10 rfl rfl)
theorem dX5_body_11 : decode cX5_body 11 = .ok (.ireturn, 1) := dk_172 (dk_at dksX5_body_0 11 rfl rfl)
theorem dX5_body_12 : decode cX5_body 12 = .ok (.aload_n 0, 1) := dk_42 (dk_at dksX5_body_0 12 rfl rfl)
theorem dX5_body_13 : decode cX5_body 13 = .ok (.getfield 317, 3) := dk_180 1 61 (dk_at dksX5_body_0 13 rfl rfl)
theorem dX5_body_16 : decode cX5_body 16 = .ok (.bipush 50, 2) := dk_16 50 (dk_at dksX5_body_0 16 rfl rfl)
theorem dX5_body_18 : decode cX5_body 18 = .ok (.if_icmp .ne 6, 3) := dk_160 0 6 (dk_at dksX5_body_0 18 rfl rfl)
theorem dX5_body_21 : decode cX5_body 21 = .ok (.bipush (-3), 2) := dk_16 253 (dk_at dksX5_body_0 21 rfl rfl)
theorem dX5_body_23 : decode cX5_body 23 = .ok (.ireturn, 1) := dk_172 (dk_at dksX5_body_0 23 rfl rfl)
theorem dX5_body_24 : decode cX5_body 24 = .ok (.aload_n 0, 1) := dk_42 (dk_at dksX5_body_1 0 rfl rfl)
theorem dX5_body_25 : decode cX5_body 25 = .ok (.getfield 88, 3) := dk_180 0 88 (dk_at dksX5_body_1 1 rfl rfl)
theorem dX5_body_28 : decode cX5_body 28 = .ok (.aload_n 0, 1) := dk_42 (dk_at dksX5_body_1 4 rfl rfl)
theorem dX5_body_29 : decode cX5_body 29 = .ok (.getfield 317, 3) := dk_180 1 61 (dk_at dksX5_body_1 5 rfl rfl)
theorem dX5_body_32 : decode cX5_body 32 = .ok (.iload_n 1, 1) := dk_27 (dk_at dksX5_body_1 8 rfl rfl)
theorem dX5_body_33 : decode cX5_body 33 = .ok (.iastore, 1) := dk_79 (dk_at dksX5_body_1 9 rfl rfl)
theorem dX5_body_34 : decode cX5_body 34 = .ok (.aload_n 0, 1) := dk_42 (dk_at dksX5_body_1 10 rfl rfl)
theorem dX5_body_35 : decode cX5_body 35 = .ok (.dup, 1) := dk_89 (dk_at dksX5_body_1 11 rfl rfl)
theorem dX5_body_36 : decode cX5_body 36 = .ok (.getfield 317, 3) := dk_180 1 61 (dk_at dksX5_body_1 12 rfl rfl)
theorem dX5_body_39 : decode cX5_body 39 = .ok (.iconst 1, 1) := dk_4 (dk_at dksX5_body_1 15 rfl rfl)
theorem dX5_body_40 : decode cX5_body 40 = .ok (.iadd, 1) := dk_96 (dk_at dksX5_body_1 16 rfl rfl)
theorem dX5_body_41 : decode cX5_body 41 = .ok (.putfield 317, 3) := dk_181 1 61 (dk_at dksX5_body_1 17 rfl rfl)
theorem dX5_body_44 : decode cX5_body 44 = .ok (.aload_n 0, 1) := dk_42 (dk_at dksX5_body_1 20 rfl rfl)
theorem dX5_body_45 : decode cX5_body 45 = .ok (.getfield 317, 3) := dk_180 1 61 (dk_at dksX5_body_1 21 rfl rfl)
theorem dX5_body_48 : decode cX5_body 48 = .ok (.iconst 1, 1) := dk_4 (dk_at dksX5_body_2 0 rfl rfl)
theorem dX5_body_49 : decode cX5_body 49 = .ok (.isub, 1) := dk_100 (dk_at dksX5_body_2 1 rfl rfl)
theorem dX5_body_50 : decode cX5_body 50 = .ok (.ireturn, 1) := dk_172 (dk_at dksX5_body_2 2 rfl rfl)
abbrev cX5_act : ByteArray := prog_25_method_94_code
def yX5_act : MethodName := ⟨RX5, "act", "(III)I"⟩
def dkwX5_act_2 : List UInt8 := [167, 0, 23, 28, 5, 160, 0, 12, 42, 27, 29, 182, 1, 88, 167, 0, 9, 42, 27, 29, 182, 1, 106, 172]
abbrev dktX5_act_2 : List UInt8 := dkwX5_act_2 ++ []
def dkwX5_act_1 : List UInt8 := [28, 154, 0, 12, 42, 27, 29, 182, 1, 79, 167, 0, 37, 28, 4, 160, 0, 12, 42, 27, 29, 182, 1, 97]
abbrev dktX5_act_1 : List UInt8 := dkwX5_act_1 ++ dktX5_act_2
def dkwX5_act_0 : List UInt8 := [42, 3, 181, 1, 64, 42, 27, 182, 1, 103, 153, 0, 12, 28, 3, 6, 184, 0, 114, 154, 0, 5, 3, 172]
abbrev dktX5_act_0 : List UInt8 := dkwX5_act_0 ++ dktX5_act_1
theorem dksX5_act_0 : cX5_act.data.toList.drop 0 = dktX5_act_0 := by decide +kernel
theorem dksX5_act_1 : cX5_act.data.toList.drop 24 = dktX5_act_1 := dk_seg dksX5_act_0 24 rfl rfl
theorem dksX5_act_2 : cX5_act.data.toList.drop 48 = dktX5_act_2 := dk_seg dksX5_act_1 24 rfl rfl
theorem dX5_act_0 : decode cX5_act 0 = .ok (.aload_n 0, 1) := dk_42 (dk_at dksX5_act_0 0 rfl rfl)
theorem dX5_act_1 : decode cX5_act 1 = .ok (.iconst 0, 1) := dk_3 (dk_at dksX5_act_0 1 rfl rfl)
theorem dX5_act_2 : decode cX5_act 2 = .ok (.putfield 320, 3) := dk_181 1 64 (dk_at dksX5_act_0 2 rfl rfl)
theorem dX5_act_5 : decode cX5_act 5 = .ok (.aload_n 0, 1) := dk_42 (dk_at dksX5_act_0 5 rfl rfl)
theorem dX5_act_6 : decode cX5_act 6 = .ok (.iload_n 1, 1) := dk_27 (dk_at dksX5_act_0 6 rfl rfl)
theorem dX5_act_7 : decode cX5_act 7 = .ok (.invokevirtual 359, 3) := dk_182 1 103 (dk_at dksX5_act_0 7 rfl rfl)
theorem dX5_act_10 : decode cX5_act 10 = .ok (.ifCond .eq 12, 3) := dk_153 0 12 (dk_at dksX5_act_0 10 rfl rfl)
theorem dX5_act_13 : decode cX5_act 13 = .ok (.iload_n 2, 1) := dk_28 (dk_at dksX5_act_0 13 rfl rfl)
theorem dX5_act_14 : decode cX5_act 14 = .ok (.iconst 0, 1) := dk_3 (dk_at dksX5_act_0 14 rfl rfl)
theorem dX5_act_15 : decode cX5_act 15 = .ok (.iconst 3, 1) := dk_6 (dk_at dksX5_act_0 15 rfl rfl)
theorem dX5_act_16 : decode cX5_act 16 = .ok (.invokestatic 114, 3) := dk_184 0 114 (dk_at dksX5_act_0 16 rfl rfl)
theorem dX5_act_19 : decode cX5_act 19 = .ok (.ifCond .ne 5, 3) := dk_154 0 5 (dk_at dksX5_act_0 19 rfl rfl)
theorem dX5_act_22 : decode cX5_act 22 = .ok (.iconst 0, 1) := dk_3 (dk_at dksX5_act_0 22 rfl rfl)
theorem dX5_act_23 : decode cX5_act 23 = .ok (.ireturn, 1) := dk_172 (dk_at dksX5_act_0 23 rfl rfl)
theorem dX5_act_24 : decode cX5_act 24 = .ok (.iload_n 2, 1) := dk_28 (dk_at dksX5_act_1 0 rfl rfl)
theorem dX5_act_25 : decode cX5_act 25 = .ok (.ifCond .ne 12, 3) := dk_154 0 12 (dk_at dksX5_act_1 1 rfl rfl)
theorem dX5_act_28 : decode cX5_act 28 = .ok (.aload_n 0, 1) := dk_42 (dk_at dksX5_act_1 4 rfl rfl)
theorem dX5_act_29 : decode cX5_act 29 = .ok (.iload_n 1, 1) := dk_27 (dk_at dksX5_act_1 5 rfl rfl)
theorem dX5_act_30 : decode cX5_act 30 = .ok (.iload_n 3, 1) := dk_29 (dk_at dksX5_act_1 6 rfl rfl)
theorem dX5_act_31 : decode cX5_act 31 = .ok (.invokevirtual 335, 3) := dk_182 1 79 (dk_at dksX5_act_1 7 rfl rfl)
theorem dX5_act_34 : decode cX5_act 34 = .ok (.goto 37, 3) := dk_167 0 37 (dk_at dksX5_act_1 10 rfl rfl)
theorem dX5_act_37 : decode cX5_act 37 = .ok (.iload_n 2, 1) := dk_28 (dk_at dksX5_act_1 13 rfl rfl)
theorem dX5_act_38 : decode cX5_act 38 = .ok (.iconst 1, 1) := dk_4 (dk_at dksX5_act_1 14 rfl rfl)
theorem dX5_act_39 : decode cX5_act 39 = .ok (.if_icmp .ne 12, 3) := dk_160 0 12 (dk_at dksX5_act_1 15 rfl rfl)
theorem dX5_act_42 : decode cX5_act 42 = .ok (.aload_n 0, 1) := dk_42 (dk_at dksX5_act_1 18 rfl rfl)
theorem dX5_act_43 : decode cX5_act 43 = .ok (.iload_n 1, 1) := dk_27 (dk_at dksX5_act_1 19 rfl rfl)
theorem dX5_act_44 : decode cX5_act 44 = .ok (.iload_n 3, 1) := dk_29 (dk_at dksX5_act_1 20 rfl rfl)
theorem dX5_act_45 : decode cX5_act 45 = .ok (.invokevirtual 353, 3) := dk_182 1 97 (dk_at dksX5_act_1 21 rfl rfl)
theorem dX5_act_48 : decode cX5_act 48 = .ok (.goto 23, 3) := dk_167 0 23 (dk_at dksX5_act_2 0 rfl rfl)
theorem dX5_act_51 : decode cX5_act 51 = .ok (.iload_n 2, 1) := dk_28 (dk_at dksX5_act_2 3 rfl rfl)
theorem dX5_act_52 : decode cX5_act 52 = .ok (.iconst 2, 1) := dk_5 (dk_at dksX5_act_2 4 rfl rfl)
theorem dX5_act_53 : decode cX5_act 53 = .ok (.if_icmp .ne 12, 3) := dk_160 0 12 (dk_at dksX5_act_2 5 rfl rfl)
theorem dX5_act_56 : decode cX5_act 56 = .ok (.aload_n 0, 1) := dk_42 (dk_at dksX5_act_2 8 rfl rfl)
theorem dX5_act_57 : decode cX5_act 57 = .ok (.iload_n 1, 1) := dk_27 (dk_at dksX5_act_2 9 rfl rfl)
theorem dX5_act_58 : decode cX5_act 58 = .ok (.iload_n 3, 1) := dk_29 (dk_at dksX5_act_2 10 rfl rfl)
theorem dX5_act_59 : decode cX5_act 59 = .ok (.invokevirtual 344, 3) := dk_182 1 88 (dk_at dksX5_act_2 11 rfl rfl)
theorem dX5_act_62 : decode cX5_act 62 = .ok (.goto 9, 3) := dk_167 0 9 (dk_at dksX5_act_2 14 rfl rfl)
theorem dX5_act_65 : decode cX5_act 65 = .ok (.aload_n 0, 1) := dk_42 (dk_at dksX5_act_2 17 rfl rfl)
theorem dX5_act_66 : decode cX5_act 66 = .ok (.iload_n 1, 1) := dk_27 (dk_at dksX5_act_2 18 rfl rfl)
theorem dX5_act_67 : decode cX5_act 67 = .ok (.iload_n 3, 1) := dk_29 (dk_at dksX5_act_2 19 rfl rfl)
theorem dX5_act_68 : decode cX5_act 68 = .ok (.invokevirtual 362, 3) := dk_182 1 106 (dk_at dksX5_act_2 20 rfl rfl)
theorem dX5_act_71 : decode cX5_act 71 = .ok (.ireturn, 1) := dk_172 (dk_at dksX5_act_2 23 rfl rfl)
abbrev cX5_isBody : ByteArray := prog_25_method_78_code
def yX5_isBody : MethodName := ⟨RX5, "isBody", "(I)Z"⟩
def dkwX5_isBody_0 : List UInt8 := [27, 3, 42, 180, 1, 61, 4, 100, 184, 0, 114, 172]
abbrev dktX5_isBody_0 : List UInt8 := dkwX5_isBody_0 ++ []
theorem dksX5_isBody_0 : cX5_isBody.data.toList.drop 0 = dktX5_isBody_0 := by decide +kernel
theorem dX5_isBody_0 : decode cX5_isBody 0 = .ok (.iload_n 1, 1) := dk_27 (dk_at dksX5_isBody_0 0 rfl rfl)
theorem dX5_isBody_1 : decode cX5_isBody 1 = .ok (.iconst 0, 1) := dk_3 (dk_at dksX5_isBody_0 1 rfl rfl)
theorem dX5_isBody_2 : decode cX5_isBody 2 = .ok (.aload_n 0, 1) := dk_42 (dk_at dksX5_isBody_0 2 rfl rfl)
theorem dX5_isBody_3 : decode cX5_isBody 3 = .ok (.getfield 317, 3) := dk_180 1 61 (dk_at dksX5_isBody_0 3 rfl rfl)
theorem dX5_isBody_6 : decode cX5_isBody 6 = .ok (.iconst 1, 1) := dk_4 (dk_at dksX5_isBody_0 6 rfl rfl)
theorem dX5_isBody_7 : decode cX5_isBody 7 = .ok (.isub, 1) := dk_100 (dk_at dksX5_isBody_0 7 rfl rfl)
theorem dX5_isBody_8 : decode cX5_isBody 8 = .ok (.invokestatic 114, 3) := dk_184 0 114 (dk_at dksX5_isBody_0 8 rfl rfl)
theorem dX5_isBody_11 : decode cX5_isBody 11 = .ok (.ireturn, 1) := dk_172 (dk_at dksX5_isBody_0 11 rfl rfl)
abbrev cX5_giving : ByteArray := prog_25_method_85_code
def yX5_giving : MethodName := ⟨RX5, "giving", "(II)I"⟩
def dkwX5_giving_3 : List UInt8 := [182, 1, 76, 167, 0, 9, 42, 27, 28, 182, 1, 70, 172]
abbrev dktX5_giving_3 : List UInt8 := dkwX5_giving_3 ++ []
def dkwX5_giving_2 : List UInt8 := [27, 28, 182, 1, 76, 4, 100, 172, 42, 180, 0, 88, 27, 46, 16, 6, 160, 0, 12, 42, 27, 28]
abbrev dktX5_giving_2 : List UInt8 := dkwX5_giving_2 ++ dktX5_giving_3
def dkwX5_giving_1 : List UInt8 := [182, 1, 70, 6, 96, 172, 42, 180, 0, 88, 27, 46, 16, 7, 160, 0, 18, 42, 16, 81, 182, 1, 67, 42]
abbrev dktX5_giving_1 : List UInt8 := dkwX5_giving_1 ++ dktX5_giving_2
def dkwX5_giving_0 : List UInt8 := [42, 180, 0, 88, 27, 46, 4, 184, 1, 73, 153, 0, 18, 42, 16, 20, 182, 1, 67, 42, 27, 28]
abbrev dktX5_giving_0 : List UInt8 := dkwX5_giving_0 ++ dktX5_giving_1
theorem dksX5_giving_0 : cX5_giving.data.toList.drop 0 = dktX5_giving_0 := by decide +kernel
theorem dksX5_giving_1 : cX5_giving.data.toList.drop 22 = dktX5_giving_1 := dk_seg dksX5_giving_0 22 rfl rfl
theorem dksX5_giving_2 : cX5_giving.data.toList.drop 46 = dktX5_giving_2 := dk_seg dksX5_giving_1 24 rfl rfl
theorem dksX5_giving_3 : cX5_giving.data.toList.drop 68 = dktX5_giving_3 := dk_seg dksX5_giving_2 22 rfl rfl
theorem dX5_giving_0 : decode cX5_giving 0 = .ok (.aload_n 0, 1) := dk_42 (dk_at dksX5_giving_0 0 rfl rfl)
theorem dX5_giving_1 : decode cX5_giving 1 = .ok (.getfield 88, 3) := dk_180 0 88 (dk_at dksX5_giving_0 1 rfl rfl)
theorem dX5_giving_4 : decode cX5_giving 4 = .ok (.iload_n 1, 1) := dk_27 (dk_at dksX5_giving_0 4 rfl rfl)
theorem dX5_giving_5 : decode cX5_giving 5 = .ok (.iaload, 1) := dk_46 (dk_at dksX5_giving_0 5 rfl rfl)
theorem dX5_giving_6 : decode cX5_giving 6 = .ok (.iconst 1, 1) := dk_4 (dk_at dksX5_giving_0 6 rfl rfl)
theorem dX5_giving_7 : decode cX5_giving 7 = .ok (.invokestatic 329, 3) := dk_184 1 73 (dk_at dksX5_giving_0 7 rfl rfl)
theorem dX5_giving_10 : decode cX5_giving 10 = .ok (.ifCond .eq 18, 3) := dk_153 0 18 (dk_at dksX5_giving_0 10 rfl rfl)
theorem dX5_giving_13 : decode cX5_giving 13 = .ok (.aload_n 0, 1) := dk_42 (dk_at dksX5_giving_0 13 rfl rfl)
theorem dX5_giving_14 : decode cX5_giving 14 = .ok (.bipush 20, 2) := dk_16 20 (dk_at dksX5_giving_0 14 rfl rfl)
theorem dX5_giving_16 : decode cX5_giving 16 = .ok (.invokevirtual 323, 3) := dk_182 1 67 (dk_at dksX5_giving_0 16 rfl rfl)
theorem dX5_giving_19 : decode cX5_giving 19 = .ok (.aload_n 0, 1) := dk_42 (dk_at dksX5_giving_0 19 rfl rfl)
theorem dX5_giving_20 : decode cX5_giving 20 = .ok (.iload_n 1, 1) := dk_27 (dk_at dksX5_giving_0 20 rfl rfl)
theorem dX5_giving_21 : decode cX5_giving 21 = .ok (.iload_n 2, 1) := dk_28 (dk_at dksX5_giving_0 21 rfl rfl)
theorem dX5_giving_22 : decode cX5_giving 22 = .ok (.invokevirtual 326, 3) := dk_182 1 70 (dk_at dksX5_giving_1 0 rfl rfl)
theorem dX5_giving_25 : decode cX5_giving 25 = .ok (.iconst 3, 1) := dk_6 (dk_at dksX5_giving_1 3 rfl rfl)
theorem dX5_giving_26 : decode cX5_giving 26 = .ok (.iadd, 1) := dk_96 (dk_at dksX5_giving_1 4 rfl rfl)
theorem dX5_giving_27 : decode cX5_giving 27 = .ok (.ireturn, 1) := dk_172 (dk_at dksX5_giving_1 5 rfl rfl)
theorem dX5_giving_28 : decode cX5_giving 28 = .ok (.aload_n 0, 1) := dk_42 (dk_at dksX5_giving_1 6 rfl rfl)
theorem dX5_giving_29 : decode cX5_giving 29 = .ok (.getfield 88, 3) := dk_180 0 88 (dk_at dksX5_giving_1 7 rfl rfl)
theorem dX5_giving_32 : decode cX5_giving 32 = .ok (.iload_n 1, 1) := dk_27 (dk_at dksX5_giving_1 10 rfl rfl)
theorem dX5_giving_33 : decode cX5_giving 33 = .ok (.iaload, 1) := dk_46 (dk_at dksX5_giving_1 11 rfl rfl)
theorem dX5_giving_34 : decode cX5_giving 34 = .ok (.bipush 7, 2) := dk_16 7 (dk_at dksX5_giving_1 12 rfl rfl)
theorem dX5_giving_36 : decode cX5_giving 36 = .ok (.if_icmp .ne 18, 3) := dk_160 0 18 (dk_at dksX5_giving_1 14 rfl rfl)
theorem dX5_giving_39 : decode cX5_giving 39 = .ok (.aload_n 0, 1) := dk_42 (dk_at dksX5_giving_1 17 rfl rfl)
theorem dX5_giving_40 : decode cX5_giving 40 = .ok (.bipush 81, 2) := dk_16 81 (dk_at dksX5_giving_1 18 rfl rfl)
theorem dX5_giving_42 : decode cX5_giving 42 = .ok (.invokevirtual 323, 3) := dk_182 1 67 (dk_at dksX5_giving_1 20 rfl rfl)
theorem dX5_giving_45 : decode cX5_giving 45 = .ok (.aload_n 0, 1) := dk_42 (dk_at dksX5_giving_1 23 rfl rfl)
theorem dX5_giving_46 : decode cX5_giving 46 = .ok (.iload_n 1, 1) := dk_27 (dk_at dksX5_giving_2 0 rfl rfl)
theorem dX5_giving_47 : decode cX5_giving 47 = .ok (.iload_n 2, 1) := dk_28 (dk_at dksX5_giving_2 1 rfl rfl)
theorem dX5_giving_48 : decode cX5_giving 48 = .ok (.invokevirtual 332, 3) := dk_182 1 76 (dk_at dksX5_giving_2 2 rfl rfl)
theorem dX5_giving_51 : decode cX5_giving 51 = .ok (.iconst 1, 1) := dk_4 (dk_at dksX5_giving_2 5 rfl rfl)
theorem dX5_giving_52 : decode cX5_giving 52 = .ok (.isub, 1) := dk_100 (dk_at dksX5_giving_2 6 rfl rfl)
theorem dX5_giving_53 : decode cX5_giving 53 = .ok (.ireturn, 1) := dk_172 (dk_at dksX5_giving_2 7 rfl rfl)
theorem dX5_giving_54 : decode cX5_giving 54 = .ok (.aload_n 0, 1) := dk_42 (dk_at dksX5_giving_2 8 rfl rfl)
theorem dX5_giving_55 : decode cX5_giving 55 = .ok (.getfield 88, 3) := dk_180 0 88 (dk_at dksX5_giving_2 9 rfl rfl)
theorem dX5_giving_58 : decode cX5_giving 58 = .ok (.iload_n 1, 1) := dk_27 (dk_at dksX5_giving_2 12 rfl rfl)
theorem dX5_giving_59 : decode cX5_giving 59 = .ok (.iaload, 1) := dk_46 (dk_at dksX5_giving_2 13 rfl rfl)
theorem dX5_giving_60 : decode cX5_giving 60 = .ok (.bipush 6, 2) := dk_16 6 (dk_at dksX5_giving_2 14 rfl rfl)
theorem dX5_giving_62 : decode cX5_giving 62 = .ok (.if_icmp .ne 12, 3) := dk_160 0 12 (dk_at dksX5_giving_2 16 rfl rfl)
theorem dX5_giving_65 : decode cX5_giving 65 = .ok (.aload_n 0, 1) := dk_42 (dk_at dksX5_giving_2 19 rfl rfl)
theorem dX5_giving_66 : decode cX5_giving 66 = .ok (.iload_n 1, 1) := dk_27 (dk_at dksX5_giving_2 20 rfl rfl)
theorem dX5_giving_67 : decode cX5_giving 67 = .ok (.iload_n 2, 1) := dk_28 (dk_at dksX5_giving_2 21 rfl rfl)
theorem dX5_giving_68 : decode cX5_giving 68 = .ok (.invokevirtual 332, 3) := dk_182 1 76 (dk_at dksX5_giving_3 0 rfl rfl)
theorem dX5_giving_71 : decode cX5_giving 71 = .ok (.goto 9, 3) := dk_167 0 9 (dk_at dksX5_giving_3 3 rfl rfl)
theorem dX5_giving_74 : decode cX5_giving 74 = .ok (.aload_n 0, 1) := dk_42 (dk_at dksX5_giving_3 6 rfl rfl)
theorem dX5_giving_75 : decode cX5_giving 75 = .ok (.iload_n 1, 1) := dk_27 (dk_at dksX5_giving_3 7 rfl rfl)
theorem dX5_giving_76 : decode cX5_giving 76 = .ok (.iload_n 2, 1) := dk_28 (dk_at dksX5_giving_3 8 rfl rfl)
theorem dX5_giving_77 : decode cX5_giving 77 = .ok (.invokevirtual 326, 3) := dk_182 1 70 (dk_at dksX5_giving_3 9 rfl rfl)
theorem dX5_giving_80 : decode cX5_giving 80 = .ok (.ireturn, 1) := dk_172 (dk_at dksX5_giving_3 12 rfl rfl)
abbrev cX5_isUnder : ByteArray := prog_25_method_82_code
def yX5_isUnder : MethodName := ⟨RX5, "isUnder", "(II)Z"⟩
def dkwX5_isUnder_2 : List UInt8 := [160, 0, 13, 26, 16, 7, 160, 0, 7, 4, 167, 0, 4, 3, 172]
abbrev dktX5_isUnder_2 : List UInt8 := dkwX5_isUnder_2 ++ []
def dkwX5_isUnder_1 : List UInt8 := [26, 6, 159, 0, 30, 26, 8, 159, 0, 25, 27, 6, 160, 0, 8, 26, 8, 159, 0, 15, 27, 16, 6]
abbrev dktX5_isUnder_1 : List UInt8 := dkwX5_isUnder_1 ++ dktX5_isUnder_2
def dkwX5_isUnder_0 : List UInt8 := [27, 153, 0, 55, 26, 27, 159, 0, 50, 27, 4, 160, 0, 8, 26, 7, 159, 0, 40, 27, 5, 160, 0, 13]
abbrev dktX5_isUnder_0 : List UInt8 := dkwX5_isUnder_0 ++ dktX5_isUnder_1
theorem dksX5_isUnder_0 : cX5_isUnder.data.toList.drop 0 = dktX5_isUnder_0 := by decide +kernel
theorem dksX5_isUnder_1 : cX5_isUnder.data.toList.drop 24 = dktX5_isUnder_1 := dk_seg dksX5_isUnder_0 24 rfl rfl
theorem dksX5_isUnder_2 : cX5_isUnder.data.toList.drop 47 = dktX5_isUnder_2 := dk_seg dksX5_isUnder_1 23 rfl rfl
theorem dX5_isUnder_0 : decode cX5_isUnder 0 = .ok (.iload_n 1, 1) := dk_27 (dk_at dksX5_isUnder_0 0 rfl rfl)
theorem dX5_isUnder_1 : decode cX5_isUnder 1 = .ok (.ifCond .eq 55, 3) := dk_153 0 55 (dk_at dksX5_isUnder_0 1 rfl rfl)
theorem dX5_isUnder_4 : decode cX5_isUnder 4 = .ok (.iload_n 0, 1) := dk_26 (dk_at dksX5_isUnder_0 4 rfl rfl)
theorem dX5_isUnder_5 : decode cX5_isUnder 5 = .ok (.iload_n 1, 1) := dk_27 (dk_at dksX5_isUnder_0 5 rfl rfl)
theorem dX5_isUnder_6 : decode cX5_isUnder 6 = .ok (.if_icmp .eq 50, 3) := dk_159 0 50 (dk_at dksX5_isUnder_0 6 rfl rfl)
theorem dX5_isUnder_9 : decode cX5_isUnder 9 = .ok (.iload_n 1, 1) := dk_27 (dk_at dksX5_isUnder_0 9 rfl rfl)
theorem dX5_isUnder_10 : decode cX5_isUnder 10 = .ok (.iconst 1, 1) := dk_4 (dk_at dksX5_isUnder_0 10 rfl rfl)
theorem dX5_isUnder_11 : decode cX5_isUnder 11 = .ok (.if_icmp .ne 8, 3) := dk_160 0 8 (dk_at dksX5_isUnder_0 11 rfl rfl)
theorem dX5_isUnder_14 : decode cX5_isUnder 14 = .ok (.iload_n 0, 1) := dk_26 (dk_at dksX5_isUnder_0 14 rfl rfl)
theorem dX5_isUnder_15 : decode cX5_isUnder 15 = .ok (.iconst 4, 1) := dk_7 (dk_at dksX5_isUnder_0 15 rfl rfl)
theorem dX5_isUnder_16 : decode cX5_isUnder 16 = .ok (.if_icmp .eq 40, 3) := dk_159 0 40 (dk_at dksX5_isUnder_0 16 rfl rfl)
theorem dX5_isUnder_19 : decode cX5_isUnder 19 = .ok (.iload_n 1, 1) := dk_27 (dk_at dksX5_isUnder_0 19 rfl rfl)
theorem dX5_isUnder_20 : decode cX5_isUnder 20 = .ok (.iconst 2, 1) := dk_5 (dk_at dksX5_isUnder_0 20 rfl rfl)
theorem dX5_isUnder_21 : decode cX5_isUnder 21 = .ok (.if_icmp .ne 13, 3) := dk_160 0 13 (dk_at dksX5_isUnder_0 21 rfl rfl)
theorem dX5_isUnder_24 : decode cX5_isUnder 24 = .ok (.iload_n 0, 1) := dk_26 (dk_at dksX5_isUnder_1 0 rfl rfl)
theorem dX5_isUnder_25 : decode cX5_isUnder 25 = .ok (.iconst 3, 1) := dk_6 (dk_at dksX5_isUnder_1 1 rfl rfl)
theorem dX5_isUnder_26 : decode cX5_isUnder 26 = .ok (.if_icmp .eq 30, 3) := dk_159 0 30 (dk_at dksX5_isUnder_1 2 rfl rfl)
theorem dX5_isUnder_29 : decode cX5_isUnder 29 = .ok (.iload_n 0, 1) := dk_26 (dk_at dksX5_isUnder_1 5 rfl rfl)
theorem dX5_isUnder_30 : decode cX5_isUnder 30 = .ok (.iconst 5, 1) := dk_8 (dk_at dksX5_isUnder_1 6 rfl rfl)
theorem dX5_isUnder_31 : decode cX5_isUnder 31 = .ok (.if_icmp .eq 25, 3) := dk_159 0 25 (dk_at dksX5_isUnder_1 7 rfl rfl)
theorem dX5_isUnder_34 : decode cX5_isUnder 34 = .ok (.iload_n 1, 1) := dk_27 (dk_at dksX5_isUnder_1 10 rfl rfl)
theorem dX5_isUnder_35 : decode cX5_isUnder 35 = .ok (.iconst 3, 1) := dk_6 (dk_at dksX5_isUnder_1 11 rfl rfl)
theorem dX5_isUnder_36 : decode cX5_isUnder 36 = .ok (.if_icmp .ne 8, 3) := dk_160 0 8 (dk_at dksX5_isUnder_1 12 rfl rfl)
theorem dX5_isUnder_39 : decode cX5_isUnder 39 = .ok (.iload_n 0, 1) := dk_26 (dk_at dksX5_isUnder_1 15 rfl rfl)
theorem dX5_isUnder_40 : decode cX5_isUnder 40 = .ok (.iconst 5, 1) := dk_8 (dk_at dksX5_isUnder_1 16 rfl rfl)
theorem dX5_isUnder_41 : decode cX5_isUnder 41 = .ok (.if_icmp .eq 15, 3) := dk_159 0 15 (dk_at dksX5_isUnder_1 17 rfl rfl)
theorem dX5_isUnder_44 : decode cX5_isUnder 44 = .ok (.iload_n 1, 1) := dk_27 (dk_at dksX5_isUnder_1 20 rfl rfl)
theorem dX5_isUnder_45 : decode cX5_isUnder 45 = .ok (.bipush 6, 2) := dk_16 6 (dk_at dksX5_isUnder_1 21 rfl rfl)
theorem dX5_isUnder_47 : decode cX5_isUnder 47 = .ok (.if_icmp .ne 13, 3) := dk_160 0 13 (dk_at dksX5_isUnder_2 0 rfl rfl)
theorem dX5_isUnder_50 : decode cX5_isUnder 50 = .ok (.iload_n 0, 1) := dk_26 (dk_at dksX5_isUnder_2 3 rfl rfl)
theorem dX5_isUnder_51 : decode cX5_isUnder 51 = .ok (.bipush 7, 2) := dk_16 7 (dk_at dksX5_isUnder_2 4 rfl rfl)
theorem dX5_isUnder_53 : decode cX5_isUnder 53 = .ok (.if_icmp .ne 7, 3) := dk_160 0 7 (dk_at dksX5_isUnder_2 6 rfl rfl)
theorem dX5_isUnder_56 : decode cX5_isUnder 56 = .ok (.iconst 1, 1) := dk_4 (dk_at dksX5_isUnder_2 9 rfl rfl)
theorem dX5_isUnder_57 : decode cX5_isUnder 57 = .ok (.goto 4, 3) := dk_167 0 4 (dk_at dksX5_isUnder_2 10 rfl rfl)
theorem dX5_isUnder_60 : decode cX5_isUnder 60 = .ok (.iconst 0, 1) := dk_3 (dk_at dksX5_isUnder_2 13 rfl rfl)
theorem dX5_isUnder_61 : decode cX5_isUnder 61 = .ok (.ireturn, 1) := dk_172 (dk_at dksX5_isUnder_2 14 rfl rfl)
abbrev cX5_ran : ByteArray := prog_25_method_79_code
def yX5_ran : MethodName := ⟨RX5, "ran", "(I)V"⟩
def dkwX5_ran_1 : List UInt8 := [4, 96, 181, 1, 64, 177]
abbrev dktX5_ran_1 : List UInt8 := dkwX5_ran_1 ++ []
def dkwX5_ran_0 : List UInt8 := [42, 180, 1, 64, 16, 24, 162, 0, 13, 42, 180, 0, 91, 42, 180, 1, 64, 27, 79, 42, 89, 180, 1, 64]
abbrev dktX5_ran_0 : List UInt8 := dkwX5_ran_0 ++ dktX5_ran_1
theorem dksX5_ran_0 : cX5_ran.data.toList.drop 0 = dktX5_ran_0 := by decide +kernel
theorem dksX5_ran_1 : cX5_ran.data.toList.drop 24 = dktX5_ran_1 := dk_seg dksX5_ran_0 24 rfl rfl
theorem dX5_ran_0 : decode cX5_ran 0 = .ok (.aload_n 0, 1) := dk_42 (dk_at dksX5_ran_0 0 rfl rfl)
theorem dX5_ran_1 : decode cX5_ran 1 = .ok (.getfield 320, 3) := dk_180 1 64 (dk_at dksX5_ran_0 1 rfl rfl)
theorem dX5_ran_4 : decode cX5_ran 4 = .ok (.bipush 24, 2) := dk_16 24 (dk_at dksX5_ran_0 4 rfl rfl)
theorem dX5_ran_6 : decode cX5_ran 6 = .ok (.if_icmp .ge 13, 3) := dk_162 0 13 (dk_at dksX5_ran_0 6 rfl rfl)
theorem dX5_ran_9 : decode cX5_ran 9 = .ok (.aload_n 0, 1) := dk_42 (dk_at dksX5_ran_0 9 rfl rfl)
theorem dX5_ran_10 : decode cX5_ran 10 = .ok (.getfield 91, 3) := dk_180 0 91 (dk_at dksX5_ran_0 10 rfl rfl)
theorem dX5_ran_13 : decode cX5_ran 13 = .ok (.aload_n 0, 1) := dk_42 (dk_at dksX5_ran_0 13 rfl rfl)
theorem dX5_ran_14 : decode cX5_ran 14 = .ok (.getfield 320, 3) := dk_180 1 64 (dk_at dksX5_ran_0 14 rfl rfl)
theorem dX5_ran_17 : decode cX5_ran 17 = .ok (.iload_n 1, 1) := dk_27 (dk_at dksX5_ran_0 17 rfl rfl)
theorem dX5_ran_18 : decode cX5_ran 18 = .ok (.iastore, 1) := dk_79 (dk_at dksX5_ran_0 18 rfl rfl)
theorem dX5_ran_19 : decode cX5_ran 19 = .ok (.aload_n 0, 1) := dk_42 (dk_at dksX5_ran_0 19 rfl rfl)
theorem dX5_ran_20 : decode cX5_ran 20 = .ok (.dup, 1) := dk_89 (dk_at dksX5_ran_0 20 rfl rfl)
theorem dX5_ran_21 : decode cX5_ran 21 = .ok (.getfield 320, 3) := dk_180 1 64 (dk_at dksX5_ran_0 21 rfl rfl)
theorem dX5_ran_24 : decode cX5_ran 24 = .ok (.iconst 1, 1) := dk_4 (dk_at dksX5_ran_1 0 rfl rfl)
theorem dX5_ran_25 : decode cX5_ran 25 = .ok (.iadd, 1) := dk_96 (dk_at dksX5_ran_1 1 rfl rfl)
theorem dX5_ran_26 : decode cX5_ran 26 = .ok (.putfield 320, 3) := dk_181 1 64 (dk_at dksX5_ran_1 2 rfl rfl)
theorem dX5_ran_29 : decode cX5_ran 29 = .ok (.return_, 1) := dk_177 (dk_at dksX5_ran_1 5 rfl rfl)
abbrev cX5_plainGives : ByteArray := prog_25_method_83_code
def yX5_plainGives : MethodName := ⟨RX5, "plainGives", "(II)I"⟩
def dkwX5_plainGives_0 : List UInt8 := [42, 4, 182, 1, 67, 28, 27, 96, 172]
abbrev dktX5_plainGives_0 : List UInt8 := dkwX5_plainGives_0 ++ []
theorem dksX5_plainGives_0 : cX5_plainGives.data.toList.drop 0 = dktX5_plainGives_0 := by decide +kernel
theorem dX5_plainGives_0 : decode cX5_plainGives 0 = .ok (.aload_n 0, 1) := dk_42 (dk_at dksX5_plainGives_0 0 rfl rfl)
theorem dX5_plainGives_1 : decode cX5_plainGives 1 = .ok (.iconst 1, 1) := dk_4 (dk_at dksX5_plainGives_0 1 rfl rfl)
theorem dX5_plainGives_2 : decode cX5_plainGives 2 = .ok (.invokevirtual 323, 3) := dk_182 1 67 (dk_at dksX5_plainGives_0 2 rfl rfl)
theorem dX5_plainGives_5 : decode cX5_plainGives 5 = .ok (.iload_n 2, 1) := dk_28 (dk_at dksX5_plainGives_0 5 rfl rfl)
theorem dX5_plainGives_6 : decode cX5_plainGives 6 = .ok (.iload_n 1, 1) := dk_27 (dk_at dksX5_plainGives_0 6 rfl rfl)
theorem dX5_plainGives_7 : decode cX5_plainGives 7 = .ok (.iadd, 1) := dk_96 (dk_at dksX5_plainGives_0 7 rfl rfl)
theorem dX5_plainGives_8 : decode cX5_plainGives 8 = .ok (.ireturn, 1) := dk_172 (dk_at dksX5_plainGives_0 8 rfl rfl)
abbrev cX5_toldGives : ByteArray := prog_25_method_84_code
def yX5_toldGives : MethodName := ⟨RX5, "toldGives", "(II)I"⟩
def dkwX5_toldGives_0 : List UInt8 := [42, 16, 70, 182, 1, 67, 42, 27, 28, 182, 1, 70, 5, 104, 172]
abbrev dktX5_toldGives_0 : List UInt8 := dkwX5_toldGives_0 ++ []
theorem dksX5_toldGives_0 : cX5_toldGives.data.toList.drop 0 = dktX5_toldGives_0 := by decide +kernel
theorem dX5_toldGives_0 : decode cX5_toldGives 0 = .ok (.aload_n 0, 1) := dk_42 (dk_at dksX5_toldGives_0 0 rfl rfl)
theorem dX5_toldGives_1 : decode cX5_toldGives 1 = .ok (.bipush 70, 2) := dk_16 70 (dk_at dksX5_toldGives_0 1 rfl rfl)
theorem dX5_toldGives_3 : decode cX5_toldGives 3 = .ok (.invokevirtual 323, 3) := dk_182 1 67 (dk_at dksX5_toldGives_0 3 rfl rfl)
theorem dX5_toldGives_6 : decode cX5_toldGives 6 = .ok (.aload_n 0, 1) := dk_42 (dk_at dksX5_toldGives_0 6 rfl rfl)
theorem dX5_toldGives_7 : decode cX5_toldGives 7 = .ok (.iload_n 1, 1) := dk_27 (dk_at dksX5_toldGives_0 7 rfl rfl)
theorem dX5_toldGives_8 : decode cX5_toldGives 8 = .ok (.iload_n 2, 1) := dk_28 (dk_at dksX5_toldGives_0 8 rfl rfl)
theorem dX5_toldGives_9 : decode cX5_toldGives 9 = .ok (.invokevirtual 326, 3) := dk_182 1 70 (dk_at dksX5_toldGives_0 9 rfl rfl)
theorem dX5_toldGives_12 : decode cX5_toldGives 12 = .ok (.iconst 2, 1) := dk_5 (dk_at dksX5_toldGives_0 12 rfl rfl)
theorem dX5_toldGives_13 : decode cX5_toldGives 13 = .ok (.imul, 1) := dk_104 (dk_at dksX5_toldGives_0 13 rfl rfl)
theorem dX5_toldGives_14 : decode cX5_toldGives 14 = .ok (.ireturn, 1) := dk_172 (dk_at dksX5_toldGives_0 14 rfl rfl)
abbrev cX5_holding : ByteArray := prog_25_method_88_code
def yX5_holding : MethodName := ⟨RX5, "holding", "(II)I"⟩
def dkwX5_holding_3 : List UInt8 := [27, 28, 182, 1, 85, 167, 0, 9, 42, 27, 28, 182, 1, 82, 172]
abbrev dktX5_holding_3 : List UInt8 := dkwX5_holding_3 ++ []
def dkwX5_holding_2 : List UInt8 := [182, 1, 82, 62, 29, 42, 27, 5, 182, 1, 88, 96, 172, 42, 180, 0, 88, 27, 46, 5, 160, 0, 12, 42]
abbrev dktX5_holding_2 : List UInt8 := dkwX5_holding_2 ++ dktX5_holding_3
def dkwX5_holding_1 : List UInt8 := [182, 1, 85, 172, 42, 180, 0, 88, 27, 46, 16, 7, 160, 0, 25, 42, 16, 80, 182, 1, 67, 42, 27, 28]
abbrev dktX5_holding_1 : List UInt8 := dkwX5_holding_1 ++ dktX5_holding_2
def dkwX5_holding_0 : List UInt8 := [42, 180, 0, 88, 27, 46, 6, 184, 1, 73, 153, 0, 18, 42, 16, 41, 182, 1, 67, 42, 27, 28, 4, 96]
abbrev dktX5_holding_0 : List UInt8 := dkwX5_holding_0 ++ dktX5_holding_1
theorem dksX5_holding_0 : cX5_holding.data.toList.drop 0 = dktX5_holding_0 := by decide +kernel
theorem dksX5_holding_1 : cX5_holding.data.toList.drop 24 = dktX5_holding_1 := dk_seg dksX5_holding_0 24 rfl rfl
theorem dksX5_holding_2 : cX5_holding.data.toList.drop 48 = dktX5_holding_2 := dk_seg dksX5_holding_1 24 rfl rfl
theorem dksX5_holding_3 : cX5_holding.data.toList.drop 72 = dktX5_holding_3 := dk_seg dksX5_holding_2 24 rfl rfl
theorem dX5_holding_0 : decode cX5_holding 0 = .ok (.aload_n 0, 1) := dk_42 (dk_at dksX5_holding_0 0 rfl rfl)
theorem dX5_holding_1 : decode cX5_holding 1 = .ok (.getfield 88, 3) := dk_180 0 88 (dk_at dksX5_holding_0 1 rfl rfl)
theorem dX5_holding_4 : decode cX5_holding 4 = .ok (.iload_n 1, 1) := dk_27 (dk_at dksX5_holding_0 4 rfl rfl)
theorem dX5_holding_5 : decode cX5_holding 5 = .ok (.iaload, 1) := dk_46 (dk_at dksX5_holding_0 5 rfl rfl)
theorem dX5_holding_6 : decode cX5_holding 6 = .ok (.iconst 3, 1) := dk_6 (dk_at dksX5_holding_0 6 rfl rfl)
theorem dX5_holding_7 : decode cX5_holding 7 = .ok (.invokestatic 329, 3) := dk_184 1 73 (dk_at dksX5_holding_0 7 rfl rfl)
theorem dX5_holding_10 : decode cX5_holding 10 = .ok (.ifCond .eq 18, 3) := dk_153 0 18 (dk_at dksX5_holding_0 10 rfl rfl)
theorem dX5_holding_13 : decode cX5_holding 13 = .ok (.aload_n 0, 1) := dk_42 (dk_at dksX5_holding_0 13 rfl rfl)
theorem dX5_holding_14 : decode cX5_holding 14 = .ok (.bipush 41, 2) := dk_16 41 (dk_at dksX5_holding_0 14 rfl rfl)
theorem dX5_holding_16 : decode cX5_holding 16 = .ok (.invokevirtual 323, 3) := dk_182 1 67 (dk_at dksX5_holding_0 16 rfl rfl)
theorem dX5_holding_19 : decode cX5_holding 19 = .ok (.aload_n 0, 1) := dk_42 (dk_at dksX5_holding_0 19 rfl rfl)
theorem dX5_holding_20 : decode cX5_holding 20 = .ok (.iload_n 1, 1) := dk_27 (dk_at dksX5_holding_0 20 rfl rfl)
theorem dX5_holding_21 : decode cX5_holding 21 = .ok (.iload_n 2, 1) := dk_28 (dk_at dksX5_holding_0 21 rfl rfl)
theorem dX5_holding_22 : decode cX5_holding 22 = .ok (.iconst 1, 1) := dk_4 (dk_at dksX5_holding_0 22 rfl rfl)
theorem dX5_holding_23 : decode cX5_holding 23 = .ok (.iadd, 1) := dk_96 (dk_at dksX5_holding_0 23 rfl rfl)
theorem dX5_holding_24 : decode cX5_holding 24 = .ok (.invokevirtual 341, 3) := dk_182 1 85 (dk_at dksX5_holding_1 0 rfl rfl)
theorem dX5_holding_27 : decode cX5_holding 27 = .ok (.ireturn, 1) := dk_172 (dk_at dksX5_holding_1 3 rfl rfl)
theorem dX5_holding_28 : decode cX5_holding 28 = .ok (.aload_n 0, 1) := dk_42 (dk_at dksX5_holding_1 4 rfl rfl)
theorem dX5_holding_29 : decode cX5_holding 29 = .ok (.getfield 88, 3) := dk_180 0 88 (dk_at dksX5_holding_1 5 rfl rfl)
theorem dX5_holding_32 : decode cX5_holding 32 = .ok (.iload_n 1, 1) := dk_27 (dk_at dksX5_holding_1 8 rfl rfl)
theorem dX5_holding_33 : decode cX5_holding 33 = .ok (.iaload, 1) := dk_46 (dk_at dksX5_holding_1 9 rfl rfl)
theorem dX5_holding_34 : decode cX5_holding 34 = .ok (.bipush 7, 2) := dk_16 7 (dk_at dksX5_holding_1 10 rfl rfl)
theorem dX5_holding_36 : decode cX5_holding 36 = .ok (.if_icmp .ne 25, 3) := dk_160 0 25 (dk_at dksX5_holding_1 12 rfl rfl)
theorem dX5_holding_39 : decode cX5_holding 39 = .ok (.aload_n 0, 1) := dk_42 (dk_at dksX5_holding_1 15 rfl rfl)
theorem dX5_holding_40 : decode cX5_holding 40 = .ok (.bipush 80, 2) := dk_16 80 (dk_at dksX5_holding_1 16 rfl rfl)
theorem dX5_holding_42 : decode cX5_holding 42 = .ok (.invokevirtual 323, 3) := dk_182 1 67 (dk_at dksX5_holding_1 18 rfl rfl)
theorem dX5_holding_45 : decode cX5_holding 45 = .ok (.aload_n 0, 1) := dk_42 (dk_at dksX5_holding_1 21 rfl rfl)
theorem dX5_holding_46 : decode cX5_holding 46 = .ok (.iload_n 1, 1) := dk_27 (dk_at dksX5_holding_1 22 rfl rfl)
theorem dX5_holding_47 : decode cX5_holding 47 = .ok (.iload_n 2, 1) := dk_28 (dk_at dksX5_holding_1 23 rfl rfl)
theorem dX5_holding_48 : decode cX5_holding 48 = .ok (.invokevirtual 338, 3) := dk_182 1 82 (dk_at dksX5_holding_2 0 rfl rfl)
theorem dX5_holding_51 : decode cX5_holding 51 = .ok (.istore_n 3, 1) := dk_62 (dk_at dksX5_holding_2 3 rfl rfl)
theorem dX5_holding_52 : decode cX5_holding 52 = .ok (.iload_n 3, 1) := dk_29 (dk_at dksX5_holding_2 4 rfl rfl)
theorem dX5_holding_53 : decode cX5_holding 53 = .ok (.aload_n 0, 1) := dk_42 (dk_at dksX5_holding_2 5 rfl rfl)
theorem dX5_holding_54 : decode cX5_holding 54 = .ok (.iload_n 1, 1) := dk_27 (dk_at dksX5_holding_2 6 rfl rfl)
theorem dX5_holding_55 : decode cX5_holding 55 = .ok (.iconst 2, 1) := dk_5 (dk_at dksX5_holding_2 7 rfl rfl)
theorem dX5_holding_56 : decode cX5_holding 56 = .ok (.invokevirtual 344, 3) := dk_182 1 88 (dk_at dksX5_holding_2 8 rfl rfl)
theorem dX5_holding_59 : decode cX5_holding 59 = .ok (.iadd, 1) := dk_96 (dk_at dksX5_holding_2 11 rfl rfl)
theorem dX5_holding_60 : decode cX5_holding 60 = .ok (.ireturn, 1) := dk_172 (dk_at dksX5_holding_2 12 rfl rfl)
theorem dX5_holding_61 : decode cX5_holding 61 = .ok (.aload_n 0, 1) := dk_42 (dk_at dksX5_holding_2 13 rfl rfl)
theorem dX5_holding_62 : decode cX5_holding 62 = .ok (.getfield 88, 3) := dk_180 0 88 (dk_at dksX5_holding_2 14 rfl rfl)
theorem dX5_holding_65 : decode cX5_holding 65 = .ok (.iload_n 1, 1) := dk_27 (dk_at dksX5_holding_2 17 rfl rfl)
theorem dX5_holding_66 : decode cX5_holding 66 = .ok (.iaload, 1) := dk_46 (dk_at dksX5_holding_2 18 rfl rfl)
theorem dX5_holding_67 : decode cX5_holding 67 = .ok (.iconst 2, 1) := dk_5 (dk_at dksX5_holding_2 19 rfl rfl)
theorem dX5_holding_68 : decode cX5_holding 68 = .ok (.if_icmp .ne 12, 3) := dk_160 0 12 (dk_at dksX5_holding_2 20 rfl rfl)
theorem dX5_holding_71 : decode cX5_holding 71 = .ok (.aload_n 0, 1) := dk_42 (dk_at dksX5_holding_2 23 rfl rfl)
theorem dX5_holding_72 : decode cX5_holding 72 = .ok (.iload_n 1, 1) := dk_27 (dk_at dksX5_holding_3 0 rfl rfl)
theorem dX5_holding_73 : decode cX5_holding 73 = .ok (.iload_n 2, 1) := dk_28 (dk_at dksX5_holding_3 1 rfl rfl)
theorem dX5_holding_74 : decode cX5_holding 74 = .ok (.invokevirtual 341, 3) := dk_182 1 85 (dk_at dksX5_holding_3 2 rfl rfl)
theorem dX5_holding_77 : decode cX5_holding 77 = .ok (.goto 9, 3) := dk_167 0 9 (dk_at dksX5_holding_3 5 rfl rfl)
theorem dX5_holding_80 : decode cX5_holding 80 = .ok (.aload_n 0, 1) := dk_42 (dk_at dksX5_holding_3 8 rfl rfl)
theorem dX5_holding_81 : decode cX5_holding 81 = .ok (.iload_n 1, 1) := dk_27 (dk_at dksX5_holding_3 9 rfl rfl)
theorem dX5_holding_82 : decode cX5_holding 82 = .ok (.iload_n 2, 1) := dk_28 (dk_at dksX5_holding_3 10 rfl rfl)
theorem dX5_holding_83 : decode cX5_holding 83 = .ok (.invokevirtual 338, 3) := dk_182 1 82 (dk_at dksX5_holding_3 11 rfl rfl)
theorem dX5_holding_86 : decode cX5_holding 86 = .ok (.ireturn, 1) := dk_172 (dk_at dksX5_holding_3 14 rfl rfl)
abbrev cX5_soonHolds : ByteArray := prog_25_method_87_code
def yX5_soonHolds : MethodName := ⟨RX5, "soonHolds", "(II)I"⟩
def dkwX5_soonHolds_0 : List UInt8 := [42, 16, 30, 182, 1, 67, 42, 27, 28, 182, 1, 82, 116, 172]
abbrev dktX5_soonHolds_0 : List UInt8 := dkwX5_soonHolds_0 ++ []
theorem dksX5_soonHolds_0 : cX5_soonHolds.data.toList.drop 0 = dktX5_soonHolds_0 := by decide +kernel
theorem dX5_soonHolds_0 : decode cX5_soonHolds 0 = .ok (.aload_n 0, 1) := dk_42 (dk_at dksX5_soonHolds_0 0 rfl rfl)
theorem dX5_soonHolds_1 : decode cX5_soonHolds 1 = .ok (.bipush 30, 2) := dk_16 30 (dk_at dksX5_soonHolds_0 1 rfl rfl)
theorem dX5_soonHolds_3 : decode cX5_soonHolds 3 = .ok (.invokevirtual 323, 3) := dk_182 1 67 (dk_at dksX5_soonHolds_0 3 rfl rfl)
theorem dX5_soonHolds_6 : decode cX5_soonHolds 6 = .ok (.aload_n 0, 1) := dk_42 (dk_at dksX5_soonHolds_0 6 rfl rfl)
theorem dX5_soonHolds_7 : decode cX5_soonHolds 7 = .ok (.iload_n 1, 1) := dk_27 (dk_at dksX5_soonHolds_0 7 rfl rfl)
theorem dX5_soonHolds_8 : decode cX5_soonHolds 8 = .ok (.iload_n 2, 1) := dk_28 (dk_at dksX5_soonHolds_0 8 rfl rfl)
theorem dX5_soonHolds_9 : decode cX5_soonHolds 9 = .ok (.invokevirtual 338, 3) := dk_182 1 82 (dk_at dksX5_soonHolds_0 9 rfl rfl)
theorem dX5_soonHolds_12 : decode cX5_soonHolds 12 = .ok (.ineg, 1) := dk_116 (dk_at dksX5_soonHolds_0 12 rfl rfl)
theorem dX5_soonHolds_13 : decode cX5_soonHolds 13 = .ok (.ireturn, 1) := dk_172 (dk_at dksX5_soonHolds_0 13 rfl rfl)
abbrev cX5_plainHolds : ByteArray := prog_25_method_86_code
def yX5_plainHolds : MethodName := ⟨RX5, "plainHolds", "(II)I"⟩
def dkwX5_plainHolds_0 : List UInt8 := [42, 16, 10, 182, 1, 67, 42, 27, 28, 182, 1, 79, 5, 104, 172]
abbrev dktX5_plainHolds_0 : List UInt8 := dkwX5_plainHolds_0 ++ []
theorem dksX5_plainHolds_0 : cX5_plainHolds.data.toList.drop 0 = dktX5_plainHolds_0 := by decide +kernel
theorem dX5_plainHolds_0 : decode cX5_plainHolds 0 = .ok (.aload_n 0, 1) := dk_42 (dk_at dksX5_plainHolds_0 0 rfl rfl)
theorem dX5_plainHolds_1 : decode cX5_plainHolds 1 = .ok (.bipush 10, 2) := dk_16 10 (dk_at dksX5_plainHolds_0 1 rfl rfl)
theorem dX5_plainHolds_3 : decode cX5_plainHolds 3 = .ok (.invokevirtual 323, 3) := dk_182 1 67 (dk_at dksX5_plainHolds_0 3 rfl rfl)
theorem dX5_plainHolds_6 : decode cX5_plainHolds 6 = .ok (.aload_n 0, 1) := dk_42 (dk_at dksX5_plainHolds_0 6 rfl rfl)
theorem dX5_plainHolds_7 : decode cX5_plainHolds 7 = .ok (.iload_n 1, 1) := dk_27 (dk_at dksX5_plainHolds_0 7 rfl rfl)
theorem dX5_plainHolds_8 : decode cX5_plainHolds 8 = .ok (.iload_n 2, 1) := dk_28 (dk_at dksX5_plainHolds_0 8 rfl rfl)
theorem dX5_plainHolds_9 : decode cX5_plainHolds 9 = .ok (.invokevirtual 335, 3) := dk_182 1 79 (dk_at dksX5_plainHolds_0 9 rfl rfl)
theorem dX5_plainHolds_12 : decode cX5_plainHolds 12 = .ok (.iconst 2, 1) := dk_5 (dk_at dksX5_plainHolds_0 12 rfl rfl)
theorem dX5_plainHolds_13 : decode cX5_plainHolds 13 = .ok (.imul, 1) := dk_104 (dk_at dksX5_plainHolds_0 13 rfl rfl)
theorem dX5_plainHolds_14 : decode cX5_plainHolds 14 = .ok (.ireturn, 1) := dk_172 (dk_at dksX5_plainHolds_0 14 rfl rfl)
abbrev cX5_knowing : ByteArray := prog_25_method_91_code
def yX5_knowing : MethodName := ⟨RX5, "knowing", "(II)I"⟩
def dkwX5_knowing_2 : List UInt8 := [167, 0, 9, 42, 27, 28, 182, 1, 91, 172]
abbrev dktX5_knowing_2 : List UInt8 := dkwX5_knowing_2 ++ []
def dkwX5_knowing_1 : List UInt8 := [42, 27, 5, 182, 1, 79, 100, 172, 42, 180, 0, 88, 27, 46, 6, 160, 0, 12, 42, 27, 28, 182, 1, 94]
abbrev dktX5_knowing_1 : List UInt8 := dkwX5_knowing_1 ++ dktX5_knowing_2
def dkwX5_knowing_0 : List UInt8 := [42, 180, 0, 88, 27, 46, 8, 160, 0, 25, 42, 16, 60, 182, 1, 67, 42, 27, 28, 182, 1, 94, 62, 29]
abbrev dktX5_knowing_0 : List UInt8 := dkwX5_knowing_0 ++ dktX5_knowing_1
theorem dksX5_knowing_0 : cX5_knowing.data.toList.drop 0 = dktX5_knowing_0 := by decide +kernel
theorem dksX5_knowing_1 : cX5_knowing.data.toList.drop 24 = dktX5_knowing_1 := dk_seg dksX5_knowing_0 24 rfl rfl
theorem dksX5_knowing_2 : cX5_knowing.data.toList.drop 48 = dktX5_knowing_2 := dk_seg dksX5_knowing_1 24 rfl rfl
theorem dX5_knowing_0 : decode cX5_knowing 0 = .ok (.aload_n 0, 1) := dk_42 (dk_at dksX5_knowing_0 0 rfl rfl)
theorem dX5_knowing_1 : decode cX5_knowing 1 = .ok (.getfield 88, 3) := dk_180 0 88 (dk_at dksX5_knowing_0 1 rfl rfl)
theorem dX5_knowing_4 : decode cX5_knowing 4 = .ok (.iload_n 1, 1) := dk_27 (dk_at dksX5_knowing_0 4 rfl rfl)
theorem dX5_knowing_5 : decode cX5_knowing 5 = .ok (.iaload, 1) := dk_46 (dk_at dksX5_knowing_0 5 rfl rfl)
theorem dX5_knowing_6 : decode cX5_knowing 6 = .ok (.iconst 5, 1) := dk_8 (dk_at dksX5_knowing_0 6 rfl rfl)
theorem dX5_knowing_7 : decode cX5_knowing 7 = .ok (.if_icmp .ne 25, 3) := dk_160 0 25 (dk_at dksX5_knowing_0 7 rfl rfl)
theorem dX5_knowing_10 : decode cX5_knowing 10 = .ok (.aload_n 0, 1) := dk_42 (dk_at dksX5_knowing_0 10 rfl rfl)
theorem dX5_knowing_11 : decode cX5_knowing 11 = .ok (.bipush 60, 2) := dk_16 60 (dk_at dksX5_knowing_0 11 rfl rfl)
theorem dX5_knowing_13 : decode cX5_knowing 13 = .ok (.invokevirtual 323, 3) := dk_182 1 67 (dk_at dksX5_knowing_0 13 rfl rfl)
theorem dX5_knowing_16 : decode cX5_knowing 16 = .ok (.aload_n 0, 1) := dk_42 (dk_at dksX5_knowing_0 16 rfl rfl)
theorem dX5_knowing_17 : decode cX5_knowing 17 = .ok (.iload_n 1, 1) := dk_27 (dk_at dksX5_knowing_0 17 rfl rfl)
theorem dX5_knowing_18 : decode cX5_knowing 18 = .ok (.iload_n 2, 1) := dk_28 (dk_at dksX5_knowing_0 18 rfl rfl)
theorem dX5_knowing_19 : decode cX5_knowing 19 = .ok (.invokevirtual 350, 3) := dk_182 1 94 (dk_at dksX5_knowing_0 19 rfl rfl)
theorem dX5_knowing_22 : decode cX5_knowing 22 = .ok (.istore_n 3, 1) := dk_62 (dk_at dksX5_knowing_0 22 rfl rfl)
theorem dX5_knowing_23 : decode cX5_knowing 23 = .ok (.iload_n 3, 1) := dk_29 (dk_at dksX5_knowing_0 23 rfl rfl)
theorem dX5_knowing_24 : decode cX5_knowing 24 = .ok (.aload_n 0, 1) := dk_42 (dk_at dksX5_knowing_1 0 rfl rfl)
theorem dX5_knowing_25 : decode cX5_knowing 25 = .ok (.iload_n 1, 1) := dk_27 (dk_at dksX5_knowing_1 1 rfl rfl)
theorem dX5_knowing_26 : decode cX5_knowing 26 = .ok (.iconst 2, 1) := dk_5 (dk_at dksX5_knowing_1 2 rfl rfl)
theorem dX5_knowing_27 : decode cX5_knowing 27 = .ok (.invokevirtual 335, 3) := dk_182 1 79 (dk_at dksX5_knowing_1 3 rfl rfl)
theorem dX5_knowing_30 : decode cX5_knowing 30 = .ok (.isub, 1) := dk_100 (dk_at dksX5_knowing_1 6 rfl rfl)
theorem dX5_knowing_31 : decode cX5_knowing 31 = .ok (.ireturn, 1) := dk_172 (dk_at dksX5_knowing_1 7 rfl rfl)
theorem dX5_knowing_32 : decode cX5_knowing 32 = .ok (.aload_n 0, 1) := dk_42 (dk_at dksX5_knowing_1 8 rfl rfl)
theorem dX5_knowing_33 : decode cX5_knowing 33 = .ok (.getfield 88, 3) := dk_180 0 88 (dk_at dksX5_knowing_1 9 rfl rfl)
theorem dX5_knowing_36 : decode cX5_knowing 36 = .ok (.iload_n 1, 1) := dk_27 (dk_at dksX5_knowing_1 12 rfl rfl)
theorem dX5_knowing_37 : decode cX5_knowing 37 = .ok (.iaload, 1) := dk_46 (dk_at dksX5_knowing_1 13 rfl rfl)
theorem dX5_knowing_38 : decode cX5_knowing 38 = .ok (.iconst 3, 1) := dk_6 (dk_at dksX5_knowing_1 14 rfl rfl)
theorem dX5_knowing_39 : decode cX5_knowing 39 = .ok (.if_icmp .ne 12, 3) := dk_160 0 12 (dk_at dksX5_knowing_1 15 rfl rfl)
theorem dX5_knowing_42 : decode cX5_knowing 42 = .ok (.aload_n 0, 1) := dk_42 (dk_at dksX5_knowing_1 18 rfl rfl)
theorem dX5_knowing_43 : decode cX5_knowing 43 = .ok (.iload_n 1, 1) := dk_27 (dk_at dksX5_knowing_1 19 rfl rfl)
theorem dX5_knowing_44 : decode cX5_knowing 44 = .ok (.iload_n 2, 1) := dk_28 (dk_at dksX5_knowing_1 20 rfl rfl)
theorem dX5_knowing_45 : decode cX5_knowing 45 = .ok (.invokevirtual 350, 3) := dk_182 1 94 (dk_at dksX5_knowing_1 21 rfl rfl)
theorem dX5_knowing_48 : decode cX5_knowing 48 = .ok (.goto 9, 3) := dk_167 0 9 (dk_at dksX5_knowing_2 0 rfl rfl)
theorem dX5_knowing_51 : decode cX5_knowing 51 = .ok (.aload_n 0, 1) := dk_42 (dk_at dksX5_knowing_2 3 rfl rfl)
theorem dX5_knowing_52 : decode cX5_knowing 52 = .ok (.iload_n 1, 1) := dk_27 (dk_at dksX5_knowing_2 4 rfl rfl)
theorem dX5_knowing_53 : decode cX5_knowing 53 = .ok (.iload_n 2, 1) := dk_28 (dk_at dksX5_knowing_2 5 rfl rfl)
theorem dX5_knowing_54 : decode cX5_knowing 54 = .ok (.invokevirtual 347, 3) := dk_182 1 91 (dk_at dksX5_knowing_2 6 rfl rfl)
theorem dX5_knowing_57 : decode cX5_knowing 57 = .ok (.ireturn, 1) := dk_172 (dk_at dksX5_knowing_2 9 rfl rfl)
abbrev cX5_wishKnows : ByteArray := prog_25_method_90_code
def yX5_wishKnows : MethodName := ⟨RX5, "wishKnows", "(II)I"⟩
def dkwX5_wishKnows_0 : List UInt8 := [42, 16, 40, 182, 1, 67, 42, 27, 28, 182, 1, 91, 6, 104, 172]
abbrev dktX5_wishKnows_0 : List UInt8 := dkwX5_wishKnows_0 ++ []
theorem dksX5_wishKnows_0 : cX5_wishKnows.data.toList.drop 0 = dktX5_wishKnows_0 := by decide +kernel
theorem dX5_wishKnows_0 : decode cX5_wishKnows 0 = .ok (.aload_n 0, 1) := dk_42 (dk_at dksX5_wishKnows_0 0 rfl rfl)
theorem dX5_wishKnows_1 : decode cX5_wishKnows 1 = .ok (.bipush 40, 2) := dk_16 40 (dk_at dksX5_wishKnows_0 1 rfl rfl)
theorem dX5_wishKnows_3 : decode cX5_wishKnows 3 = .ok (.invokevirtual 323, 3) := dk_182 1 67 (dk_at dksX5_wishKnows_0 3 rfl rfl)
theorem dX5_wishKnows_6 : decode cX5_wishKnows 6 = .ok (.aload_n 0, 1) := dk_42 (dk_at dksX5_wishKnows_0 6 rfl rfl)
theorem dX5_wishKnows_7 : decode cX5_wishKnows 7 = .ok (.iload_n 1, 1) := dk_27 (dk_at dksX5_wishKnows_0 7 rfl rfl)
theorem dX5_wishKnows_8 : decode cX5_wishKnows 8 = .ok (.iload_n 2, 1) := dk_28 (dk_at dksX5_wishKnows_0 8 rfl rfl)
theorem dX5_wishKnows_9 : decode cX5_wishKnows 9 = .ok (.invokevirtual 347, 3) := dk_182 1 91 (dk_at dksX5_wishKnows_0 9 rfl rfl)
theorem dX5_wishKnows_12 : decode cX5_wishKnows 12 = .ok (.iconst 3, 1) := dk_6 (dk_at dksX5_wishKnows_0 12 rfl rfl)
theorem dX5_wishKnows_13 : decode cX5_wishKnows 13 = .ok (.imul, 1) := dk_104 (dk_at dksX5_wishKnows_0 13 rfl rfl)
theorem dX5_wishKnows_14 : decode cX5_wishKnows 14 = .ok (.ireturn, 1) := dk_172 (dk_at dksX5_wishKnows_0 14 rfl rfl)
abbrev cX5_plainKnows : ByteArray := prog_25_method_89_code
def yX5_plainKnows : MethodName := ⟨RX5, "plainKnows", "(II)I"⟩
def dkwX5_plainKnows_0 : List UInt8 := [42, 16, 11, 182, 1, 67, 28, 27, 130, 172]
abbrev dktX5_plainKnows_0 : List UInt8 := dkwX5_plainKnows_0 ++ []
theorem dksX5_plainKnows_0 : cX5_plainKnows.data.toList.drop 0 = dktX5_plainKnows_0 := by decide +kernel
theorem dX5_plainKnows_0 : decode cX5_plainKnows 0 = .ok (.aload_n 0, 1) := dk_42 (dk_at dksX5_plainKnows_0 0 rfl rfl)
theorem dX5_plainKnows_1 : decode cX5_plainKnows 1 = .ok (.bipush 11, 2) := dk_16 11 (dk_at dksX5_plainKnows_0 1 rfl rfl)
theorem dX5_plainKnows_3 : decode cX5_plainKnows 3 = .ok (.invokevirtual 323, 3) := dk_182 1 67 (dk_at dksX5_plainKnows_0 3 rfl rfl)
theorem dX5_plainKnows_6 : decode cX5_plainKnows 6 = .ok (.iload_n 2, 1) := dk_28 (dk_at dksX5_plainKnows_0 6 rfl rfl)
theorem dX5_plainKnows_7 : decode cX5_plainKnows 7 = .ok (.iload_n 1, 1) := dk_27 (dk_at dksX5_plainKnows_0 7 rfl rfl)
theorem dX5_plainKnows_8 : decode cX5_plainKnows 8 = .ok (.ixor, 1) := dk_130 (dk_at dksX5_plainKnows_0 8 rfl rfl)
theorem dX5_plainKnows_9 : decode cX5_plainKnows 9 = .ok (.ireturn, 1) := dk_172 (dk_at dksX5_plainKnows_0 9 rfl rfl)
abbrev cX5_telling : ByteArray := prog_25_method_93_code
def yX5_telling : MethodName := ⟨RX5, "telling", "(II)I"⟩
def dkwX5_telling_2 : List UInt8 := [96, 172, 42, 27, 28, 182, 1, 100, 172]
abbrev dktX5_telling_2 : List UInt8 := dkwX5_telling_2 ++ []
def dkwX5_telling_1 : List UInt8 := [172, 42, 180, 0, 88, 27, 46, 8, 160, 0, 18, 42, 16, 61, 182, 1, 67, 42, 27, 28, 182, 1, 100, 4]
abbrev dktX5_telling_1 : List UInt8 := dkwX5_telling_1 ++ dktX5_telling_2
def dkwX5_telling_0 : List UInt8 := [42, 180, 0, 88, 27, 46, 7, 160, 0, 18, 42, 16, 50, 182, 1, 67, 42, 27, 28, 182, 1, 100, 8, 130]
abbrev dktX5_telling_0 : List UInt8 := dkwX5_telling_0 ++ dktX5_telling_1
theorem dksX5_telling_0 : cX5_telling.data.toList.drop 0 = dktX5_telling_0 := by decide +kernel
theorem dksX5_telling_1 : cX5_telling.data.toList.drop 24 = dktX5_telling_1 := dk_seg dksX5_telling_0 24 rfl rfl
theorem dksX5_telling_2 : cX5_telling.data.toList.drop 48 = dktX5_telling_2 := dk_seg dksX5_telling_1 24 rfl rfl
theorem dX5_telling_0 : decode cX5_telling 0 = .ok (.aload_n 0, 1) := dk_42 (dk_at dksX5_telling_0 0 rfl rfl)
theorem dX5_telling_1 : decode cX5_telling 1 = .ok (.getfield 88, 3) := dk_180 0 88 (dk_at dksX5_telling_0 1 rfl rfl)
theorem dX5_telling_4 : decode cX5_telling 4 = .ok (.iload_n 1, 1) := dk_27 (dk_at dksX5_telling_0 4 rfl rfl)
theorem dX5_telling_5 : decode cX5_telling 5 = .ok (.iaload, 1) := dk_46 (dk_at dksX5_telling_0 5 rfl rfl)
theorem dX5_telling_6 : decode cX5_telling 6 = .ok (.iconst 4, 1) := dk_7 (dk_at dksX5_telling_0 6 rfl rfl)
theorem dX5_telling_7 : decode cX5_telling 7 = .ok (.if_icmp .ne 18, 3) := dk_160 0 18 (dk_at dksX5_telling_0 7 rfl rfl)
theorem dX5_telling_10 : decode cX5_telling 10 = .ok (.aload_n 0, 1) := dk_42 (dk_at dksX5_telling_0 10 rfl rfl)
theorem dX5_telling_11 : decode cX5_telling 11 = .ok (.bipush 50, 2) := dk_16 50 (dk_at dksX5_telling_0 11 rfl rfl)
theorem dX5_telling_13 : decode cX5_telling 13 = .ok (.invokevirtual 323, 3) := dk_182 1 67 (dk_at dksX5_telling_0 13 rfl rfl)
theorem dX5_telling_16 : decode cX5_telling 16 = .ok (.aload_n 0, 1) := dk_42 (dk_at dksX5_telling_0 16 rfl rfl)
theorem dX5_telling_17 : decode cX5_telling 17 = .ok (.iload_n 1, 1) := dk_27 (dk_at dksX5_telling_0 17 rfl rfl)
theorem dX5_telling_18 : decode cX5_telling 18 = .ok (.iload_n 2, 1) := dk_28 (dk_at dksX5_telling_0 18 rfl rfl)
theorem dX5_telling_19 : decode cX5_telling 19 = .ok (.invokevirtual 356, 3) := dk_182 1 100 (dk_at dksX5_telling_0 19 rfl rfl)
theorem dX5_telling_22 : decode cX5_telling 22 = .ok (.iconst 5, 1) := dk_8 (dk_at dksX5_telling_0 22 rfl rfl)
theorem dX5_telling_23 : decode cX5_telling 23 = .ok (.ixor, 1) := dk_130 (dk_at dksX5_telling_0 23 rfl rfl)
theorem dX5_telling_24 : decode cX5_telling 24 = .ok (.ireturn, 1) := dk_172 (dk_at dksX5_telling_1 0 rfl rfl)
theorem dX5_telling_25 : decode cX5_telling 25 = .ok (.aload_n 0, 1) := dk_42 (dk_at dksX5_telling_1 1 rfl rfl)
theorem dX5_telling_26 : decode cX5_telling 26 = .ok (.getfield 88, 3) := dk_180 0 88 (dk_at dksX5_telling_1 2 rfl rfl)
theorem dX5_telling_29 : decode cX5_telling 29 = .ok (.iload_n 1, 1) := dk_27 (dk_at dksX5_telling_1 5 rfl rfl)
theorem dX5_telling_30 : decode cX5_telling 30 = .ok (.iaload, 1) := dk_46 (dk_at dksX5_telling_1 6 rfl rfl)
theorem dX5_telling_31 : decode cX5_telling 31 = .ok (.iconst 5, 1) := dk_8 (dk_at dksX5_telling_1 7 rfl rfl)
theorem dX5_telling_32 : decode cX5_telling 32 = .ok (.if_icmp .ne 18, 3) := dk_160 0 18 (dk_at dksX5_telling_1 8 rfl rfl)
theorem dX5_telling_35 : decode cX5_telling 35 = .ok (.aload_n 0, 1) := dk_42 (dk_at dksX5_telling_1 11 rfl rfl)
theorem dX5_telling_36 : decode cX5_telling 36 = .ok (.bipush 61, 2) := dk_16 61 (dk_at dksX5_telling_1 12 rfl rfl)
theorem dX5_telling_38 : decode cX5_telling 38 = .ok (.invokevirtual 323, 3) := dk_182 1 67 (dk_at dksX5_telling_1 14 rfl rfl)
theorem dX5_telling_41 : decode cX5_telling 41 = .ok (.aload_n 0, 1) := dk_42 (dk_at dksX5_telling_1 17 rfl rfl)
theorem dX5_telling_42 : decode cX5_telling 42 = .ok (.iload_n 1, 1) := dk_27 (dk_at dksX5_telling_1 18 rfl rfl)
theorem dX5_telling_43 : decode cX5_telling 43 = .ok (.iload_n 2, 1) := dk_28 (dk_at dksX5_telling_1 19 rfl rfl)
theorem dX5_telling_44 : decode cX5_telling 44 = .ok (.invokevirtual 356, 3) := dk_182 1 100 (dk_at dksX5_telling_1 20 rfl rfl)
theorem dX5_telling_47 : decode cX5_telling 47 = .ok (.iconst 1, 1) := dk_4 (dk_at dksX5_telling_1 23 rfl rfl)
theorem dX5_telling_48 : decode cX5_telling 48 = .ok (.iadd, 1) := dk_96 (dk_at dksX5_telling_2 0 rfl rfl)
theorem dX5_telling_49 : decode cX5_telling 49 = .ok (.ireturn, 1) := dk_172 (dk_at dksX5_telling_2 1 rfl rfl)
theorem dX5_telling_50 : decode cX5_telling 50 = .ok (.aload_n 0, 1) := dk_42 (dk_at dksX5_telling_2 2 rfl rfl)
theorem dX5_telling_51 : decode cX5_telling 51 = .ok (.iload_n 1, 1) := dk_27 (dk_at dksX5_telling_2 3 rfl rfl)
theorem dX5_telling_52 : decode cX5_telling 52 = .ok (.iload_n 2, 1) := dk_28 (dk_at dksX5_telling_2 4 rfl rfl)
theorem dX5_telling_53 : decode cX5_telling 53 = .ok (.invokevirtual 356, 3) := dk_182 1 100 (dk_at dksX5_telling_2 5 rfl rfl)
theorem dX5_telling_56 : decode cX5_telling 56 = .ok (.ireturn, 1) := dk_172 (dk_at dksX5_telling_2 8 rfl rfl)
abbrev cX5_plainTells : ByteArray := prog_25_method_92_code
def yX5_plainTells : MethodName := ⟨RX5, "plainTells", "(II)I"⟩
def dkwX5_plainTells_0 : List UInt8 := [42, 5, 182, 1, 67, 42, 27, 28, 182, 1, 97, 62, 29, 42, 27, 4, 182, 1, 88, 100, 172]
abbrev dktX5_plainTells_0 : List UInt8 := dkwX5_plainTells_0 ++ []
theorem dksX5_plainTells_0 : cX5_plainTells.data.toList.drop 0 = dktX5_plainTells_0 := by decide +kernel
theorem dX5_plainTells_0 : decode cX5_plainTells 0 = .ok (.aload_n 0, 1) := dk_42 (dk_at dksX5_plainTells_0 0 rfl rfl)
theorem dX5_plainTells_1 : decode cX5_plainTells 1 = .ok (.iconst 2, 1) := dk_5 (dk_at dksX5_plainTells_0 1 rfl rfl)
theorem dX5_plainTells_2 : decode cX5_plainTells 2 = .ok (.invokevirtual 323, 3) := dk_182 1 67 (dk_at dksX5_plainTells_0 2 rfl rfl)
theorem dX5_plainTells_5 : decode cX5_plainTells 5 = .ok (.aload_n 0, 1) := dk_42 (dk_at dksX5_plainTells_0 5 rfl rfl)
theorem dX5_plainTells_6 : decode cX5_plainTells 6 = .ok (.iload_n 1, 1) := dk_27 (dk_at dksX5_plainTells_0 6 rfl rfl)
theorem dX5_plainTells_7 : decode cX5_plainTells 7 = .ok (.iload_n 2, 1) := dk_28 (dk_at dksX5_plainTells_0 7 rfl rfl)
theorem dX5_plainTells_8 : decode cX5_plainTells 8 = .ok (.invokevirtual 353, 3) := dk_182 1 97 (dk_at dksX5_plainTells_0 8 rfl rfl)
theorem dX5_plainTells_11 : decode cX5_plainTells 11 = .ok (.istore_n 3, 1) := dk_62 (dk_at dksX5_plainTells_0 11 rfl rfl)
theorem dX5_plainTells_12 : decode cX5_plainTells 12 = .ok (.iload_n 3, 1) := dk_29 (dk_at dksX5_plainTells_0 12 rfl rfl)
theorem dX5_plainTells_13 : decode cX5_plainTells 13 = .ok (.aload_n 0, 1) := dk_42 (dk_at dksX5_plainTells_0 13 rfl rfl)
theorem dX5_plainTells_14 : decode cX5_plainTells 14 = .ok (.iload_n 1, 1) := dk_27 (dk_at dksX5_plainTells_0 14 rfl rfl)
theorem dX5_plainTells_15 : decode cX5_plainTells 15 = .ok (.iconst 1, 1) := dk_4 (dk_at dksX5_plainTells_0 15 rfl rfl)
theorem dX5_plainTells_16 : decode cX5_plainTells 16 = .ok (.invokevirtual 344, 3) := dk_182 1 88 (dk_at dksX5_plainTells_0 16 rfl rfl)
theorem dX5_plainTells_19 : decode cX5_plainTells 19 = .ok (.isub, 1) := dk_100 (dk_at dksX5_plainTells_0 19 rfl rfl)
theorem dX5_plainTells_20 : decode cX5_plainTells 20 = .ok (.ireturn, 1) := dk_172 (dk_at dksX5_plainTells_0 20 rfl rfl)
abbrev cX5_count : ByteArray := prog_25_method_96_code
def yX5_count : MethodName := ⟨RX5, "count", "(I)I"⟩
def dkwX5_count_3 : List UInt8 := [172, 42, 180, 1, 61, 172, 42, 180, 1, 64, 172, 2, 172]
abbrev dktX5_count_3 : List UInt8 := dkwX5_count_3 ++ []
def dkwX5_count_2 : List UInt8 := [42, 180, 0, 111, 172, 42, 180, 0, 141, 172, 42, 182, 1, 109, 172, 42, 180, 0, 181, 172, 42, 180, 0, 158]
abbrev dktX5_count_2 : List UInt8 := dkwX5_count_2 ++ dktX5_count_3
def dkwX5_count_1 : List UInt8 := [170, 0, 0, 0, 0, 0, 78, 0, 0, 0, 0, 0, 0, 0, 6, 0, 0, 0, 43, 0, 0, 0, 48, 0, 0, 0, 53, 0, 0, 0, 58, 0, 0, 0, 63, 0, 0, 0, 68, 0, 0, 0, 73]
abbrev dktX5_count_1 : List UInt8 := dkwX5_count_1 ++ dktX5_count_2
def dkwX5_count_0 : List UInt8 := [27]
abbrev dktX5_count_0 : List UInt8 := dkwX5_count_0 ++ dktX5_count_1
theorem dksX5_count_0 : cX5_count.data.toList.drop 0 = dktX5_count_0 := by decide +kernel
theorem dksX5_count_1 : cX5_count.data.toList.drop 1 = dktX5_count_1 := dk_seg dksX5_count_0 1 rfl rfl
theorem dksX5_count_2 : cX5_count.data.toList.drop 44 = dktX5_count_2 := dk_seg dksX5_count_1 43 rfl rfl
theorem dksX5_count_3 : cX5_count.data.toList.drop 68 = dktX5_count_3 := dk_seg dksX5_count_2 24 rfl rfl
theorem dX5_count_0 : decode cX5_count 0 = .ok (.iload_n 1, 1) := dk_27 (dk_at dksX5_count_0 0 rfl rfl)
theorem dX5_count_1 : decode cX5_count 1 = .ok (.tableswitch 78 0 6 #[43, 48, 53, 58, 63, 68, 73], 43) := by decide +kernel
theorem dX5_count_44 : decode cX5_count 44 = .ok (.aload_n 0, 1) := dk_42 (dk_at dksX5_count_2 0 rfl rfl)
theorem dX5_count_45 : decode cX5_count 45 = .ok (.getfield 111, 3) := dk_180 0 111 (dk_at dksX5_count_2 1 rfl rfl)
theorem dX5_count_48 : decode cX5_count 48 = .ok (.ireturn, 1) := dk_172 (dk_at dksX5_count_2 4 rfl rfl)
theorem dX5_count_49 : decode cX5_count 49 = .ok (.aload_n 0, 1) := dk_42 (dk_at dksX5_count_2 5 rfl rfl)
theorem dX5_count_50 : decode cX5_count 50 = .ok (.getfield 141, 3) := dk_180 0 141 (dk_at dksX5_count_2 6 rfl rfl)
theorem dX5_count_53 : decode cX5_count 53 = .ok (.ireturn, 1) := dk_172 (dk_at dksX5_count_2 9 rfl rfl)
theorem dX5_count_54 : decode cX5_count 54 = .ok (.aload_n 0, 1) := dk_42 (dk_at dksX5_count_2 10 rfl rfl)
theorem dX5_count_55 : decode cX5_count 55 = .ok (.invokevirtual 365, 3) := dk_182 1 109 (dk_at dksX5_count_2 11 rfl rfl)
theorem dX5_count_58 : decode cX5_count 58 = .ok (.ireturn, 1) := dk_172 (dk_at dksX5_count_2 14 rfl rfl)
theorem dX5_count_59 : decode cX5_count 59 = .ok (.aload_n 0, 1) := dk_42 (dk_at dksX5_count_2 15 rfl rfl)
theorem dX5_count_60 : decode cX5_count 60 = .ok (.getfield 181, 3) := dk_180 0 181 (dk_at dksX5_count_2 16 rfl rfl)
theorem dX5_count_63 : decode cX5_count 63 = .ok (.ireturn, 1) := dk_172 (dk_at dksX5_count_2 19 rfl rfl)
theorem dX5_count_64 : decode cX5_count 64 = .ok (.aload_n 0, 1) := dk_42 (dk_at dksX5_count_2 20 rfl rfl)
theorem dX5_count_65 : decode cX5_count 65 = .ok (.getfield 158, 3) := dk_180 0 158 (dk_at dksX5_count_2 21 rfl rfl)
theorem dX5_count_68 : decode cX5_count 68 = .ok (.ireturn, 1) := dk_172 (dk_at dksX5_count_3 0 rfl rfl)
theorem dX5_count_69 : decode cX5_count 69 = .ok (.aload_n 0, 1) := dk_42 (dk_at dksX5_count_3 1 rfl rfl)
theorem dX5_count_70 : decode cX5_count 70 = .ok (.getfield 317, 3) := dk_180 1 61 (dk_at dksX5_count_3 2 rfl rfl)
theorem dX5_count_73 : decode cX5_count 73 = .ok (.ireturn, 1) := dk_172 (dk_at dksX5_count_3 5 rfl rfl)
theorem dX5_count_74 : decode cX5_count 74 = .ok (.aload_n 0, 1) := dk_42 (dk_at dksX5_count_3 6 rfl rfl)
theorem dX5_count_75 : decode cX5_count 75 = .ok (.getfield 320, 3) := dk_180 1 64 (dk_at dksX5_count_3 7 rfl rfl)
theorem dX5_count_78 : decode cX5_count 78 = .ok (.ireturn, 1) := dk_172 (dk_at dksX5_count_3 10 rfl rfl)
theorem dX5_count_79 : decode cX5_count 79 = .ok (.iconst (-1), 1) := dk_2 (dk_at dksX5_count_3 11 rfl rfl)
theorem dX5_count_80 : decode cX5_count 80 = .ok (.ireturn, 1) := dk_172 (dk_at dksX5_count_3 12 rfl rfl)
abbrev cX5_namedMany : ByteArray := prog_25_method_95_code
def yX5_namedMany : MethodName := ⟨RX5, "namedMany", "()I"⟩
def dkwX5_namedMany_1 : List UInt8 := [132, 2, 1, 167, 255, 233, 27, 172]
abbrev dktX5_namedMany_1 : List UInt8 := dkwX5_namedMany_1 ++ []
def dkwX5_namedMany_0 : List UInt8 := [3, 60, 3, 61, 28, 42, 180, 0, 111, 162, 0, 21, 42, 180, 0, 16, 28, 46, 155, 0, 6, 132, 1, 1]
abbrev dktX5_namedMany_0 : List UInt8 := dkwX5_namedMany_0 ++ dktX5_namedMany_1
theorem dksX5_namedMany_0 : cX5_namedMany.data.toList.drop 0 = dktX5_namedMany_0 := by decide +kernel
theorem dksX5_namedMany_1 : cX5_namedMany.data.toList.drop 24 = dktX5_namedMany_1 := dk_seg dksX5_namedMany_0 24 rfl rfl
theorem dX5_namedMany_0 : decode cX5_namedMany 0 = .ok (.iconst 0, 1) := dk_3 (dk_at dksX5_namedMany_0 0 rfl rfl)
theorem dX5_namedMany_1 : decode cX5_namedMany 1 = .ok (.istore_n 1, 1) := dk_60 (dk_at dksX5_namedMany_0 1 rfl rfl)
theorem dX5_namedMany_2 : decode cX5_namedMany 2 = .ok (.iconst 0, 1) := dk_3 (dk_at dksX5_namedMany_0 2 rfl rfl)
theorem dX5_namedMany_3 : decode cX5_namedMany 3 = .ok (.istore_n 2, 1) := dk_61 (dk_at dksX5_namedMany_0 3 rfl rfl)
theorem dX5_namedMany_4 : decode cX5_namedMany 4 = .ok (.iload_n 2, 1) := dk_28 (dk_at dksX5_namedMany_0 4 rfl rfl)
theorem dX5_namedMany_5 : decode cX5_namedMany 5 = .ok (.aload_n 0, 1) := dk_42 (dk_at dksX5_namedMany_0 5 rfl rfl)
theorem dX5_namedMany_6 : decode cX5_namedMany 6 = .ok (.getfield 111, 3) := dk_180 0 111 (dk_at dksX5_namedMany_0 6 rfl rfl)
theorem dX5_namedMany_9 : decode cX5_namedMany 9 = .ok (.if_icmp .ge 21, 3) := dk_162 0 21 (dk_at dksX5_namedMany_0 9 rfl rfl)
theorem dX5_namedMany_12 : decode cX5_namedMany 12 = .ok (.aload_n 0, 1) := dk_42 (dk_at dksX5_namedMany_0 12 rfl rfl)
theorem dX5_namedMany_13 : decode cX5_namedMany 13 = .ok (.getfield 16, 3) := dk_180 0 16 (dk_at dksX5_namedMany_0 13 rfl rfl)
theorem dX5_namedMany_16 : decode cX5_namedMany 16 = .ok (.iload_n 2, 1) := dk_28 (dk_at dksX5_namedMany_0 16 rfl rfl)
theorem dX5_namedMany_17 : decode cX5_namedMany 17 = .ok (.iaload, 1) := dk_46 (dk_at dksX5_namedMany_0 17 rfl rfl)
theorem dX5_namedMany_18 : decode cX5_namedMany 18 = .ok (.ifCond .lt 6, 3) := dk_155 0 6 (dk_at dksX5_namedMany_0 18 rfl rfl)
theorem dX5_namedMany_21 : decode cX5_namedMany 21 = .ok (.iinc 1 1, 3) := dk_132 1 1 (dk_at dksX5_namedMany_0 21 rfl rfl)
theorem dX5_namedMany_24 : decode cX5_namedMany 24 = .ok (.iinc 2 1, 3) := dk_132 2 1 (dk_at dksX5_namedMany_1 0 rfl rfl)
theorem dX5_namedMany_27 : decode cX5_namedMany 27 = .ok (.goto (-23), 3) := dk_167 255 233 (dk_at dksX5_namedMany_1 3 rfl rfl)
theorem dX5_namedMany_30 : decode cX5_namedMany 30 = .ok (.iload_n 1, 1) := dk_27 (dk_at dksX5_namedMany_1 6 rfl rfl)
theorem dX5_namedMany_31 : decode cX5_namedMany 31 = .ok (.ireturn, 1) := dk_172 (dk_at dksX5_namedMany_1 7 rfl rfl)
abbrev cX5_keep : ByteArray := prog_25_method_98_code
def yX5_keep : MethodName := ⟨RX5, "keep", "(II)I"⟩
def dkwX5_keep_1 : List UInt8 := [180, 0, 94, 27, 28, 79, 4, 172]
abbrev dktX5_keep_1 : List UInt8 := dkwX5_keep_1 ++ []
def dkwX5_keep_0 : List UInt8 := [27, 184, 0, 130, 153, 0, 16, 28, 2, 159, 0, 13, 42, 28, 182, 1, 103, 154, 0, 5, 2, 172, 42]
abbrev dktX5_keep_0 : List UInt8 := dkwX5_keep_0 ++ dktX5_keep_1
theorem dksX5_keep_0 : cX5_keep.data.toList.drop 0 = dktX5_keep_0 := by decide +kernel
theorem dksX5_keep_1 : cX5_keep.data.toList.drop 23 = dktX5_keep_1 := dk_seg dksX5_keep_0 23 rfl rfl
theorem dX5_keep_0 : decode cX5_keep 0 = .ok (.iload_n 1, 1) := dk_27 (dk_at dksX5_keep_0 0 rfl rfl)
theorem dX5_keep_1 : decode cX5_keep 1 = .ok (.invokestatic 130, 3) := dk_184 0 130 (dk_at dksX5_keep_0 1 rfl rfl)
theorem dX5_keep_4 : decode cX5_keep 4 = .ok (.ifCond .eq 16, 3) := dk_153 0 16 (dk_at dksX5_keep_0 4 rfl rfl)
theorem dX5_keep_7 : decode cX5_keep 7 = .ok (.iload_n 2, 1) := dk_28 (dk_at dksX5_keep_0 7 rfl rfl)
theorem dX5_keep_8 : decode cX5_keep 8 = .ok (.iconst (-1), 1) := dk_2 (dk_at dksX5_keep_0 8 rfl rfl)
theorem dX5_keep_9 : decode cX5_keep 9 = .ok (.if_icmp .eq 13, 3) := dk_159 0 13 (dk_at dksX5_keep_0 9 rfl rfl)
theorem dX5_keep_12 : decode cX5_keep 12 = .ok (.aload_n 0, 1) := dk_42 (dk_at dksX5_keep_0 12 rfl rfl)
theorem dX5_keep_13 : decode cX5_keep 13 = .ok (.iload_n 2, 1) := dk_28 (dk_at dksX5_keep_0 13 rfl rfl)
theorem dX5_keep_14 : decode cX5_keep 14 = .ok (.invokevirtual 359, 3) := dk_182 1 103 (dk_at dksX5_keep_0 14 rfl rfl)
theorem dX5_keep_17 : decode cX5_keep 17 = .ok (.ifCond .ne 5, 3) := dk_154 0 5 (dk_at dksX5_keep_0 17 rfl rfl)
theorem dX5_keep_20 : decode cX5_keep 20 = .ok (.iconst (-1), 1) := dk_2 (dk_at dksX5_keep_0 20 rfl rfl)
theorem dX5_keep_21 : decode cX5_keep 21 = .ok (.ireturn, 1) := dk_172 (dk_at dksX5_keep_0 21 rfl rfl)
theorem dX5_keep_22 : decode cX5_keep 22 = .ok (.aload_n 0, 1) := dk_42 (dk_at dksX5_keep_0 22 rfl rfl)
theorem dX5_keep_23 : decode cX5_keep 23 = .ok (.getfield 94, 3) := dk_180 0 94 (dk_at dksX5_keep_1 0 rfl rfl)
theorem dX5_keep_26 : decode cX5_keep 26 = .ok (.iload_n 1, 1) := dk_27 (dk_at dksX5_keep_1 3 rfl rfl)
theorem dX5_keep_27 : decode cX5_keep 27 = .ok (.iload_n 2, 1) := dk_28 (dk_at dksX5_keep_1 4 rfl rfl)
theorem dX5_keep_28 : decode cX5_keep 28 = .ok (.iastore, 1) := dk_79 (dk_at dksX5_keep_1 5 rfl rfl)
theorem dX5_keep_29 : decode cX5_keep 29 = .ok (.iconst 1, 1) := dk_4 (dk_at dksX5_keep_1 6 rfl rfl)
theorem dX5_keep_30 : decode cX5_keep 30 = .ok (.ireturn, 1) := dk_172 (dk_at dksX5_keep_1 7 rfl rfl)
abbrev cX5_row : ByteArray := prog_25_method_99_code
def yX5_row : MethodName := ⟨RX5, "row", "(III)I"⟩
def dkwX5_row_3 : List UInt8 := [9, 80, 132, 4, 1, 167, 255, 233, 4, 172]
abbrev dktX5_row_3 : List UInt8 := dkwX5_row_3 ++ []
def dkwX5_row_2 : List UInt8 := [16, 60, 27, 104, 54, 4, 21, 4, 16, 60, 27, 104, 16, 60, 96, 162, 0, 17, 42, 180, 0, 100, 21, 4]
abbrev dktX5_row_2 : List UInt8 := dkwX5_row_2 ++ dktX5_row_3
def dkwX5_row_1 : List UInt8 := [29, 156, 0, 6, 16, 242, 172, 42, 180, 0, 94, 27, 16, 254, 28, 100, 79, 42, 180, 0, 97, 27, 29, 79]
abbrev dktX5_row_1 : List UInt8 := dkwX5_row_1 ++ dktX5_row_2
def dkwX5_row_0 : List UInt8 := [27, 184, 0, 130, 153, 0, 18, 28, 3, 7, 184, 0, 114, 153, 0, 9, 29, 16, 60, 164, 0, 5, 2, 172]
abbrev dktX5_row_0 : List UInt8 := dkwX5_row_0 ++ dktX5_row_1
theorem dksX5_row_0 : cX5_row.data.toList.drop 0 = dktX5_row_0 := by decide +kernel
theorem dksX5_row_1 : cX5_row.data.toList.drop 24 = dktX5_row_1 := dk_seg dksX5_row_0 24 rfl rfl
theorem dksX5_row_2 : cX5_row.data.toList.drop 48 = dktX5_row_2 := dk_seg dksX5_row_1 24 rfl rfl
theorem dksX5_row_3 : cX5_row.data.toList.drop 72 = dktX5_row_3 := dk_seg dksX5_row_2 24 rfl rfl
theorem dX5_row_0 : decode cX5_row 0 = .ok (.iload_n 1, 1) := dk_27 (dk_at dksX5_row_0 0 rfl rfl)
theorem dX5_row_1 : decode cX5_row 1 = .ok (.invokestatic 130, 3) := dk_184 0 130 (dk_at dksX5_row_0 1 rfl rfl)
theorem dX5_row_4 : decode cX5_row 4 = .ok (.ifCond .eq 18, 3) := dk_153 0 18 (dk_at dksX5_row_0 4 rfl rfl)
theorem dX5_row_7 : decode cX5_row 7 = .ok (.iload_n 2, 1) := dk_28 (dk_at dksX5_row_0 7 rfl rfl)
theorem dX5_row_8 : decode cX5_row 8 = .ok (.iconst 0, 1) := dk_3 (dk_at dksX5_row_0 8 rfl rfl)
theorem dX5_row_9 : decode cX5_row 9 = .ok (.iconst 4, 1) := dk_7 (dk_at dksX5_row_0 9 rfl rfl)
theorem dX5_row_10 : decode cX5_row 10 = .ok (.invokestatic 114, 3) := dk_184 0 114 (dk_at dksX5_row_0 10 rfl rfl)
theorem dX5_row_13 : decode cX5_row 13 = .ok (.ifCond .eq 9, 3) := dk_153 0 9 (dk_at dksX5_row_0 13 rfl rfl)
theorem dX5_row_16 : decode cX5_row 16 = .ok (.iload_n 3, 1) := dk_29 (dk_at dksX5_row_0 16 rfl rfl)
theorem dX5_row_17 : decode cX5_row 17 = .ok (.bipush 60, 2) := dk_16 60 (dk_at dksX5_row_0 17 rfl rfl)
theorem dX5_row_19 : decode cX5_row 19 = .ok (.if_icmp .le 5, 3) := dk_164 0 5 (dk_at dksX5_row_0 19 rfl rfl)
theorem dX5_row_22 : decode cX5_row 22 = .ok (.iconst (-1), 1) := dk_2 (dk_at dksX5_row_0 22 rfl rfl)
theorem dX5_row_23 : decode cX5_row 23 = .ok (.ireturn, 1) := dk_172 (dk_at dksX5_row_0 23 rfl rfl)
theorem dX5_row_24 : decode cX5_row 24 = .ok (.iload_n 3, 1) := dk_29 (dk_at dksX5_row_1 0 rfl rfl)
theorem dX5_row_25 : decode cX5_row 25 = .ok (.ifCond .ge 6, 3) := dk_156 0 6 (dk_at dksX5_row_1 1 rfl rfl)
theorem dX5_row_28 : decode cX5_row 28 = .ok (.bipush (-14), 2) := dk_16 242 (dk_at dksX5_row_1 4 rfl rfl)
theorem dX5_row_30 : decode cX5_row 30 = .ok (.ireturn, 1) := dk_172 (dk_at dksX5_row_1 6 rfl rfl)
theorem dX5_row_31 : decode cX5_row 31 = .ok (.aload_n 0, 1) := dk_42 (dk_at dksX5_row_1 7 rfl rfl)
theorem dX5_row_32 : decode cX5_row 32 = .ok (.getfield 94, 3) := dk_180 0 94 (dk_at dksX5_row_1 8 rfl rfl)
theorem dX5_row_35 : decode cX5_row 35 = .ok (.iload_n 1, 1) := dk_27 (dk_at dksX5_row_1 11 rfl rfl)
theorem dX5_row_36 : decode cX5_row 36 = .ok (.bipush (-2), 2) := dk_16 254 (dk_at dksX5_row_1 12 rfl rfl)
theorem dX5_row_38 : decode cX5_row 38 = .ok (.iload_n 2, 1) := dk_28 (dk_at dksX5_row_1 14 rfl rfl)
theorem dX5_row_39 : decode cX5_row 39 = .ok (.isub, 1) := dk_100 (dk_at dksX5_row_1 15 rfl rfl)
theorem dX5_row_40 : decode cX5_row 40 = .ok (.iastore, 1) := dk_79 (dk_at dksX5_row_1 16 rfl rfl)
theorem dX5_row_41 : decode cX5_row 41 = .ok (.aload_n 0, 1) := dk_42 (dk_at dksX5_row_1 17 rfl rfl)
theorem dX5_row_42 : decode cX5_row 42 = .ok (.getfield 97, 3) := dk_180 0 97 (dk_at dksX5_row_1 18 rfl rfl)
theorem dX5_row_45 : decode cX5_row 45 = .ok (.iload_n 1, 1) := dk_27 (dk_at dksX5_row_1 21 rfl rfl)
theorem dX5_row_46 : decode cX5_row 46 = .ok (.iload_n 3, 1) := dk_29 (dk_at dksX5_row_1 22 rfl rfl)
theorem dX5_row_47 : decode cX5_row 47 = .ok (.iastore, 1) := dk_79 (dk_at dksX5_row_1 23 rfl rfl)
theorem dX5_row_48 : decode cX5_row 48 = .ok (.bipush 60, 2) := dk_16 60 (dk_at dksX5_row_2 0 rfl rfl)
theorem dX5_row_50 : decode cX5_row 50 = .ok (.iload_n 1, 1) := dk_27 (dk_at dksX5_row_2 2 rfl rfl)
theorem dX5_row_51 : decode cX5_row 51 = .ok (.imul, 1) := dk_104 (dk_at dksX5_row_2 3 rfl rfl)
theorem dX5_row_52 : decode cX5_row 52 = .ok (.istore 4, 2) := dk_54 4 (dk_at dksX5_row_2 4 rfl rfl)
theorem dX5_row_54 : decode cX5_row 54 = .ok (.iload 4, 2) := dk_21 4 (dk_at dksX5_row_2 6 rfl rfl)
theorem dX5_row_56 : decode cX5_row 56 = .ok (.bipush 60, 2) := dk_16 60 (dk_at dksX5_row_2 8 rfl rfl)
theorem dX5_row_58 : decode cX5_row 58 = .ok (.iload_n 1, 1) := dk_27 (dk_at dksX5_row_2 10 rfl rfl)
theorem dX5_row_59 : decode cX5_row 59 = .ok (.imul, 1) := dk_104 (dk_at dksX5_row_2 11 rfl rfl)
theorem dX5_row_60 : decode cX5_row 60 = .ok (.bipush 60, 2) := dk_16 60 (dk_at dksX5_row_2 12 rfl rfl)
theorem dX5_row_62 : decode cX5_row 62 = .ok (.iadd, 1) := dk_96 (dk_at dksX5_row_2 14 rfl rfl)
theorem dX5_row_63 : decode cX5_row 63 = .ok (.if_icmp .ge 17, 3) := dk_162 0 17 (dk_at dksX5_row_2 15 rfl rfl)
theorem dX5_row_66 : decode cX5_row 66 = .ok (.aload_n 0, 1) := dk_42 (dk_at dksX5_row_2 18 rfl rfl)
theorem dX5_row_67 : decode cX5_row 67 = .ok (.getfield 100, 3) := dk_180 0 100 (dk_at dksX5_row_2 19 rfl rfl)
theorem dX5_row_70 : decode cX5_row 70 = .ok (.iload 4, 2) := dk_21 4 (dk_at dksX5_row_2 22 rfl rfl)
theorem dX5_row_72 : decode cX5_row 72 = .ok (.lconst 0, 1) := dk_9 (dk_at dksX5_row_3 0 rfl rfl)
theorem dX5_row_73 : decode cX5_row 73 = .ok (.lastore, 1) := dk_80 (dk_at dksX5_row_3 1 rfl rfl)
theorem dX5_row_74 : decode cX5_row 74 = .ok (.iinc 4 1, 3) := dk_132 4 1 (dk_at dksX5_row_3 2 rfl rfl)
theorem dX5_row_77 : decode cX5_row 77 = .ok (.goto (-23), 3) := dk_167 255 233 (dk_at dksX5_row_3 5 rfl rfl)
theorem dX5_row_80 : decode cX5_row 80 = .ok (.iconst 1, 1) := dk_4 (dk_at dksX5_row_3 8 rfl rfl)
theorem dX5_row_81 : decode cX5_row 81 = .ok (.ireturn, 1) := dk_172 (dk_at dksX5_row_3 9 rfl rfl)
abbrev cX5_put : ByteArray := prog_25_method_101_code
def yX5_put : MethodName := ⟨RX5, "put", "(IIJ)I"⟩
def dkwX5_put_4 : List UInt8 := [9, 80, 4, 172]
abbrev dktX5_put_4 : List UInt8 := dkwX5_put_4 ++ []
def dkwX5_put_3 : List UInt8 := [133, 167, 0, 24, 21, 6, 6, 160, 0, 7, 33, 167, 0, 14, 33, 9, 148, 153, 0, 7, 10, 167, 0, 4]
abbrev dktX5_put_3 : List UInt8 := dkwX5_put_3 ++ dktX5_put_4
def dkwX5_put_2 : List UInt8 := [167, 0, 49, 21, 6, 4, 160, 0, 10, 33, 136, 147, 133, 167, 0, 36, 21, 6, 5, 160, 0, 9, 33, 136]
abbrev dktX5_put_2 : List UInt8 := dkwX5_put_2 ++ dktX5_put_3
def dkwX5_put_1 : List UInt8 := [100, 54, 6, 42, 180, 0, 100, 16, 60, 27, 104, 28, 96, 21, 6, 154, 0, 10, 33, 136, 145, 133]
abbrev dktX5_put_1 : List UInt8 := dkwX5_put_1 ++ dktX5_put_2
def dkwX5_put_0 : List UInt8 := [42, 27, 28, 182, 1, 112, 54, 5, 21, 5, 156, 0, 6, 21, 5, 172, 16, 254, 42, 180, 0, 94, 27, 46]
abbrev dktX5_put_0 : List UInt8 := dkwX5_put_0 ++ dktX5_put_1
theorem dksX5_put_0 : cX5_put.data.toList.drop 0 = dktX5_put_0 := by decide +kernel
theorem dksX5_put_1 : cX5_put.data.toList.drop 24 = dktX5_put_1 := dk_seg dksX5_put_0 24 rfl rfl
theorem dksX5_put_2 : cX5_put.data.toList.drop 46 = dktX5_put_2 := dk_seg dksX5_put_1 22 rfl rfl
theorem dksX5_put_3 : cX5_put.data.toList.drop 70 = dktX5_put_3 := dk_seg dksX5_put_2 24 rfl rfl
theorem dksX5_put_4 : cX5_put.data.toList.drop 94 = dktX5_put_4 := dk_seg dksX5_put_3 24 rfl rfl
theorem dX5_put_0 : decode cX5_put 0 = .ok (.aload_n 0, 1) := dk_42 (dk_at dksX5_put_0 0 rfl rfl)
theorem dX5_put_1 : decode cX5_put 1 = .ok (.iload_n 1, 1) := dk_27 (dk_at dksX5_put_0 1 rfl rfl)
theorem dX5_put_2 : decode cX5_put 2 = .ok (.iload_n 2, 1) := dk_28 (dk_at dksX5_put_0 2 rfl rfl)
theorem dX5_put_3 : decode cX5_put 3 = .ok (.invokevirtual 368, 3) := dk_182 1 112 (dk_at dksX5_put_0 3 rfl rfl)
theorem dX5_put_6 : decode cX5_put 6 = .ok (.istore 5, 2) := dk_54 5 (dk_at dksX5_put_0 6 rfl rfl)
theorem dX5_put_8 : decode cX5_put 8 = .ok (.iload 5, 2) := dk_21 5 (dk_at dksX5_put_0 8 rfl rfl)
theorem dX5_put_10 : decode cX5_put 10 = .ok (.ifCond .ge 6, 3) := dk_156 0 6 (dk_at dksX5_put_0 10 rfl rfl)
theorem dX5_put_13 : decode cX5_put 13 = .ok (.iload 5, 2) := dk_21 5 (dk_at dksX5_put_0 13 rfl rfl)
theorem dX5_put_15 : decode cX5_put 15 = .ok (.ireturn, 1) := dk_172 (dk_at dksX5_put_0 15 rfl rfl)
theorem dX5_put_16 : decode cX5_put 16 = .ok (.bipush (-2), 2) := dk_16 254 (dk_at dksX5_put_0 16 rfl rfl)
theorem dX5_put_18 : decode cX5_put 18 = .ok (.aload_n 0, 1) := dk_42 (dk_at dksX5_put_0 18 rfl rfl)
theorem dX5_put_19 : decode cX5_put 19 = .ok (.getfield 94, 3) := dk_180 0 94 (dk_at dksX5_put_0 19 rfl rfl)
theorem dX5_put_22 : decode cX5_put 22 = .ok (.iload_n 1, 1) := dk_27 (dk_at dksX5_put_0 22 rfl rfl)
theorem dX5_put_23 : decode cX5_put 23 = .ok (.iaload, 1) := dk_46 (dk_at dksX5_put_0 23 rfl rfl)
theorem dX5_put_24 : decode cX5_put 24 = .ok (.isub, 1) := dk_100 (dk_at dksX5_put_1 0 rfl rfl)
theorem dX5_put_25 : decode cX5_put 25 = .ok (.istore 6, 2) := dk_54 6 (dk_at dksX5_put_1 1 rfl rfl)
theorem dX5_put_27 : decode cX5_put 27 = .ok (.aload_n 0, 1) := dk_42 (dk_at dksX5_put_1 3 rfl rfl)
theorem dX5_put_28 : decode cX5_put 28 = .ok (.getfield 100, 3) := dk_180 0 100 (dk_at dksX5_put_1 4 rfl rfl)
theorem dX5_put_31 : decode cX5_put 31 = .ok (.bipush 60, 2) := dk_16 60 (dk_at dksX5_put_1 7 rfl rfl)
theorem dX5_put_33 : decode cX5_put 33 = .ok (.iload_n 1, 1) := dk_27 (dk_at dksX5_put_1 9 rfl rfl)
theorem dX5_put_34 : decode cX5_put 34 = .ok (.imul, 1) := dk_104 (dk_at dksX5_put_1 10 rfl rfl)
theorem dX5_put_35 : decode cX5_put 35 = .ok (.iload_n 2, 1) := dk_28 (dk_at dksX5_put_1 11 rfl rfl)
theorem dX5_put_36 : decode cX5_put 36 = .ok (.iadd, 1) := dk_96 (dk_at dksX5_put_1 12 rfl rfl)
theorem dX5_put_37 : decode cX5_put 37 = .ok (.iload 6, 2) := dk_21 6 (dk_at dksX5_put_1 13 rfl rfl)
theorem dX5_put_39 : decode cX5_put 39 = .ok (.ifCond .ne 10, 3) := dk_154 0 10 (dk_at dksX5_put_1 15 rfl rfl)
theorem dX5_put_42 : decode cX5_put 42 = .ok (.lload_n 3, 1) := dk_33 (dk_at dksX5_put_1 18 rfl rfl)
theorem dX5_put_43 : decode cX5_put 43 = .ok (.l2i, 1) := dk_136 (dk_at dksX5_put_1 19 rfl rfl)
theorem dX5_put_44 : decode cX5_put 44 = .ok (.i2b, 1) := dk_145 (dk_at dksX5_put_1 20 rfl rfl)
theorem dX5_put_45 : decode cX5_put 45 = .ok (.i2l, 1) := dk_133 (dk_at dksX5_put_1 21 rfl rfl)
theorem dX5_put_46 : decode cX5_put 46 = .ok (.goto 49, 3) := dk_167 0 49 (dk_at dksX5_put_2 0 rfl rfl)
theorem dX5_put_49 : decode cX5_put 49 = .ok (.iload 6, 2) := dk_21 6 (dk_at dksX5_put_2 3 rfl rfl)
theorem dX5_put_51 : decode cX5_put 51 = .ok (.iconst 1, 1) := dk_4 (dk_at dksX5_put_2 5 rfl rfl)
theorem dX5_put_52 : decode cX5_put 52 = .ok (.if_icmp .ne 10, 3) := dk_160 0 10 (dk_at dksX5_put_2 6 rfl rfl)
theorem dX5_put_55 : decode cX5_put 55 = .ok (.lload_n 3, 1) := dk_33 (dk_at dksX5_put_2 9 rfl rfl)
theorem dX5_put_56 : decode cX5_put 56 = .ok (.l2i, 1) := dk_136 (dk_at dksX5_put_2 10 rfl rfl)
theorem dX5_put_57 : decode cX5_put 57 = .ok (.i2s, 1) := dk_147 (dk_at dksX5_put_2 11 rfl rfl)
theorem dX5_put_58 : decode cX5_put 58 = .ok (.i2l, 1) := dk_133 (dk_at dksX5_put_2 12 rfl rfl)
theorem dX5_put_59 : decode cX5_put 59 = .ok (.goto 36, 3) := dk_167 0 36 (dk_at dksX5_put_2 13 rfl rfl)
theorem dX5_put_62 : decode cX5_put 62 = .ok (.iload 6, 2) := dk_21 6 (dk_at dksX5_put_2 16 rfl rfl)
theorem dX5_put_64 : decode cX5_put 64 = .ok (.iconst 2, 1) := dk_5 (dk_at dksX5_put_2 18 rfl rfl)
theorem dX5_put_65 : decode cX5_put 65 = .ok (.if_icmp .ne 9, 3) := dk_160 0 9 (dk_at dksX5_put_2 19 rfl rfl)
theorem dX5_put_68 : decode cX5_put 68 = .ok (.lload_n 3, 1) := dk_33 (dk_at dksX5_put_2 22 rfl rfl)
theorem dX5_put_69 : decode cX5_put 69 = .ok (.l2i, 1) := dk_136 (dk_at dksX5_put_2 23 rfl rfl)
theorem dX5_put_70 : decode cX5_put 70 = .ok (.i2l, 1) := dk_133 (dk_at dksX5_put_3 0 rfl rfl)
theorem dX5_put_71 : decode cX5_put 71 = .ok (.goto 24, 3) := dk_167 0 24 (dk_at dksX5_put_3 1 rfl rfl)
theorem dX5_put_74 : decode cX5_put 74 = .ok (.iload 6, 2) := dk_21 6 (dk_at dksX5_put_3 4 rfl rfl)
theorem dX5_put_76 : decode cX5_put 76 = .ok (.iconst 3, 1) := dk_6 (dk_at dksX5_put_3 6 rfl rfl)
theorem dX5_put_77 : decode cX5_put 77 = .ok (.if_icmp .ne 7, 3) := dk_160 0 7 (dk_at dksX5_put_3 7 rfl rfl)
theorem dX5_put_80 : decode cX5_put 80 = .ok (.lload_n 3, 1) := dk_33 (dk_at dksX5_put_3 10 rfl rfl)
theorem dX5_put_81 : decode cX5_put 81 = .ok (.goto 14, 3) := dk_167 0 14 (dk_at dksX5_put_3 11 rfl rfl)
theorem dX5_put_84 : decode cX5_put 84 = .ok (.lload_n 3, 1) := dk_33 (dk_at dksX5_put_3 14 rfl rfl)
theorem dX5_put_85 : decode cX5_put 85 = .ok (.lconst 0, 1) := dk_9 (dk_at dksX5_put_3 15 rfl rfl)
theorem dX5_put_86 : decode cX5_put 86 = .ok (.lcmp, 1) := dk_148 (dk_at dksX5_put_3 16 rfl rfl)
theorem dX5_put_87 : decode cX5_put 87 = .ok (.ifCond .eq 7, 3) := dk_153 0 7 (dk_at dksX5_put_3 17 rfl rfl)
theorem dX5_put_90 : decode cX5_put 90 = .ok (.lconst 1, 1) := dk_10 (dk_at dksX5_put_3 20 rfl rfl)
theorem dX5_put_91 : decode cX5_put 91 = .ok (.goto 4, 3) := dk_167 0 4 (dk_at dksX5_put_3 21 rfl rfl)
theorem dX5_put_94 : decode cX5_put 94 = .ok (.lconst 0, 1) := dk_9 (dk_at dksX5_put_4 0 rfl rfl)
theorem dX5_put_95 : decode cX5_put 95 = .ok (.lastore, 1) := dk_80 (dk_at dksX5_put_4 1 rfl rfl)
theorem dX5_put_96 : decode cX5_put 96 = .ok (.iconst 1, 1) := dk_4 (dk_at dksX5_put_4 2 rfl rfl)
theorem dX5_put_97 : decode cX5_put 97 = .ok (.ireturn, 1) := dk_172 (dk_at dksX5_put_4 3 rfl rfl)
abbrev cX5_whyNoPlace : ByteArray := prog_25_method_100_code
def yX5_whyNoPlace : MethodName := ⟨RX5, "whyNoPlace", "(II)I"⟩
def dkwX5_whyNoPlace_2 : List UInt8 := [153, 0, 7, 3, 167, 0, 5, 16, 243, 172]
abbrev dktX5_whyNoPlace_2 : List UInt8 := dkwX5_whyNoPlace_2 ++ []
def dkwX5_whyNoPlace_1 : List UInt8 := [180, 0, 94, 27, 46, 155, 0, 6, 16, 244, 172, 28, 3, 42, 180, 0, 97, 27, 46, 4, 100, 184, 0, 114]
abbrev dktX5_whyNoPlace_1 : List UInt8 := dkwX5_whyNoPlace_1 ++ dktX5_whyNoPlace_2
def dkwX5_whyNoPlace_0 : List UInt8 := [27, 184, 0, 130, 154, 0, 5, 2, 172, 42, 180, 0, 94, 27, 46, 2, 160, 0, 6, 16, 245, 172, 42]
abbrev dktX5_whyNoPlace_0 : List UInt8 := dkwX5_whyNoPlace_0 ++ dktX5_whyNoPlace_1
theorem dksX5_whyNoPlace_0 : cX5_whyNoPlace.data.toList.drop 0 = dktX5_whyNoPlace_0 := by decide +kernel
theorem dksX5_whyNoPlace_1 : cX5_whyNoPlace.data.toList.drop 23 = dktX5_whyNoPlace_1 := dk_seg dksX5_whyNoPlace_0 23 rfl rfl
theorem dksX5_whyNoPlace_2 : cX5_whyNoPlace.data.toList.drop 47 = dktX5_whyNoPlace_2 := dk_seg dksX5_whyNoPlace_1 24 rfl rfl
theorem dX5_whyNoPlace_0 : decode cX5_whyNoPlace 0 = .ok (.iload_n 1, 1) := dk_27 (dk_at dksX5_whyNoPlace_0 0 rfl rfl)
theorem dX5_whyNoPlace_1 : decode cX5_whyNoPlace 1 = .ok (.invokestatic 130, 3) := dk_184 0 130 (dk_at dksX5_whyNoPlace_0 1 rfl rfl)
theorem dX5_whyNoPlace_4 : decode cX5_whyNoPlace 4 = .ok (.ifCond .ne 5, 3) := dk_154 0 5 (dk_at dksX5_whyNoPlace_0 4 rfl rfl)
theorem dX5_whyNoPlace_7 : decode cX5_whyNoPlace 7 = .ok (.iconst (-1), 1) := dk_2 (dk_at dksX5_whyNoPlace_0 7 rfl rfl)
theorem dX5_whyNoPlace_8 : decode cX5_whyNoPlace 8 = .ok (.ireturn, 1) := dk_172 (dk_at dksX5_whyNoPlace_0 8 rfl rfl)
theorem dX5_whyNoPlace_9 : decode cX5_whyNoPlace 9 = .ok (.aload_n 0, 1) := dk_42 (dk_at dksX5_whyNoPlace_0 9 rfl rfl)
theorem dX5_whyNoPlace_10 : decode cX5_whyNoPlace 10 = .ok (.getfield 94, 3) := dk_180 0 94 (dk_at dksX5_whyNoPlace_0 10 rfl rfl)
theorem dX5_whyNoPlace_13 : decode cX5_whyNoPlace 13 = .ok (.iload_n 1, 1) := dk_27 (dk_at dksX5_whyNoPlace_0 13 rfl rfl)
theorem dX5_whyNoPlace_14 : decode cX5_whyNoPlace 14 = .ok (.iaload, 1) := dk_46 (dk_at dksX5_whyNoPlace_0 14 rfl rfl)
theorem dX5_whyNoPlace_15 : decode cX5_whyNoPlace 15 = .ok (.iconst (-1), 1) := dk_2 (dk_at dksX5_whyNoPlace_0 15 rfl rfl)
theorem dX5_whyNoPlace_16 : decode cX5_whyNoPlace 16 = .ok (.if_icmp .ne 6, 3) := dk_160 0 6 (dk_at dksX5_whyNoPlace_0 16 rfl rfl)
theorem dX5_whyNoPlace_19 : decode cX5_whyNoPlace 19 = .ok (.bipush (-11), 2) := dk_16 245 (dk_at dksX5_whyNoPlace_0 19 rfl rfl)
theorem dX5_whyNoPlace_21 : decode cX5_whyNoPlace 21 = .ok (.ireturn, 1) := dk_172 (dk_at dksX5_whyNoPlace_0 21 rfl rfl)
theorem dX5_whyNoPlace_22 : decode cX5_whyNoPlace 22 = .ok (.aload_n 0, 1) := dk_42 (dk_at dksX5_whyNoPlace_0 22 rfl rfl)
theorem dX5_whyNoPlace_23 : decode cX5_whyNoPlace 23 = .ok (.getfield 94, 3) := dk_180 0 94 (dk_at dksX5_whyNoPlace_1 0 rfl rfl)
theorem dX5_whyNoPlace_26 : decode cX5_whyNoPlace 26 = .ok (.iload_n 1, 1) := dk_27 (dk_at dksX5_whyNoPlace_1 3 rfl rfl)
theorem dX5_whyNoPlace_27 : decode cX5_whyNoPlace 27 = .ok (.iaload, 1) := dk_46 (dk_at dksX5_whyNoPlace_1 4 rfl rfl)
theorem dX5_whyNoPlace_28 : decode cX5_whyNoPlace 28 = .ok (.ifCond .lt 6, 3) := dk_155 0 6 (dk_at dksX5_whyNoPlace_1 5 rfl rfl)
theorem dX5_whyNoPlace_31 : decode cX5_whyNoPlace 31 = .ok (.bipush (-12), 2) := dk_16 244 (dk_at dksX5_whyNoPlace_1 8 rfl rfl)
theorem dX5_whyNoPlace_33 : decode cX5_whyNoPlace 33 = .ok (.ireturn, 1) := dk_172 (dk_at dksX5_whyNoPlace_1 10 rfl rfl)
theorem dX5_whyNoPlace_34 : decode cX5_whyNoPlace 34 = .ok (.iload_n 2, 1) := dk_28 (dk_at dksX5_whyNoPlace_1 11 rfl rfl)
theorem dX5_whyNoPlace_35 : decode cX5_whyNoPlace 35 = .ok (.iconst 0, 1) := dk_3 (dk_at dksX5_whyNoPlace_1 12 rfl rfl)
theorem dX5_whyNoPlace_36 : decode cX5_whyNoPlace 36 = .ok (.aload_n 0, 1) := dk_42 (dk_at dksX5_whyNoPlace_1 13 rfl rfl)
theorem dX5_whyNoPlace_37 : decode cX5_whyNoPlace 37 = .ok (.getfield 97, 3) := dk_180 0 97 (dk_at dksX5_whyNoPlace_1 14 rfl rfl)
theorem dX5_whyNoPlace_40 : decode cX5_whyNoPlace 40 = .ok (.iload_n 1, 1) := dk_27 (dk_at dksX5_whyNoPlace_1 17 rfl rfl)
theorem dX5_whyNoPlace_41 : decode cX5_whyNoPlace 41 = .ok (.iaload, 1) := dk_46 (dk_at dksX5_whyNoPlace_1 18 rfl rfl)
theorem dX5_whyNoPlace_42 : decode cX5_whyNoPlace 42 = .ok (.iconst 1, 1) := dk_4 (dk_at dksX5_whyNoPlace_1 19 rfl rfl)
theorem dX5_whyNoPlace_43 : decode cX5_whyNoPlace 43 = .ok (.isub, 1) := dk_100 (dk_at dksX5_whyNoPlace_1 20 rfl rfl)
theorem dX5_whyNoPlace_44 : decode cX5_whyNoPlace 44 = .ok (.invokestatic 114, 3) := dk_184 0 114 (dk_at dksX5_whyNoPlace_1 21 rfl rfl)
theorem dX5_whyNoPlace_47 : decode cX5_whyNoPlace 47 = .ok (.ifCond .eq 7, 3) := dk_153 0 7 (dk_at dksX5_whyNoPlace_2 0 rfl rfl)
theorem dX5_whyNoPlace_50 : decode cX5_whyNoPlace 50 = .ok (.iconst 0, 1) := dk_3 (dk_at dksX5_whyNoPlace_2 3 rfl rfl)
theorem dX5_whyNoPlace_51 : decode cX5_whyNoPlace 51 = .ok (.goto 5, 3) := dk_167 0 5 (dk_at dksX5_whyNoPlace_2 4 rfl rfl)
theorem dX5_whyNoPlace_54 : decode cX5_whyNoPlace 54 = .ok (.bipush (-13), 2) := dk_16 243 (dk_at dksX5_whyNoPlace_2 7 rfl rfl)
theorem dX5_whyNoPlace_56 : decode cX5_whyNoPlace 56 = .ok (.ireturn, 1) := dk_172 (dk_at dksX5_whyNoPlace_2 9 rfl rfl)
abbrev cX5_element : ByteArray := prog_25_method_102_code
def yX5_element : MethodName := ⟨RX5, "element", "(II)J"⟩
def dkwX5_element_1 : List UInt8 := [96, 47, 173]
abbrev dktX5_element_1 : List UInt8 := dkwX5_element_1 ++ []
def dkwX5_element_0 : List UInt8 := [42, 27, 28, 182, 1, 112, 156, 0, 9, 20, 1, 117, 167, 0, 14, 42, 180, 0, 100, 16, 60, 27, 104, 28]
abbrev dktX5_element_0 : List UInt8 := dkwX5_element_0 ++ dktX5_element_1
theorem dksX5_element_0 : cX5_element.data.toList.drop 0 = dktX5_element_0 := by decide +kernel
theorem dksX5_element_1 : cX5_element.data.toList.drop 24 = dktX5_element_1 := dk_seg dksX5_element_0 24 rfl rfl
theorem dX5_element_0 : decode cX5_element 0 = .ok (.aload_n 0, 1) := dk_42 (dk_at dksX5_element_0 0 rfl rfl)
theorem dX5_element_1 : decode cX5_element 1 = .ok (.iload_n 1, 1) := dk_27 (dk_at dksX5_element_0 1 rfl rfl)
theorem dX5_element_2 : decode cX5_element 2 = .ok (.iload_n 2, 1) := dk_28 (dk_at dksX5_element_0 2 rfl rfl)
theorem dX5_element_3 : decode cX5_element 3 = .ok (.invokevirtual 368, 3) := dk_182 1 112 (dk_at dksX5_element_0 3 rfl rfl)
theorem dX5_element_6 : decode cX5_element 6 = .ok (.ifCond .ge 9, 3) := dk_156 0 9 (dk_at dksX5_element_0 6 rfl rfl)
theorem dX5_element_9 : decode cX5_element 9 = .ok (.ldc2_w 373, 3) := dk_20 1 117 (dk_at dksX5_element_0 9 rfl rfl)
theorem dX5_element_12 : decode cX5_element 12 = .ok (.goto 14, 3) := dk_167 0 14 (dk_at dksX5_element_0 12 rfl rfl)
theorem dX5_element_15 : decode cX5_element 15 = .ok (.aload_n 0, 1) := dk_42 (dk_at dksX5_element_0 15 rfl rfl)
theorem dX5_element_16 : decode cX5_element 16 = .ok (.getfield 100, 3) := dk_180 0 100 (dk_at dksX5_element_0 16 rfl rfl)
theorem dX5_element_19 : decode cX5_element 19 = .ok (.bipush 60, 2) := dk_16 60 (dk_at dksX5_element_0 19 rfl rfl)
theorem dX5_element_21 : decode cX5_element 21 = .ok (.iload_n 1, 1) := dk_27 (dk_at dksX5_element_0 21 rfl rfl)
theorem dX5_element_22 : decode cX5_element 22 = .ok (.imul, 1) := dk_104 (dk_at dksX5_element_0 22 rfl rfl)
theorem dX5_element_23 : decode cX5_element 23 = .ok (.iload_n 2, 1) := dk_28 (dk_at dksX5_element_0 23 rfl rfl)
theorem dX5_element_24 : decode cX5_element 24 = .ok (.iadd, 1) := dk_96 (dk_at dksX5_element_1 0 rfl rfl)
theorem dX5_element_25 : decode cX5_element 25 = .ok (.laload, 1) := dk_47 (dk_at dksX5_element_1 1 rfl rfl)
theorem dX5_element_26 : decode cX5_element 26 = .ok (.lreturn, 1) := dk_173 (dk_at dksX5_element_1 2 rfl rfl)
abbrev cX5_shift : ByteArray := prog_25_method_103_code
def yX5_shift : MethodName := ⟨RX5, "shift", "(IIIII)I"⟩
def dkwX5_shift_8 : List UInt8 := [167, 255, 224, 21, 5, 172]
abbrev dktX5_shift_8 : List UInt8 := dkwX5_shift_8 ++ []
def dkwX5_shift_7 : List UInt8 := [180, 0, 100, 16, 60, 29, 104, 21, 4, 96, 21, 6, 96, 42, 180, 0, 104, 21, 6, 47, 80, 132, 6, 1]
abbrev dktX5_shift_7 : List UInt8 := dkwX5_shift_7 ++ dktX5_shift_8
def dkwX5_shift_6 : List UInt8 := [21, 6, 96, 47, 80, 132, 6, 1, 167, 255, 225, 3, 54, 6, 21, 6, 21, 5, 162, 0, 31, 42]
abbrev dktX5_shift_6 : List UInt8 := dkwX5_shift_6 ++ dktX5_shift_7
def dkwX5_shift_5 : List UInt8 := [21, 6, 21, 5, 162, 0, 30, 42, 180, 0, 104, 21, 6, 42, 180, 0, 100, 16, 60, 27, 104, 28, 96]
abbrev dktX5_shift_5 : List UInt8 := dkwX5_shift_5 ++ dktX5_shift_6
def dkwX5_shift_4 : List UInt8 := [163, 0, 17, 21, 4, 42, 180, 0, 97, 29, 46, 21, 5, 100, 164, 0, 6, 16, 243, 172, 3, 54, 6]
abbrev dktX5_shift_4 : List UInt8 := dkwX5_shift_4 ++ dktX5_shift_5
def dkwX5_shift_3 : List UInt8 := [155, 0, 39, 28, 155, 0, 35, 21, 4, 155, 0, 30, 28, 42, 180, 0, 97, 27, 46, 21, 5, 100]
abbrev dktX5_shift_3 : List UInt8 := dkwX5_shift_3 ++ dktX5_shift_4
def dkwX5_shift_2 : List UInt8 := [156, 0, 18, 42, 180, 0, 94, 27, 46, 42, 180, 0, 94, 29, 46, 159, 0, 6, 16, 244, 172, 21, 5]
abbrev dktX5_shift_2 : List UInt8 := dkwX5_shift_2 ++ dktX5_shift_3
def dkwX5_shift_1 : List UInt8 := [159, 0, 13, 42, 180, 0, 94, 29, 46, 2, 160, 0, 6, 16, 245, 172, 42, 180, 0, 94, 27, 46]
abbrev dktX5_shift_1 : List UInt8 := dkwX5_shift_1 ++ dktX5_shift_2
def dkwX5_shift_0 : List UInt8 := [27, 184, 0, 130, 153, 0, 10, 29, 184, 0, 130, 154, 0, 5, 2, 172, 42, 180, 0, 94, 27, 46, 2]
abbrev dktX5_shift_0 : List UInt8 := dkwX5_shift_0 ++ dktX5_shift_1
theorem dksX5_shift_0 : cX5_shift.data.toList.drop 0 = dktX5_shift_0 := by decide +kernel
theorem dksX5_shift_1 : cX5_shift.data.toList.drop 23 = dktX5_shift_1 := dk_seg dksX5_shift_0 23 rfl rfl
theorem dksX5_shift_2 : cX5_shift.data.toList.drop 45 = dktX5_shift_2 := dk_seg dksX5_shift_1 22 rfl rfl
theorem dksX5_shift_3 : cX5_shift.data.toList.drop 68 = dktX5_shift_3 := dk_seg dksX5_shift_2 23 rfl rfl
theorem dksX5_shift_4 : cX5_shift.data.toList.drop 90 = dktX5_shift_4 := dk_seg dksX5_shift_3 22 rfl rfl
theorem dksX5_shift_5 : cX5_shift.data.toList.drop 113 = dktX5_shift_5 := dk_seg dksX5_shift_4 23 rfl rfl
theorem dksX5_shift_6 : cX5_shift.data.toList.drop 136 = dktX5_shift_6 := dk_seg dksX5_shift_5 23 rfl rfl
theorem dksX5_shift_7 : cX5_shift.data.toList.drop 158 = dktX5_shift_7 := dk_seg dksX5_shift_6 22 rfl rfl
theorem dksX5_shift_8 : cX5_shift.data.toList.drop 182 = dktX5_shift_8 := dk_seg dksX5_shift_7 24 rfl rfl
theorem dX5_shift_0 : decode cX5_shift 0 = .ok (.iload_n 1, 1) := dk_27 (dk_at dksX5_shift_0 0 rfl rfl)
theorem dX5_shift_1 : decode cX5_shift 1 = .ok (.invokestatic 130, 3) := dk_184 0 130 (dk_at dksX5_shift_0 1 rfl rfl)
theorem dX5_shift_4 : decode cX5_shift 4 = .ok (.ifCond .eq 10, 3) := dk_153 0 10 (dk_at dksX5_shift_0 4 rfl rfl)
theorem dX5_shift_7 : decode cX5_shift 7 = .ok (.iload_n 3, 1) := dk_29 (dk_at dksX5_shift_0 7 rfl rfl)
theorem dX5_shift_8 : decode cX5_shift 8 = .ok (.invokestatic 130, 3) := dk_184 0 130 (dk_at dksX5_shift_0 8 rfl rfl)
theorem dX5_shift_11 : decode cX5_shift 11 = .ok (.ifCond .ne 5, 3) := dk_154 0 5 (dk_at dksX5_shift_0 11 rfl rfl)
theorem dX5_shift_14 : decode cX5_shift 14 = .ok (.iconst (-1), 1) := dk_2 (dk_at dksX5_shift_0 14 rfl rfl)
theorem dX5_shift_15 : decode cX5_shift 15 = .ok (.ireturn, 1) := dk_172 (dk_at dksX5_shift_0 15 rfl rfl)
theorem dX5_shift_16 : decode cX5_shift 16 = .ok (.aload_n 0, 1) := dk_42 (dk_at dksX5_shift_0 16 rfl rfl)
theorem dX5_shift_17 : decode cX5_shift 17 = .ok (.getfield 94, 3) := dk_180 0 94 (dk_at dksX5_shift_0 17 rfl rfl)
theorem dX5_shift_20 : decode cX5_shift 20 = .ok (.iload_n 1, 1) := dk_27 (dk_at dksX5_shift_0 20 rfl rfl)
theorem dX5_shift_21 : decode cX5_shift 21 = .ok (.iaload, 1) := dk_46 (dk_at dksX5_shift_0 21 rfl rfl)
theorem dX5_shift_22 : decode cX5_shift 22 = .ok (.iconst (-1), 1) := dk_2 (dk_at dksX5_shift_0 22 rfl rfl)
theorem dX5_shift_23 : decode cX5_shift 23 = .ok (.if_icmp .eq 13, 3) := dk_159 0 13 (dk_at dksX5_shift_1 0 rfl rfl)
theorem dX5_shift_26 : decode cX5_shift 26 = .ok (.aload_n 0, 1) := dk_42 (dk_at dksX5_shift_1 3 rfl rfl)
theorem dX5_shift_27 : decode cX5_shift 27 = .ok (.getfield 94, 3) := dk_180 0 94 (dk_at dksX5_shift_1 4 rfl rfl)
theorem dX5_shift_30 : decode cX5_shift 30 = .ok (.iload_n 3, 1) := dk_29 (dk_at dksX5_shift_1 7 rfl rfl)
theorem dX5_shift_31 : decode cX5_shift 31 = .ok (.iaload, 1) := dk_46 (dk_at dksX5_shift_1 8 rfl rfl)
theorem dX5_shift_32 : decode cX5_shift 32 = .ok (.iconst (-1), 1) := dk_2 (dk_at dksX5_shift_1 9 rfl rfl)
theorem dX5_shift_33 : decode cX5_shift 33 = .ok (.if_icmp .ne 6, 3) := dk_160 0 6 (dk_at dksX5_shift_1 10 rfl rfl)
theorem dX5_shift_36 : decode cX5_shift 36 = .ok (.bipush (-11), 2) := dk_16 245 (dk_at dksX5_shift_1 13 rfl rfl)
theorem dX5_shift_38 : decode cX5_shift 38 = .ok (.ireturn, 1) := dk_172 (dk_at dksX5_shift_1 15 rfl rfl)
theorem dX5_shift_39 : decode cX5_shift 39 = .ok (.aload_n 0, 1) := dk_42 (dk_at dksX5_shift_1 16 rfl rfl)
theorem dX5_shift_40 : decode cX5_shift 40 = .ok (.getfield 94, 3) := dk_180 0 94 (dk_at dksX5_shift_1 17 rfl rfl)
theorem dX5_shift_43 : decode cX5_shift 43 = .ok (.iload_n 1, 1) := dk_27 (dk_at dksX5_shift_1 20 rfl rfl)
theorem dX5_shift_44 : decode cX5_shift 44 = .ok (.iaload, 1) := dk_46 (dk_at dksX5_shift_1 21 rfl rfl)
theorem dX5_shift_45 : decode cX5_shift 45 = .ok (.ifCond .ge 18, 3) := dk_156 0 18 (dk_at dksX5_shift_2 0 rfl rfl)
theorem dX5_shift_48 : decode cX5_shift 48 = .ok (.aload_n 0, 1) := dk_42 (dk_at dksX5_shift_2 3 rfl rfl)
theorem dX5_shift_49 : decode cX5_shift 49 = .ok (.getfield 94, 3) := dk_180 0 94 (dk_at dksX5_shift_2 4 rfl rfl)
theorem dX5_shift_52 : decode cX5_shift 52 = .ok (.iload_n 1, 1) := dk_27 (dk_at dksX5_shift_2 7 rfl rfl)
theorem dX5_shift_53 : decode cX5_shift 53 = .ok (.iaload, 1) := dk_46 (dk_at dksX5_shift_2 8 rfl rfl)
theorem dX5_shift_54 : decode cX5_shift 54 = .ok (.aload_n 0, 1) := dk_42 (dk_at dksX5_shift_2 9 rfl rfl)
theorem dX5_shift_55 : decode cX5_shift 55 = .ok (.getfield 94, 3) := dk_180 0 94 (dk_at dksX5_shift_2 10 rfl rfl)
theorem dX5_shift_58 : decode cX5_shift 58 = .ok (.iload_n 3, 1) := dk_29 (dk_at dksX5_shift_2 13 rfl rfl)
theorem dX5_shift_59 : decode cX5_shift 59 = .ok (.iaload, 1) := dk_46 (dk_at dksX5_shift_2 14 rfl rfl)
theorem dX5_shift_60 : decode cX5_shift 60 = .ok (.if_icmp .eq 6, 3) := dk_159 0 6 (dk_at dksX5_shift_2 15 rfl rfl)
theorem dX5_shift_63 : decode cX5_shift 63 = .ok (.bipush (-12), 2) := dk_16 244 (dk_at dksX5_shift_2 18 rfl rfl)
theorem dX5_shift_65 : decode cX5_shift 65 = .ok (.ireturn, 1) := dk_172 (dk_at dksX5_shift_2 20 rfl rfl)
theorem dX5_shift_66 : decode cX5_shift 66 = .ok (.iload 5, 2) := dk_21 5 (dk_at dksX5_shift_2 21 rfl rfl)
theorem dX5_shift_68 : decode cX5_shift 68 = .ok (.ifCond .lt 39, 3) := dk_155 0 39 (dk_at dksX5_shift_3 0 rfl rfl)
theorem dX5_shift_71 : decode cX5_shift 71 = .ok (.iload_n 2, 1) := dk_28 (dk_at dksX5_shift_3 3 rfl rfl)
theorem dX5_shift_72 : decode cX5_shift 72 = .ok (.ifCond .lt 35, 3) := dk_155 0 35 (dk_at dksX5_shift_3 4 rfl rfl)
theorem dX5_shift_75 : decode cX5_shift 75 = .ok (.iload 4, 2) := dk_21 4 (dk_at dksX5_shift_3 7 rfl rfl)
theorem dX5_shift_77 : decode cX5_shift 77 = .ok (.ifCond .lt 30, 3) := dk_155 0 30 (dk_at dksX5_shift_3 9 rfl rfl)
theorem dX5_shift_80 : decode cX5_shift 80 = .ok (.iload_n 2, 1) := dk_28 (dk_at dksX5_shift_3 12 rfl rfl)
theorem dX5_shift_81 : decode cX5_shift 81 = .ok (.aload_n 0, 1) := dk_42 (dk_at dksX5_shift_3 13 rfl rfl)
theorem dX5_shift_82 : decode cX5_shift 82 = .ok (.getfield 97, 3) := dk_180 0 97 (dk_at dksX5_shift_3 14 rfl rfl)
theorem dX5_shift_85 : decode cX5_shift 85 = .ok (.iload_n 1, 1) := dk_27 (dk_at dksX5_shift_3 17 rfl rfl)
theorem dX5_shift_86 : decode cX5_shift 86 = .ok (.iaload, 1) := dk_46 (dk_at dksX5_shift_3 18 rfl rfl)
theorem dX5_shift_87 : decode cX5_shift 87 = .ok (.iload 5, 2) := dk_21 5 (dk_at dksX5_shift_3 19 rfl rfl)
theorem dX5_shift_89 : decode cX5_shift 89 = .ok (.isub, 1) := dk_100 (dk_at dksX5_shift_3 21 rfl rfl)
theorem dX5_shift_90 : decode cX5_shift 90 = .ok (.if_icmp .gt 17, 3) := dk_163 0 17 (dk_at dksX5_shift_4 0 rfl rfl)
theorem dX5_shift_93 : decode cX5_shift 93 = .ok (.iload 4, 2) := dk_21 4 (dk_at dksX5_shift_4 3 rfl rfl)
theorem dX5_shift_95 : decode cX5_shift 95 = .ok (.aload_n 0, 1) := dk_42 (dk_at dksX5_shift_4 5 rfl rfl)
theorem dX5_shift_96 : decode cX5_shift 96 = .ok (.getfield 97, 3) := dk_180 0 97 (dk_at dksX5_shift_4 6 rfl rfl)
theorem dX5_shift_99 : decode cX5_shift 99 = .ok (.iload_n 3, 1) := dk_29 (dk_at dksX5_shift_4 9 rfl rfl)
theorem dX5_shift_100 : decode cX5_shift 100 = .ok (.iaload, 1) := dk_46 (dk_at dksX5_shift_4 10 rfl rfl)
theorem dX5_shift_101 : decode cX5_shift 101 = .ok (.iload 5, 2) := dk_21 5 (dk_at dksX5_shift_4 11 rfl rfl)
theorem dX5_shift_103 : decode cX5_shift 103 = .ok (.isub, 1) := dk_100 (dk_at dksX5_shift_4 13 rfl rfl)
theorem dX5_shift_104 : decode cX5_shift 104 = .ok (.if_icmp .le 6, 3) := dk_164 0 6 (dk_at dksX5_shift_4 14 rfl rfl)
theorem dX5_shift_107 : decode cX5_shift 107 = .ok (.bipush (-13), 2) := dk_16 243 (dk_at dksX5_shift_4 17 rfl rfl)
theorem dX5_shift_109 : decode cX5_shift 109 = .ok (.ireturn, 1) := dk_172 (dk_at dksX5_shift_4 19 rfl rfl)
theorem dX5_shift_110 : decode cX5_shift 110 = .ok (.iconst 0, 1) := dk_3 (dk_at dksX5_shift_4 20 rfl rfl)
theorem dX5_shift_111 : decode cX5_shift 111 = .ok (.istore 6, 2) := dk_54 6 (dk_at dksX5_shift_4 21 rfl rfl)
theorem dX5_shift_113 : decode cX5_shift 113 = .ok (.iload 6, 2) := dk_21 6 (dk_at dksX5_shift_5 0 rfl rfl)
theorem dX5_shift_115 : decode cX5_shift 115 = .ok (.iload 5, 2) := dk_21 5 (dk_at dksX5_shift_5 2 rfl rfl)
theorem dX5_shift_117 : decode cX5_shift 117 = .ok (.if_icmp .ge 30, 3) := dk_162 0 30 (dk_at dksX5_shift_5 4 rfl rfl)
theorem dX5_shift_120 : decode cX5_shift 120 = .ok (.aload_n 0, 1) := dk_42 (dk_at dksX5_shift_5 7 rfl rfl)
theorem dX5_shift_121 : decode cX5_shift 121 = .ok (.getfield 104, 3) := dk_180 0 104 (dk_at dksX5_shift_5 8 rfl rfl)
theorem dX5_shift_124 : decode cX5_shift 124 = .ok (.iload 6, 2) := dk_21 6 (dk_at dksX5_shift_5 11 rfl rfl)
theorem dX5_shift_126 : decode cX5_shift 126 = .ok (.aload_n 0, 1) := dk_42 (dk_at dksX5_shift_5 13 rfl rfl)
theorem dX5_shift_127 : decode cX5_shift 127 = .ok (.getfield 100, 3) := dk_180 0 100 (dk_at dksX5_shift_5 14 rfl rfl)
theorem dX5_shift_130 : decode cX5_shift 130 = .ok (.bipush 60, 2) := dk_16 60 (dk_at dksX5_shift_5 17 rfl rfl)
theorem dX5_shift_132 : decode cX5_shift 132 = .ok (.iload_n 1, 1) := dk_27 (dk_at dksX5_shift_5 19 rfl rfl)
theorem dX5_shift_133 : decode cX5_shift 133 = .ok (.imul, 1) := dk_104 (dk_at dksX5_shift_5 20 rfl rfl)
theorem dX5_shift_134 : decode cX5_shift 134 = .ok (.iload_n 2, 1) := dk_28 (dk_at dksX5_shift_5 21 rfl rfl)
theorem dX5_shift_135 : decode cX5_shift 135 = .ok (.iadd, 1) := dk_96 (dk_at dksX5_shift_5 22 rfl rfl)
theorem dX5_shift_136 : decode cX5_shift 136 = .ok (.iload 6, 2) := dk_21 6 (dk_at dksX5_shift_6 0 rfl rfl)
theorem dX5_shift_138 : decode cX5_shift 138 = .ok (.iadd, 1) := dk_96 (dk_at dksX5_shift_6 2 rfl rfl)
theorem dX5_shift_139 : decode cX5_shift 139 = .ok (.laload, 1) := dk_47 (dk_at dksX5_shift_6 3 rfl rfl)
theorem dX5_shift_140 : decode cX5_shift 140 = .ok (.lastore, 1) := dk_80 (dk_at dksX5_shift_6 4 rfl rfl)
theorem dX5_shift_141 : decode cX5_shift 141 = .ok (.iinc 6 1, 3) := dk_132 6 1 (dk_at dksX5_shift_6 5 rfl rfl)
theorem dX5_shift_144 : decode cX5_shift 144 = .ok (.goto (-31), 3) := dk_167 255 225 (dk_at dksX5_shift_6 8 rfl rfl)
theorem dX5_shift_147 : decode cX5_shift 147 = .ok (.iconst 0, 1) := dk_3 (dk_at dksX5_shift_6 11 rfl rfl)
theorem dX5_shift_148 : decode cX5_shift 148 = .ok (.istore 6, 2) := dk_54 6 (dk_at dksX5_shift_6 12 rfl rfl)
theorem dX5_shift_150 : decode cX5_shift 150 = .ok (.iload 6, 2) := dk_21 6 (dk_at dksX5_shift_6 14 rfl rfl)
theorem dX5_shift_152 : decode cX5_shift 152 = .ok (.iload 5, 2) := dk_21 5 (dk_at dksX5_shift_6 16 rfl rfl)
theorem dX5_shift_154 : decode cX5_shift 154 = .ok (.if_icmp .ge 31, 3) := dk_162 0 31 (dk_at dksX5_shift_6 18 rfl rfl)
theorem dX5_shift_157 : decode cX5_shift 157 = .ok (.aload_n 0, 1) := dk_42 (dk_at dksX5_shift_6 21 rfl rfl)
theorem dX5_shift_158 : decode cX5_shift 158 = .ok (.getfield 100, 3) := dk_180 0 100 (dk_at dksX5_shift_7 0 rfl rfl)
theorem dX5_shift_161 : decode cX5_shift 161 = .ok (.bipush 60, 2) := dk_16 60 (dk_at dksX5_shift_7 3 rfl rfl)
theorem dX5_shift_163 : decode cX5_shift 163 = .ok (.iload_n 3, 1) := dk_29 (dk_at dksX5_shift_7 5 rfl rfl)
theorem dX5_shift_164 : decode cX5_shift 164 = .ok (.imul, 1) := dk_104 (dk_at dksX5_shift_7 6 rfl rfl)
theorem dX5_shift_165 : decode cX5_shift 165 = .ok (.iload 4, 2) := dk_21 4 (dk_at dksX5_shift_7 7 rfl rfl)
theorem dX5_shift_167 : decode cX5_shift 167 = .ok (.iadd, 1) := dk_96 (dk_at dksX5_shift_7 9 rfl rfl)
theorem dX5_shift_168 : decode cX5_shift 168 = .ok (.iload 6, 2) := dk_21 6 (dk_at dksX5_shift_7 10 rfl rfl)
theorem dX5_shift_170 : decode cX5_shift 170 = .ok (.iadd, 1) := dk_96 (dk_at dksX5_shift_7 12 rfl rfl)
theorem dX5_shift_171 : decode cX5_shift 171 = .ok (.aload_n 0, 1) := dk_42 (dk_at dksX5_shift_7 13 rfl rfl)
theorem dX5_shift_172 : decode cX5_shift 172 = .ok (.getfield 104, 3) := dk_180 0 104 (dk_at dksX5_shift_7 14 rfl rfl)
theorem dX5_shift_175 : decode cX5_shift 175 = .ok (.iload 6, 2) := dk_21 6 (dk_at dksX5_shift_7 17 rfl rfl)
theorem dX5_shift_177 : decode cX5_shift 177 = .ok (.laload, 1) := dk_47 (dk_at dksX5_shift_7 19 rfl rfl)
theorem dX5_shift_178 : decode cX5_shift 178 = .ok (.lastore, 1) := dk_80 (dk_at dksX5_shift_7 20 rfl rfl)
theorem dX5_shift_179 : decode cX5_shift 179 = .ok (.iinc 6 1, 3) := dk_132 6 1 (dk_at dksX5_shift_7 21 rfl rfl)
theorem dX5_shift_182 : decode cX5_shift 182 = .ok (.goto (-32), 3) := dk_167 255 224 (dk_at dksX5_shift_8 0 rfl rfl)
theorem dX5_shift_185 : decode cX5_shift 185 = .ok (.iload 5, 2) := dk_21 5 (dk_at dksX5_shift_8 3 rfl rfl)
theorem dX5_shift_187 : decode cX5_shift 187 = .ok (.ireturn, 1) := dk_172 (dk_at dksX5_shift_8 5 rfl rfl)
abbrev cX5_taken : ByteArray := prog_25_method_104_code
def yX5_taken : MethodName := ⟨RX5, "taken", "(II)I"⟩
def dkwX5_taken_3 : List UInt8 := [167, 0, 5, 16, 244, 172]
abbrev dktX5_taken_3 : List UInt8 := dkwX5_taken_3 ++ []
def dkwX5_taken_2 : List UInt8 := [180, 0, 94, 27, 46, 46, 28, 184, 1, 73, 153, 0, 17, 42, 180, 0, 88, 42, 180, 0, 94, 27, 46, 46]
abbrev dktX5_taken_2 : List UInt8 := dkwX5_taken_2 ++ dktX5_taken_3
def dkwX5_taken_1 : List UInt8 := [46, 2, 160, 0, 6, 16, 245, 172, 42, 180, 0, 94, 27, 46, 155, 0, 35, 42, 180, 0, 88, 42]
abbrev dktX5_taken_1 : List UInt8 := dkwX5_taken_1 ++ dktX5_taken_2
def dkwX5_taken_0 : List UInt8 := [27, 184, 0, 130, 153, 0, 13, 28, 3, 16, 7, 184, 0, 114, 154, 0, 5, 2, 172, 42, 180, 0, 94, 27]
abbrev dktX5_taken_0 : List UInt8 := dkwX5_taken_0 ++ dktX5_taken_1
theorem dksX5_taken_0 : cX5_taken.data.toList.drop 0 = dktX5_taken_0 := by decide +kernel
theorem dksX5_taken_1 : cX5_taken.data.toList.drop 24 = dktX5_taken_1 := dk_seg dksX5_taken_0 24 rfl rfl
theorem dksX5_taken_2 : cX5_taken.data.toList.drop 46 = dktX5_taken_2 := dk_seg dksX5_taken_1 22 rfl rfl
theorem dksX5_taken_3 : cX5_taken.data.toList.drop 70 = dktX5_taken_3 := dk_seg dksX5_taken_2 24 rfl rfl
theorem dX5_taken_0 : decode cX5_taken 0 = .ok (.iload_n 1, 1) := dk_27 (dk_at dksX5_taken_0 0 rfl rfl)
theorem dX5_taken_1 : decode cX5_taken 1 = .ok (.invokestatic 130, 3) := dk_184 0 130 (dk_at dksX5_taken_0 1 rfl rfl)
theorem dX5_taken_4 : decode cX5_taken 4 = .ok (.ifCond .eq 13, 3) := dk_153 0 13 (dk_at dksX5_taken_0 4 rfl rfl)
theorem dX5_taken_7 : decode cX5_taken 7 = .ok (.iload_n 2, 1) := dk_28 (dk_at dksX5_taken_0 7 rfl rfl)
theorem dX5_taken_8 : decode cX5_taken 8 = .ok (.iconst 0, 1) := dk_3 (dk_at dksX5_taken_0 8 rfl rfl)
theorem dX5_taken_9 : decode cX5_taken 9 = .ok (.bipush 7, 2) := dk_16 7 (dk_at dksX5_taken_0 9 rfl rfl)
theorem dX5_taken_11 : decode cX5_taken 11 = .ok (.invokestatic 114, 3) := dk_184 0 114 (dk_at dksX5_taken_0 11 rfl rfl)
theorem dX5_taken_14 : decode cX5_taken 14 = .ok (.ifCond .ne 5, 3) := dk_154 0 5 (dk_at dksX5_taken_0 14 rfl rfl)
theorem dX5_taken_17 : decode cX5_taken 17 = .ok (.iconst (-1), 1) := dk_2 (dk_at dksX5_taken_0 17 rfl rfl)
theorem dX5_taken_18 : decode cX5_taken 18 = .ok (.ireturn, 1) := dk_172 (dk_at dksX5_taken_0 18 rfl rfl)
theorem dX5_taken_19 : decode cX5_taken 19 = .ok (.aload_n 0, 1) := dk_42 (dk_at dksX5_taken_0 19 rfl rfl)
theorem dX5_taken_20 : decode cX5_taken 20 = .ok (.getfield 94, 3) := dk_180 0 94 (dk_at dksX5_taken_0 20 rfl rfl)
theorem dX5_taken_23 : decode cX5_taken 23 = .ok (.iload_n 1, 1) := dk_27 (dk_at dksX5_taken_0 23 rfl rfl)
theorem dX5_taken_24 : decode cX5_taken 24 = .ok (.iaload, 1) := dk_46 (dk_at dksX5_taken_1 0 rfl rfl)
theorem dX5_taken_25 : decode cX5_taken 25 = .ok (.iconst (-1), 1) := dk_2 (dk_at dksX5_taken_1 1 rfl rfl)
theorem dX5_taken_26 : decode cX5_taken 26 = .ok (.if_icmp .ne 6, 3) := dk_160 0 6 (dk_at dksX5_taken_1 2 rfl rfl)
theorem dX5_taken_29 : decode cX5_taken 29 = .ok (.bipush (-11), 2) := dk_16 245 (dk_at dksX5_taken_1 5 rfl rfl)
theorem dX5_taken_31 : decode cX5_taken 31 = .ok (.ireturn, 1) := dk_172 (dk_at dksX5_taken_1 7 rfl rfl)
theorem dX5_taken_32 : decode cX5_taken 32 = .ok (.aload_n 0, 1) := dk_42 (dk_at dksX5_taken_1 8 rfl rfl)
theorem dX5_taken_33 : decode cX5_taken 33 = .ok (.getfield 94, 3) := dk_180 0 94 (dk_at dksX5_taken_1 9 rfl rfl)
theorem dX5_taken_36 : decode cX5_taken 36 = .ok (.iload_n 1, 1) := dk_27 (dk_at dksX5_taken_1 12 rfl rfl)
theorem dX5_taken_37 : decode cX5_taken 37 = .ok (.iaload, 1) := dk_46 (dk_at dksX5_taken_1 13 rfl rfl)
theorem dX5_taken_38 : decode cX5_taken 38 = .ok (.ifCond .lt 35, 3) := dk_155 0 35 (dk_at dksX5_taken_1 14 rfl rfl)
theorem dX5_taken_41 : decode cX5_taken 41 = .ok (.aload_n 0, 1) := dk_42 (dk_at dksX5_taken_1 17 rfl rfl)
theorem dX5_taken_42 : decode cX5_taken 42 = .ok (.getfield 88, 3) := dk_180 0 88 (dk_at dksX5_taken_1 18 rfl rfl)
theorem dX5_taken_45 : decode cX5_taken 45 = .ok (.aload_n 0, 1) := dk_42 (dk_at dksX5_taken_1 21 rfl rfl)
theorem dX5_taken_46 : decode cX5_taken 46 = .ok (.getfield 94, 3) := dk_180 0 94 (dk_at dksX5_taken_2 0 rfl rfl)
theorem dX5_taken_49 : decode cX5_taken 49 = .ok (.iload_n 1, 1) := dk_27 (dk_at dksX5_taken_2 3 rfl rfl)
theorem dX5_taken_50 : decode cX5_taken 50 = .ok (.iaload, 1) := dk_46 (dk_at dksX5_taken_2 4 rfl rfl)
theorem dX5_taken_51 : decode cX5_taken 51 = .ok (.iaload, 1) := dk_46 (dk_at dksX5_taken_2 5 rfl rfl)
theorem dX5_taken_52 : decode cX5_taken 52 = .ok (.iload_n 2, 1) := dk_28 (dk_at dksX5_taken_2 6 rfl rfl)
theorem dX5_taken_53 : decode cX5_taken 53 = .ok (.invokestatic 329, 3) := dk_184 1 73 (dk_at dksX5_taken_2 7 rfl rfl)
theorem dX5_taken_56 : decode cX5_taken 56 = .ok (.ifCond .eq 17, 3) := dk_153 0 17 (dk_at dksX5_taken_2 10 rfl rfl)
theorem dX5_taken_59 : decode cX5_taken 59 = .ok (.aload_n 0, 1) := dk_42 (dk_at dksX5_taken_2 13 rfl rfl)
theorem dX5_taken_60 : decode cX5_taken 60 = .ok (.getfield 88, 3) := dk_180 0 88 (dk_at dksX5_taken_2 14 rfl rfl)
theorem dX5_taken_63 : decode cX5_taken 63 = .ok (.aload_n 0, 1) := dk_42 (dk_at dksX5_taken_2 17 rfl rfl)
theorem dX5_taken_64 : decode cX5_taken 64 = .ok (.getfield 94, 3) := dk_180 0 94 (dk_at dksX5_taken_2 18 rfl rfl)
theorem dX5_taken_67 : decode cX5_taken 67 = .ok (.iload_n 1, 1) := dk_27 (dk_at dksX5_taken_2 21 rfl rfl)
theorem dX5_taken_68 : decode cX5_taken 68 = .ok (.iaload, 1) := dk_46 (dk_at dksX5_taken_2 22 rfl rfl)
theorem dX5_taken_69 : decode cX5_taken 69 = .ok (.iaload, 1) := dk_46 (dk_at dksX5_taken_2 23 rfl rfl)
theorem dX5_taken_70 : decode cX5_taken 70 = .ok (.goto 5, 3) := dk_167 0 5 (dk_at dksX5_taken_3 0 rfl rfl)
theorem dX5_taken_73 : decode cX5_taken 73 = .ok (.bipush (-12), 2) := dk_16 244 (dk_at dksX5_taken_3 3 rfl rfl)
theorem dX5_taken_75 : decode cX5_taken 75 = .ok (.ireturn, 1) := dk_172 (dk_at dksX5_taken_3 5 rfl rfl)
theorem q111 : (Jvm.Cond.initialized "NameRestsModel") ∈ lw_all := lw_g (lw_at lw_m1 9 rfl) rfl
theorem q1260 : (Jvm.Cond.instantiable "NameRestsModel" (47 : Nat)) ∈ lw_all := lw_g (lw_at lw_m5 198 rfl) rfl
theorem q1262 : (Jvm.Cond.instanceMethod ({ cls := "NameRestsModel", name := "<init>", desc := "()V" } : Jvm.MethodName)) ∈ lw_all := lw_g (lw_at lw_m5 200 rfl) rfl
theorem q1263 : (Jvm.Cond.code ({ cls := "NameRestsModel", name := "<init>", desc := "()V" } : Jvm.MethodName) prog_25_method_1_code (1 : Nat) (Option.none : Option Jvm.ClassFile.FieldType)) ∈ lw_all := lw_g (lw_at lw_m5 201 rfl) rfl
theorem q1264 : (Jvm.Cond.methodLink "NameRestsModel" (1 : Nat) ({ cls := "java/lang/Object", name := "<init>", desc := "()V" } : Jvm.MethodName)) ∈ lw_all := lw_g (lw_at lw_m5 202 rfl) rfl
theorem q1265 : (Jvm.Cond.fieldLink "NameRestsModel" (111 : Nat) "NameRestsModel" "people" "I") ∈ lw_all := lw_g (lw_at lw_m5 203 rfl) rfl
theorem q1266 : (Jvm.Cond.fieldLink "NameRestsModel" (7 : Nat) "NameRestsModel" "born" "[I") ∈ lw_all := lw_g (lw_at lw_m5 204 rfl) rfl
theorem q1267 : (Jvm.Cond.fieldLink "NameRestsModel" (13 : Nat) "NameRestsModel" "dies" "[I") ∈ lw_all := lw_g (lw_at lw_m5 205 rfl) rfl
theorem q1268 : (Jvm.Cond.fieldLink "NameRestsModel" (16 : Nat) "NameRestsModel" "named" "[I") ∈ lw_all := lw_g (lw_at lw_m5 206 rfl) rfl
theorem q1269 : (Jvm.Cond.fieldLink "NameRestsModel" (141 : Nat) "NameRestsModel" "meetings" "I") ∈ lw_all := lw_g (lw_at lw_m5 207 rfl) rfl
theorem q1270 : (Jvm.Cond.fieldLink "NameRestsModel" (19 : Nat) "NameRestsModel" "meetsOne" "[I") ∈ lw_all := lw_g (lw_at lw_m5 208 rfl) rfl
theorem q1271 : (Jvm.Cond.fieldLink "NameRestsModel" (22 : Nat) "NameRestsModel" "meetsOther" "[I") ∈ lw_all := lw_g (lw_at lw_m5 209 rfl) rfl
theorem q1272 : (Jvm.Cond.fieldLink "NameRestsModel" (25 : Nat) "NameRestsModel" "meetsIn" "[I") ∈ lw_all := lw_g (lw_at lw_m5 210 rfl) rfl
theorem q1273 : (Jvm.Cond.fieldLink "NameRestsModel" (144 : Nat) "NameRestsModel" "hearing" "I") ∈ lw_all := lw_g (lw_at lw_m5 211 rfl) rfl
theorem q1274 : (Jvm.Cond.fieldLink "NameRestsModel" (28 : Nat) "NameRestsModel" "worth" "[I") ∈ lw_all := lw_g (lw_at lw_m5 212 rfl) rfl
theorem q1275 : (Jvm.Cond.fieldLink "NameRestsModel" (31 : Nat) "NameRestsModel" "fame" "[I") ∈ lw_all := lw_g (lw_at lw_m5 213 rfl) rfl
theorem q1276 : (Jvm.Cond.fieldLink "NameRestsModel" (158 : Nat) "NameRestsModel" "doneMany" "I") ∈ lw_all := lw_g (lw_at lw_m5 214 rfl) rfl
theorem q1277 : (Jvm.Cond.fieldLink "NameRestsModel" (155 : Nat) "NameRestsModel" "undoneMany" "I") ∈ lw_all := lw_g (lw_at lw_m5 215 rfl) rfl
theorem q1278 : (Jvm.Cond.fieldLink "NameRestsModel" (34 : Nat) "NameRestsModel" "changeOf" "[I") ∈ lw_all := lw_g (lw_at lw_m5 216 rfl) rfl
theorem q1279 : (Jvm.Cond.fieldLink "NameRestsModel" (37 : Nat) "NameRestsModel" "changeAt" "[I") ∈ lw_all := lw_g (lw_at lw_m5 217 rfl) rfl
theorem q1280 : (Jvm.Cond.fieldLink "NameRestsModel" (40 : Nat) "NameRestsModel" "before" "[I") ∈ lw_all := lw_g (lw_at lw_m5 218 rfl) rfl
theorem q1281 : (Jvm.Cond.fieldLink "NameRestsModel" (43 : Nat) "NameRestsModel" "behind" "[I") ∈ lw_all := lw_g (lw_at lw_m5 219 rfl) rfl
theorem q1282 : (Jvm.Cond.fieldLink "NameRestsModel" (46 : Nat) "NameRestsModel" "tape" "[B") ∈ lw_all := lw_g (lw_at lw_m5 220 rfl) rfl
theorem q1283 : (Jvm.Cond.fieldLink "NameRestsModel" (181 : Nat) "NameRestsModel" "taped" "I") ∈ lw_all := lw_g (lw_at lw_m5 221 rfl) rfl
theorem q1284 : (Jvm.Cond.fieldLink "NameRestsModel" (184 : Nat) "NameRestsModel" "here" "I") ∈ lw_all := lw_g (lw_at lw_m5 222 rfl) rfl
theorem q1285 : (Jvm.Cond.fieldLink "NameRestsModel" (187 : Nat) "NameRestsModel" "fault" "I") ∈ lw_all := lw_g (lw_at lw_m5 223 rfl) rfl
theorem q1286 : (Jvm.Cond.fieldLink "NameRestsModel" (193 : Nat) "NameRestsModel" "open" "I") ∈ lw_all := lw_g (lw_at lw_m5 224 rfl) rfl
theorem q1287 : (Jvm.Cond.fieldLink "NameRestsModel" (190 : Nat) "NameRestsModel" "laid" "I") ∈ lw_all := lw_g (lw_at lw_m5 225 rfl) rfl
theorem q1288 : (Jvm.Cond.fieldLink "NameRestsModel" (50 : Nat) "NameRestsModel" "act" "[B") ∈ lw_all := lw_g (lw_at lw_m5 226 rfl) rfl
theorem q1289 : (Jvm.Cond.fieldLink "NameRestsModel" (53 : Nat) "NameRestsModel" "with" "[I") ∈ lw_all := lw_g (lw_at lw_m5 227 rfl) rfl
theorem q1290 : (Jvm.Cond.fieldLink "NameRestsModel" (56 : Nat) "NameRestsModel" "lineMany" "[I") ∈ lw_all := lw_g (lw_at lw_m5 228 rfl) rfl
theorem q1291 : (Jvm.Cond.fieldLink "NameRestsModel" (59 : Nat) "NameRestsModel" "testEnd" "[S") ∈ lw_all := lw_g (lw_at lw_m5 229 rfl) rfl
theorem q1292 : (Jvm.Cond.fieldLink "NameRestsModel" (63 : Nat) "NameRestsModel" "lineEnd" "[S") ∈ lw_all := lw_g (lw_at lw_m5 230 rfl) rfl
theorem q1293 : (Jvm.Cond.fieldLink "NameRestsModel" (66 : Nat) "NameRestsModel" "facts" "[I") ∈ lw_all := lw_g (lw_at lw_m5 231 rfl) rfl
theorem q1294 : (Jvm.Cond.fieldLink "NameRestsModel" (69 : Nat) "NameRestsModel" "pile" "[I") ∈ lw_all := lw_g (lw_at lw_m5 232 rfl) rfl
theorem q1295 : (Jvm.Cond.fieldLink "NameRestsModel" (247 : Nat) "NameRestsModel" "hasLaw" "Z") ∈ lw_all := lw_g (lw_at lw_m5 233 rfl) rfl
theorem q1296 : (Jvm.Cond.fieldLink "NameRestsModel" (72 : Nat) "NameRestsModel" "known" "[I") ∈ lw_all := lw_g (lw_at lw_m5 234 rfl) rfl
theorem q1297 : (Jvm.Cond.fieldLink "NameRestsModel" (75 : Nat) "NameRestsModel" "done" "[Z") ∈ lw_all := lw_g (lw_at lw_m5 235 rfl) rfl
theorem q1298 : (Jvm.Cond.fieldLink "NameRestsModel" (79 : Nat) "NameRestsModel" "row" "[I") ∈ lw_all := lw_g (lw_at lw_m5 236 rfl) rfl
theorem q1299 : (Jvm.Cond.fieldLink "NameRestsModel" (82 : Nat) "NameRestsModel" "wasDies" "[I") ∈ lw_all := lw_g (lw_at lw_m5 237 rfl) rfl
theorem q1300 : (Jvm.Cond.fieldLink "NameRestsModel" (311 : Nat) "NameRestsModel" "hasImage" "Z") ∈ lw_all := lw_g (lw_at lw_m5 238 rfl) rfl
theorem q1301 : (Jvm.Cond.fieldLink "NameRestsModel" (314 : Nat) "NameRestsModel" "keptPeople" "I") ∈ lw_all := lw_g (lw_at lw_m5 239 rfl) rfl
theorem q1302 : (Jvm.Cond.fieldLink "NameRestsModel" (85 : Nat) "NameRestsModel" "keptNamed" "[I") ∈ lw_all := lw_g (lw_at lw_m6 0 rfl) rfl
theorem q1303 : (Jvm.Cond.fieldLink "NameRestsModel" (317 : Nat) "NameRestsModel" "bodies" "I") ∈ lw_all := lw_g (lw_at lw_m6 1 rfl) rfl
theorem q1304 : (Jvm.Cond.fieldLink "NameRestsModel" (88 : Nat) "NameRestsModel" "kind" "[I") ∈ lw_all := lw_g (lw_at lw_m6 2 rfl) rfl
theorem q1305 : (Jvm.Cond.fieldLink "NameRestsModel" (320 : Nat) "NameRestsModel" "traces" "I") ∈ lw_all := lw_g (lw_at lw_m6 3 rfl) rfl
theorem q1306 : (Jvm.Cond.fieldLink "NameRestsModel" (91 : Nat) "NameRestsModel" "traced" "[I") ∈ lw_all := lw_g (lw_at lw_m6 4 rfl) rfl
theorem q1307 : (Jvm.Cond.fieldLink "NameRestsModel" (94 : Nat) "NameRestsModel" "holds" "[I") ∈ lw_all := lw_g (lw_at lw_m6 5 rfl) rfl
theorem q1308 : (Jvm.Cond.fieldLink "NameRestsModel" (97 : Nat) "NameRestsModel" "size" "[I") ∈ lw_all := lw_g (lw_at lw_m6 6 rfl) rfl
theorem q1309 : (Jvm.Cond.fieldLink "NameRestsModel" (100 : Nat) "NameRestsModel" "elements" "[J") ∈ lw_all := lw_g (lw_at lw_m6 7 rfl) rfl
theorem q1310 : (Jvm.Cond.fieldLink "NameRestsModel" (104 : Nat) "NameRestsModel" "shifted" "[J") ∈ lw_all := lw_g (lw_at lw_m6 8 rfl) rfl
theorem q1311 : (Jvm.Cond.lays "NameRestsModel" "NameRestsModel" "code" "I") ∈ lw_all := lw_g (lw_at lw_m6 9 rfl) rfl
theorem q1312 : (Jvm.Cond.soleField "NameRestsModel" "code") ∈ lw_all := lw_g (lw_at lw_m6 10 rfl) rfl
theorem q1313 : (Jvm.Cond.lays "NameRestsModel" "NameRestsModel" "people" "I") ∈ lw_all := lw_g (lw_at lw_m6 11 rfl) rfl
theorem q1314 : (Jvm.Cond.soleField "NameRestsModel" "people") ∈ lw_all := lw_g (lw_at lw_m6 12 rfl) rfl
theorem q1315 : (Jvm.Cond.laysFinal "NameRestsModel" "NameRestsModel" "born" "[I") ∈ lw_all := lw_g (lw_at lw_m6 13 rfl) rfl
theorem q1316 : (Jvm.Cond.soleField "NameRestsModel" "born") ∈ lw_all := lw_g (lw_at lw_m6 14 rfl) rfl
theorem q1317 : (Jvm.Cond.laysFinal "NameRestsModel" "NameRestsModel" "dies" "[I") ∈ lw_all := lw_g (lw_at lw_m6 15 rfl) rfl
theorem q1318 : (Jvm.Cond.soleField "NameRestsModel" "dies") ∈ lw_all := lw_g (lw_at lw_m6 16 rfl) rfl
theorem q1319 : (Jvm.Cond.laysFinal "NameRestsModel" "NameRestsModel" "named" "[I") ∈ lw_all := lw_g (lw_at lw_m6 17 rfl) rfl
theorem q1320 : (Jvm.Cond.soleField "NameRestsModel" "named") ∈ lw_all := lw_g (lw_at lw_m6 18 rfl) rfl
theorem q1321 : (Jvm.Cond.lays "NameRestsModel" "NameRestsModel" "meetings" "I") ∈ lw_all := lw_g (lw_at lw_m6 19 rfl) rfl
theorem q1322 : (Jvm.Cond.soleField "NameRestsModel" "meetings") ∈ lw_all := lw_g (lw_at lw_m6 20 rfl) rfl
theorem q1323 : (Jvm.Cond.laysFinal "NameRestsModel" "NameRestsModel" "meetsOne" "[I") ∈ lw_all := lw_g (lw_at lw_m6 21 rfl) rfl
theorem q1324 : (Jvm.Cond.soleField "NameRestsModel" "meetsOne") ∈ lw_all := lw_g (lw_at lw_m6 22 rfl) rfl
theorem q1325 : (Jvm.Cond.laysFinal "NameRestsModel" "NameRestsModel" "meetsOther" "[I") ∈ lw_all := lw_g (lw_at lw_m6 23 rfl) rfl
theorem q1326 : (Jvm.Cond.soleField "NameRestsModel" "meetsOther") ∈ lw_all := lw_g (lw_at lw_m6 24 rfl) rfl
theorem q1327 : (Jvm.Cond.laysFinal "NameRestsModel" "NameRestsModel" "meetsIn" "[I") ∈ lw_all := lw_g (lw_at lw_m6 25 rfl) rfl
theorem q1328 : (Jvm.Cond.soleField "NameRestsModel" "meetsIn") ∈ lw_all := lw_g (lw_at lw_m6 26 rfl) rfl
theorem q1329 : (Jvm.Cond.lays "NameRestsModel" "NameRestsModel" "hearing" "I") ∈ lw_all := lw_g (lw_at lw_m6 27 rfl) rfl
theorem q1330 : (Jvm.Cond.soleField "NameRestsModel" "hearing") ∈ lw_all := lw_g (lw_at lw_m6 28 rfl) rfl
theorem q1331 : (Jvm.Cond.laysFinal "NameRestsModel" "NameRestsModel" "worth" "[I") ∈ lw_all := lw_g (lw_at lw_m6 29 rfl) rfl
theorem q1332 : (Jvm.Cond.soleField "NameRestsModel" "worth") ∈ lw_all := lw_g (lw_at lw_m6 30 rfl) rfl
theorem q1333 : (Jvm.Cond.laysFinal "NameRestsModel" "NameRestsModel" "fame" "[I") ∈ lw_all := lw_g (lw_at lw_m6 31 rfl) rfl
theorem q1334 : (Jvm.Cond.soleField "NameRestsModel" "fame") ∈ lw_all := lw_g (lw_at lw_m6 32 rfl) rfl
theorem q1335 : (Jvm.Cond.lays "NameRestsModel" "NameRestsModel" "doneMany" "I") ∈ lw_all := lw_g (lw_at lw_m6 33 rfl) rfl
theorem q1336 : (Jvm.Cond.soleField "NameRestsModel" "doneMany") ∈ lw_all := lw_g (lw_at lw_m6 34 rfl) rfl
theorem q1337 : (Jvm.Cond.lays "NameRestsModel" "NameRestsModel" "undoneMany" "I") ∈ lw_all := lw_g (lw_at lw_m6 35 rfl) rfl
theorem q1338 : (Jvm.Cond.soleField "NameRestsModel" "undoneMany") ∈ lw_all := lw_g (lw_at lw_m6 36 rfl) rfl
theorem q1339 : (Jvm.Cond.laysFinal "NameRestsModel" "NameRestsModel" "changeOf" "[I") ∈ lw_all := lw_g (lw_at lw_m6 37 rfl) rfl
theorem q1340 : (Jvm.Cond.soleField "NameRestsModel" "changeOf") ∈ lw_all := lw_g (lw_at lw_m6 38 rfl) rfl
theorem q1341 : (Jvm.Cond.laysFinal "NameRestsModel" "NameRestsModel" "changeAt" "[I") ∈ lw_all := lw_g (lw_at lw_m6 39 rfl) rfl
theorem q1342 : (Jvm.Cond.soleField "NameRestsModel" "changeAt") ∈ lw_all := lw_g (lw_at lw_m6 40 rfl) rfl
theorem q1343 : (Jvm.Cond.laysFinal "NameRestsModel" "NameRestsModel" "before" "[I") ∈ lw_all := lw_g (lw_at lw_m6 41 rfl) rfl
theorem q1344 : (Jvm.Cond.soleField "NameRestsModel" "before") ∈ lw_all := lw_g (lw_at lw_m6 42 rfl) rfl
theorem q1345 : (Jvm.Cond.laysFinal "NameRestsModel" "NameRestsModel" "behind" "[I") ∈ lw_all := lw_g (lw_at lw_m6 43 rfl) rfl
theorem q1346 : (Jvm.Cond.soleField "NameRestsModel" "behind") ∈ lw_all := lw_g (lw_at lw_m6 44 rfl) rfl
theorem q1347 : (Jvm.Cond.laysFinal "NameRestsModel" "NameRestsModel" "tape" "[B") ∈ lw_all := lw_g (lw_at lw_m6 45 rfl) rfl
theorem q1348 : (Jvm.Cond.soleField "NameRestsModel" "tape") ∈ lw_all := lw_g (lw_at lw_m6 46 rfl) rfl
theorem q1349 : (Jvm.Cond.lays "NameRestsModel" "NameRestsModel" "taped" "I") ∈ lw_all := lw_g (lw_at lw_m6 47 rfl) rfl
theorem q1350 : (Jvm.Cond.soleField "NameRestsModel" "taped") ∈ lw_all := lw_g (lw_at lw_m6 48 rfl) rfl
theorem q1351 : (Jvm.Cond.lays "NameRestsModel" "NameRestsModel" "here" "I") ∈ lw_all := lw_g (lw_at lw_m6 49 rfl) rfl
theorem q1352 : (Jvm.Cond.soleField "NameRestsModel" "here") ∈ lw_all := lw_g (lw_at lw_m6 50 rfl) rfl
theorem q1353 : (Jvm.Cond.lays "NameRestsModel" "NameRestsModel" "fault" "I") ∈ lw_all := lw_g (lw_at lw_m6 51 rfl) rfl
theorem q1354 : (Jvm.Cond.soleField "NameRestsModel" "fault") ∈ lw_all := lw_g (lw_at lw_m6 52 rfl) rfl
theorem q1355 : (Jvm.Cond.lays "NameRestsModel" "NameRestsModel" "open" "I") ∈ lw_all := lw_g (lw_at lw_m6 53 rfl) rfl
theorem q1356 : (Jvm.Cond.soleField "NameRestsModel" "open") ∈ lw_all := lw_g (lw_at lw_m6 54 rfl) rfl
theorem q1357 : (Jvm.Cond.lays "NameRestsModel" "NameRestsModel" "laid" "I") ∈ lw_all := lw_g (lw_at lw_m6 55 rfl) rfl
theorem q1358 : (Jvm.Cond.soleField "NameRestsModel" "laid") ∈ lw_all := lw_g (lw_at lw_m6 56 rfl) rfl
theorem q1359 : (Jvm.Cond.laysFinal "NameRestsModel" "NameRestsModel" "act" "[B") ∈ lw_all := lw_g (lw_at lw_m6 57 rfl) rfl
theorem q1360 : (Jvm.Cond.soleField "NameRestsModel" "act") ∈ lw_all := lw_g (lw_at lw_m6 58 rfl) rfl
theorem q1361 : (Jvm.Cond.laysFinal "NameRestsModel" "NameRestsModel" "with" "[I") ∈ lw_all := lw_g (lw_at lw_m6 59 rfl) rfl
theorem q1362 : (Jvm.Cond.soleField "NameRestsModel" "with") ∈ lw_all := lw_g (lw_at lw_m6 60 rfl) rfl
theorem q1363 : (Jvm.Cond.laysFinal "NameRestsModel" "NameRestsModel" "lineMany" "[I") ∈ lw_all := lw_g (lw_at lw_m6 61 rfl) rfl
theorem q1364 : (Jvm.Cond.soleField "NameRestsModel" "lineMany") ∈ lw_all := lw_g (lw_at lw_m6 62 rfl) rfl
theorem q1365 : (Jvm.Cond.laysFinal "NameRestsModel" "NameRestsModel" "testEnd" "[S") ∈ lw_all := lw_g (lw_at lw_m6 63 rfl) rfl
theorem q1366 : (Jvm.Cond.soleField "NameRestsModel" "testEnd") ∈ lw_all := lw_g (lw_at lw_m6 64 rfl) rfl
theorem q1367 : (Jvm.Cond.laysFinal "NameRestsModel" "NameRestsModel" "lineEnd" "[S") ∈ lw_all := lw_g (lw_at lw_m6 65 rfl) rfl
theorem q1368 : (Jvm.Cond.soleField "NameRestsModel" "lineEnd") ∈ lw_all := lw_g (lw_at lw_m6 66 rfl) rfl
theorem q1369 : (Jvm.Cond.laysFinal "NameRestsModel" "NameRestsModel" "facts" "[I") ∈ lw_all := lw_g (lw_at lw_m6 67 rfl) rfl
theorem q1370 : (Jvm.Cond.soleField "NameRestsModel" "facts") ∈ lw_all := lw_g (lw_at lw_m6 68 rfl) rfl
theorem q1371 : (Jvm.Cond.laysFinal "NameRestsModel" "NameRestsModel" "pile" "[I") ∈ lw_all := lw_g (lw_at lw_m6 69 rfl) rfl
theorem q1372 : (Jvm.Cond.soleField "NameRestsModel" "pile") ∈ lw_all := lw_g (lw_at lw_m6 70 rfl) rfl
theorem q1373 : (Jvm.Cond.lays "NameRestsModel" "NameRestsModel" "hasLaw" "Z") ∈ lw_all := lw_g (lw_at lw_m6 71 rfl) rfl
theorem q1374 : (Jvm.Cond.soleField "NameRestsModel" "hasLaw") ∈ lw_all := lw_g (lw_at lw_m6 72 rfl) rfl
theorem q1375 : (Jvm.Cond.laysFinal "NameRestsModel" "NameRestsModel" "known" "[I") ∈ lw_all := lw_g (lw_at lw_m6 73 rfl) rfl
theorem q1376 : (Jvm.Cond.soleField "NameRestsModel" "known") ∈ lw_all := lw_g (lw_at lw_m6 74 rfl) rfl
theorem q1377 : (Jvm.Cond.laysFinal "NameRestsModel" "NameRestsModel" "done" "[Z") ∈ lw_all := lw_g (lw_at lw_m6 75 rfl) rfl
theorem q1378 : (Jvm.Cond.soleField "NameRestsModel" "done") ∈ lw_all := lw_g (lw_at lw_m6 76 rfl) rfl
theorem q1379 : (Jvm.Cond.laysFinal "NameRestsModel" "NameRestsModel" "row" "[I") ∈ lw_all := lw_g (lw_at lw_m6 77 rfl) rfl
theorem q1380 : (Jvm.Cond.soleField "NameRestsModel" "row") ∈ lw_all := lw_g (lw_at lw_m6 78 rfl) rfl
theorem q1381 : (Jvm.Cond.laysFinal "NameRestsModel" "NameRestsModel" "wasDies" "[I") ∈ lw_all := lw_g (lw_at lw_m6 79 rfl) rfl
theorem q1382 : (Jvm.Cond.soleField "NameRestsModel" "wasDies") ∈ lw_all := lw_g (lw_at lw_m6 80 rfl) rfl
theorem q1383 : (Jvm.Cond.lays "NameRestsModel" "NameRestsModel" "hasImage" "Z") ∈ lw_all := lw_g (lw_at lw_m6 81 rfl) rfl
theorem q1384 : (Jvm.Cond.soleField "NameRestsModel" "hasImage") ∈ lw_all := lw_g (lw_at lw_m6 82 rfl) rfl
theorem q1385 : (Jvm.Cond.lays "NameRestsModel" "NameRestsModel" "keptPeople" "I") ∈ lw_all := lw_g (lw_at lw_m6 83 rfl) rfl
theorem q1386 : (Jvm.Cond.soleField "NameRestsModel" "keptPeople") ∈ lw_all := lw_g (lw_at lw_m6 84 rfl) rfl
theorem q1387 : (Jvm.Cond.laysFinal "NameRestsModel" "NameRestsModel" "keptNamed" "[I") ∈ lw_all := lw_g (lw_at lw_m6 85 rfl) rfl
theorem q1388 : (Jvm.Cond.soleField "NameRestsModel" "keptNamed") ∈ lw_all := lw_g (lw_at lw_m6 86 rfl) rfl
theorem q1389 : (Jvm.Cond.lays "NameRestsModel" "NameRestsModel" "bodies" "I") ∈ lw_all := lw_g (lw_at lw_m6 87 rfl) rfl
theorem q1390 : (Jvm.Cond.soleField "NameRestsModel" "bodies") ∈ lw_all := lw_g (lw_at lw_m6 88 rfl) rfl
theorem q1391 : (Jvm.Cond.laysFinal "NameRestsModel" "NameRestsModel" "kind" "[I") ∈ lw_all := lw_g (lw_at lw_m6 89 rfl) rfl
theorem q1392 : (Jvm.Cond.soleField "NameRestsModel" "kind") ∈ lw_all := lw_g (lw_at lw_m6 90 rfl) rfl
theorem q1393 : (Jvm.Cond.lays "NameRestsModel" "NameRestsModel" "traces" "I") ∈ lw_all := lw_g (lw_at lw_m6 91 rfl) rfl
theorem q1394 : (Jvm.Cond.soleField "NameRestsModel" "traces") ∈ lw_all := lw_g (lw_at lw_m6 92 rfl) rfl
theorem q1395 : (Jvm.Cond.laysFinal "NameRestsModel" "NameRestsModel" "traced" "[I") ∈ lw_all := lw_g (lw_at lw_m6 93 rfl) rfl
theorem q1396 : (Jvm.Cond.soleField "NameRestsModel" "traced") ∈ lw_all := lw_g (lw_at lw_m6 94 rfl) rfl
theorem q1397 : (Jvm.Cond.laysFinal "NameRestsModel" "NameRestsModel" "holds" "[I") ∈ lw_all := lw_g (lw_at lw_m6 95 rfl) rfl
theorem q1398 : (Jvm.Cond.soleField "NameRestsModel" "holds") ∈ lw_all := lw_g (lw_at lw_m6 96 rfl) rfl
theorem q1399 : (Jvm.Cond.laysFinal "NameRestsModel" "NameRestsModel" "size" "[I") ∈ lw_all := lw_g (lw_at lw_m6 97 rfl) rfl
theorem q1400 : (Jvm.Cond.soleField "NameRestsModel" "size") ∈ lw_all := lw_g (lw_at lw_m6 98 rfl) rfl
theorem q1401 : (Jvm.Cond.laysFinal "NameRestsModel" "NameRestsModel" "elements" "[J") ∈ lw_all := lw_g (lw_at lw_m6 99 rfl) rfl
theorem q1402 : (Jvm.Cond.soleField "NameRestsModel" "elements") ∈ lw_all := lw_g (lw_at lw_m6 100 rfl) rfl
theorem q1403 : (Jvm.Cond.laysFinal "NameRestsModel" "NameRestsModel" "shifted" "[J") ∈ lw_all := lw_g (lw_at lw_m6 101 rfl) rfl
theorem q1404 : (Jvm.Cond.soleField "NameRestsModel" "shifted") ∈ lw_all := lw_g (lw_at lw_m6 102 rfl) rfl
theorem q1405 : (Jvm.Cond.superclass "NameRestsModel" "java/lang/Object") ∈ lw_all := lw_g (lw_at lw_m6 103 rfl) rfl
theorem q1407 : (Jvm.Cond.instanceMethod ({ cls := "NameRestsModel", name := "person", desc := "(II)I" } : Jvm.MethodName)) ∈ lw_all := lw_g (lw_at lw_m6 105 rfl) rfl
theorem q1408 : (Jvm.Cond.selects "NameRestsModel" ({ cls := "NameRestsModel", name := "person", desc := "(II)I" } : Jvm.MethodName) ({ cls := "NameRestsModel", name := "person", desc := "(II)I" } : Jvm.MethodName)) ∈ lw_all := lw_g (lw_at lw_m6 106 rfl) rfl
theorem q1409 : (Jvm.Cond.code ({ cls := "NameRestsModel", name := "person", desc := "(II)I" } : Jvm.MethodName) prog_25_method_11_code (3 : Nat) (Option.some Jvm.ClassFile.FieldType.int)) ∈ lw_all := lw_g (lw_at lw_m6 107 rfl) rfl
theorem q1410 : (Jvm.Cond.methodLink "NameRestsModel" (122 : Nat) ({ cls := "NameRestsModel", name := "isLife", desc := "(II)Z" } : Jvm.MethodName)) ∈ lw_all := lw_g (lw_at lw_m6 108 rfl) rfl
theorem q1411 : (Jvm.Cond.static ({ cls := "NameRestsModel", name := "isLife", desc := "(II)Z" } : Jvm.MethodName)) ∈ lw_all := lw_g (lw_at lw_m6 109 rfl) rfl
theorem q1412 : (Jvm.Cond.code ({ cls := "NameRestsModel", name := "isLife", desc := "(II)Z" } : Jvm.MethodName) prog_25_method_9_code (2 : Nat) (Option.some Jvm.ClassFile.FieldType.boolean)) ∈ lw_all := lw_g (lw_at lw_m6 110 rfl) rfl
theorem q1413 : (Jvm.Cond.methodLink "NameRestsModel" (118 : Nat) ({ cls := "NameRestsModel", name := "isYear", desc := "(I)Z" } : Jvm.MethodName)) ∈ lw_all := lw_g (lw_at lw_m6 111 rfl) rfl
theorem q1414 : (Jvm.Cond.static ({ cls := "NameRestsModel", name := "isYear", desc := "(I)Z" } : Jvm.MethodName)) ∈ lw_all := lw_g (lw_at lw_m6 112 rfl) rfl
theorem q1415 : (Jvm.Cond.code ({ cls := "NameRestsModel", name := "isYear", desc := "(I)Z" } : Jvm.MethodName) prog_25_method_7_code (1 : Nat) (Option.some Jvm.ClassFile.FieldType.boolean)) ∈ lw_all := lw_g (lw_at lw_m6 113 rfl) rfl
theorem q1416 : (Jvm.Cond.methodLink "NameRestsModel" (114 : Nat) ({ cls := "NameRestsModel", name := "in", desc := "(III)Z" } : Jvm.MethodName)) ∈ lw_all := lw_g (lw_at lw_m6 114 rfl) rfl
theorem q1417 : (Jvm.Cond.static ({ cls := "NameRestsModel", name := "in", desc := "(III)Z" } : Jvm.MethodName)) ∈ lw_all := lw_g (lw_at lw_m6 115 rfl) rfl
theorem q1418 : (Jvm.Cond.code ({ cls := "NameRestsModel", name := "in", desc := "(III)Z" } : Jvm.MethodName) prog_25_method_3_code (3 : Nat) (Option.some Jvm.ClassFile.FieldType.boolean)) ∈ lw_all := lw_g (lw_at lw_m6 116 rfl) rfl
theorem q1419 : (Jvm.Cond.methodLink "NameRestsModel" (126 : Nat) ({ cls := "NameRestsModel", name := "addPerson", desc := "(III)I" } : Jvm.MethodName)) ∈ lw_all := lw_g (lw_at lw_m6 117 rfl) rfl
theorem q1420 : (Jvm.Cond.privateMethod ({ cls := "NameRestsModel", name := "addPerson", desc := "(III)I" } : Jvm.MethodName)) ∈ lw_tbl := lw_at lw_m6 118 rfl
theorem q1421 : (Jvm.Cond.instanceMethod ({ cls := "NameRestsModel", name := "addPerson", desc := "(III)I" } : Jvm.MethodName)) ∈ lw_all := lw_g (lw_at lw_m6 119 rfl) rfl
theorem q1422 : (Jvm.Cond.code ({ cls := "NameRestsModel", name := "addPerson", desc := "(III)I" } : Jvm.MethodName) prog_25_method_10_code (4 : Nat) (Option.some Jvm.ClassFile.FieldType.int)) ∈ lw_all := lw_g (lw_at lw_m6 120 rfl) rfl
theorem q1424 : (Jvm.Cond.instanceMethod ({ cls := "NameRestsModel", name := "people", desc := "(III)I" } : Jvm.MethodName)) ∈ lw_all := lw_g (lw_at lw_m6 122 rfl) rfl
theorem q1425 : (Jvm.Cond.selects "NameRestsModel" ({ cls := "NameRestsModel", name := "people", desc := "(III)I" } : Jvm.MethodName) ({ cls := "NameRestsModel", name := "people", desc := "(III)I" } : Jvm.MethodName)) ∈ lw_all := lw_g (lw_at lw_m6 123 rfl) rfl
theorem q1426 : (Jvm.Cond.code ({ cls := "NameRestsModel", name := "people", desc := "(III)I" } : Jvm.MethodName) prog_25_method_12_code (8 : Nat) (Option.some Jvm.ClassFile.FieldType.int)) ∈ lw_all := lw_g (lw_at lw_m6 124 rfl) rfl
theorem q1427 : (Jvm.Cond.methodLink "NameRestsModel" (130 : Nat) ({ cls := "NameRestsModel", name := "isShelf", desc := "(I)Z" } : Jvm.MethodName)) ∈ lw_all := lw_g (lw_at lw_m6 125 rfl) rfl
theorem q1428 : (Jvm.Cond.static ({ cls := "NameRestsModel", name := "isShelf", desc := "(I)Z" } : Jvm.MethodName)) ∈ lw_all := lw_g (lw_at lw_m6 126 rfl) rfl
theorem q1429 : (Jvm.Cond.code ({ cls := "NameRestsModel", name := "isShelf", desc := "(I)Z" } : Jvm.MethodName) prog_25_method_97_code (1 : Nat) (Option.some Jvm.ClassFile.FieldType.boolean)) ∈ lw_all := lw_g (lw_at lw_m6 127 rfl) rfl
theorem q1430 : (Jvm.Cond.constantLong "NameRestsModel" (133 : Nat) (2 : Int64)) ∈ lw_all := lw_g (lw_at lw_m6 128 rfl) rfl
theorem q1432 : (Jvm.Cond.instanceMethod ({ cls := "NameRestsModel", name := "meet", desc := "(II)I" } : Jvm.MethodName)) ∈ lw_all := lw_g (lw_at lw_m6 130 rfl) rfl
theorem q1433 : (Jvm.Cond.selects "NameRestsModel" ({ cls := "NameRestsModel", name := "meet", desc := "(II)I" } : Jvm.MethodName) ({ cls := "NameRestsModel", name := "meet", desc := "(II)I" } : Jvm.MethodName)) ∈ lw_all := lw_g (lw_at lw_m6 131 rfl) rfl
theorem q1434 : (Jvm.Cond.code ({ cls := "NameRestsModel", name := "meet", desc := "(II)I" } : Jvm.MethodName) prog_25_method_13_code (3 : Nat) (Option.some Jvm.ClassFile.FieldType.int)) ∈ lw_all := lw_g (lw_at lw_m6 132 rfl) rfl
theorem q1435 : (Jvm.Cond.methodLink "NameRestsModel" (135 : Nat) ({ cls := "NameRestsModel", name := "isPerson", desc := "(I)Z" } : Jvm.MethodName)) ∈ lw_all := lw_g (lw_at lw_m6 133 rfl) rfl
theorem q1436 : (Jvm.Cond.privateMethod ({ cls := "NameRestsModel", name := "isPerson", desc := "(I)Z" } : Jvm.MethodName)) ∈ lw_tbl := lw_at lw_m6 134 rfl
theorem q1437 : (Jvm.Cond.instanceMethod ({ cls := "NameRestsModel", name := "isPerson", desc := "(I)Z" } : Jvm.MethodName)) ∈ lw_all := lw_g (lw_at lw_m6 135 rfl) rfl
theorem q1438 : (Jvm.Cond.code ({ cls := "NameRestsModel", name := "isPerson", desc := "(I)Z" } : Jvm.MethodName) prog_25_method_5_code (2 : Nat) (Option.some Jvm.ClassFile.FieldType.boolean)) ∈ lw_all := lw_g (lw_at lw_m6 136 rfl) rfl
theorem q1439 : (Jvm.Cond.methodLink "NameRestsModel" (138 : Nat) ({ cls := "NameRestsModel", name := "lives", desc := "(II)Z" } : Jvm.MethodName)) ∈ lw_all := lw_g (lw_at lw_m6 137 rfl) rfl
theorem q1440 : (Jvm.Cond.privateMethod ({ cls := "NameRestsModel", name := "lives", desc := "(II)Z" } : Jvm.MethodName)) ∈ lw_tbl := lw_at lw_m6 138 rfl
theorem q1441 : (Jvm.Cond.instanceMethod ({ cls := "NameRestsModel", name := "lives", desc := "(II)Z" } : Jvm.MethodName)) ∈ lw_all := lw_g (lw_at lw_m6 139 rfl) rfl
theorem q1442 : (Jvm.Cond.code ({ cls := "NameRestsModel", name := "lives", desc := "(II)Z" } : Jvm.MethodName) prog_25_method_8_code (3 : Nat) (Option.some Jvm.ClassFile.FieldType.boolean)) ∈ lw_all := lw_g (lw_at lw_m6 140 rfl) rfl
theorem q1444 : (Jvm.Cond.instanceMethod ({ cls := "NameRestsModel", name := "hearing", desc := "(I)I" } : Jvm.MethodName)) ∈ lw_all := lw_g (lw_at lw_m6 142 rfl) rfl
theorem q1445 : (Jvm.Cond.selects "NameRestsModel" ({ cls := "NameRestsModel", name := "hearing", desc := "(I)I" } : Jvm.MethodName) ({ cls := "NameRestsModel", name := "hearing", desc := "(I)I" } : Jvm.MethodName)) ∈ lw_all := lw_g (lw_at lw_m6 143 rfl) rfl
theorem q1446 : (Jvm.Cond.code ({ cls := "NameRestsModel", name := "hearing", desc := "(I)I" } : Jvm.MethodName) prog_25_method_14_code (3 : Nat) (Option.some Jvm.ClassFile.FieldType.int)) ∈ lw_all := lw_g (lw_at lw_m6 144 rfl) rfl
theorem q1448 : (Jvm.Cond.instanceMethod ({ cls := "NameRestsModel", name := "name", desc := "(II)I" } : Jvm.MethodName)) ∈ lw_all := lw_g (lw_at lw_m6 146 rfl) rfl
theorem q1449 : (Jvm.Cond.selects "NameRestsModel" ({ cls := "NameRestsModel", name := "name", desc := "(II)I" } : Jvm.MethodName) ({ cls := "NameRestsModel", name := "name", desc := "(II)I" } : Jvm.MethodName)) ∈ lw_all := lw_g (lw_at lw_m6 147 rfl) rfl
theorem q1450 : (Jvm.Cond.code ({ cls := "NameRestsModel", name := "name", desc := "(II)I" } : Jvm.MethodName) prog_25_method_15_code (4 : Nat) (Option.some Jvm.ClassFile.FieldType.int)) ∈ lw_all := lw_g (lw_at lw_m6 148 rfl) rfl
theorem q1451 : (Jvm.Cond.constant "NameRestsModel" (147 : Nat) (-2000000000 : Int32)) ∈ lw_all := lw_g (lw_at lw_m6 149 rfl) rfl
theorem q1453 : (Jvm.Cond.instanceMethod ({ cls := "NameRestsModel", name := "fame", desc := "(II)I" } : Jvm.MethodName)) ∈ lw_all := lw_g (lw_at lw_m6 151 rfl) rfl
theorem q1454 : (Jvm.Cond.selects "NameRestsModel" ({ cls := "NameRestsModel", name := "fame", desc := "(II)I" } : Jvm.MethodName) ({ cls := "NameRestsModel", name := "fame", desc := "(II)I" } : Jvm.MethodName)) ∈ lw_all := lw_g (lw_at lw_m6 152 rfl) rfl
theorem q1455 : (Jvm.Cond.code ({ cls := "NameRestsModel", name := "fame", desc := "(II)I" } : Jvm.MethodName) prog_25_method_16_code (4 : Nat) (Option.some Jvm.ClassFile.FieldType.int)) ∈ lw_all := lw_g (lw_at lw_m6 153 rfl) rfl
theorem q1456 : (Jvm.Cond.methodLink "NameRestsModel" (148 : Nat) ({ cls := "NameRestsModel", name := "isName", desc := "(I)Z" } : Jvm.MethodName)) ∈ lw_all := lw_g (lw_at lw_m6 154 rfl) rfl
theorem q1457 : (Jvm.Cond.static ({ cls := "NameRestsModel", name := "isName", desc := "(I)Z" } : Jvm.MethodName)) ∈ lw_all := lw_g (lw_at lw_m6 155 rfl) rfl
theorem q1458 : (Jvm.Cond.code ({ cls := "NameRestsModel", name := "isName", desc := "(I)Z" } : Jvm.MethodName) prog_25_method_6_code (1 : Nat) (Option.some Jvm.ClassFile.FieldType.boolean)) ∈ lw_all := lw_g (lw_at lw_m6 156 rfl) rfl
theorem q1460 : (Jvm.Cond.instanceMethod ({ cls := "NameRestsModel", name := "undo", desc := "()I" } : Jvm.MethodName)) ∈ lw_all := lw_g (lw_at lw_m6 158 rfl) rfl
theorem q1461 : (Jvm.Cond.selects "NameRestsModel" ({ cls := "NameRestsModel", name := "undo", desc := "()I" } : Jvm.MethodName) ({ cls := "NameRestsModel", name := "undo", desc := "()I" } : Jvm.MethodName)) ∈ lw_all := lw_g (lw_at lw_m6 159 rfl) rfl
theorem q1462 : (Jvm.Cond.code ({ cls := "NameRestsModel", name := "undo", desc := "()I" } : Jvm.MethodName) prog_25_method_20_code (1 : Nat) (Option.some Jvm.ClassFile.FieldType.int)) ∈ lw_all := lw_g (lw_at lw_m6 160 rfl) rfl
theorem q1463 : (Jvm.Cond.methodLink "NameRestsModel" (161 : Nat) ({ cls := "NameRestsModel", name := "lays", desc := "(III)V" } : Jvm.MethodName)) ∈ lw_all := lw_g (lw_at lw_m6 161 rfl) rfl
theorem q1464 : (Jvm.Cond.privateMethod ({ cls := "NameRestsModel", name := "lays", desc := "(III)V" } : Jvm.MethodName)) ∈ lw_tbl := lw_at lw_m6 162 rfl
theorem q1465 : (Jvm.Cond.instanceMethod ({ cls := "NameRestsModel", name := "lays", desc := "(III)V" } : Jvm.MethodName)) ∈ lw_all := lw_g (lw_at lw_m6 163 rfl) rfl
theorem q1466 : (Jvm.Cond.code ({ cls := "NameRestsModel", name := "lays", desc := "(III)V" } : Jvm.MethodName) prog_25_method_18_code (4 : Nat) (Option.none : Option Jvm.ClassFile.FieldType)) ∈ lw_all := lw_g (lw_at lw_m6 164 rfl) rfl
theorem q1468 : (Jvm.Cond.instanceMethod ({ cls := "NameRestsModel", name := "redo", desc := "()I" } : Jvm.MethodName)) ∈ lw_all := lw_g (lw_at lw_m6 166 rfl) rfl
theorem q1469 : (Jvm.Cond.selects "NameRestsModel" ({ cls := "NameRestsModel", name := "redo", desc := "()I" } : Jvm.MethodName) ({ cls := "NameRestsModel", name := "redo", desc := "()I" } : Jvm.MethodName)) ∈ lw_all := lw_g (lw_at lw_m6 167 rfl) rfl
theorem q1470 : (Jvm.Cond.code ({ cls := "NameRestsModel", name := "redo", desc := "()I" } : Jvm.MethodName) prog_25_method_21_code (1 : Nat) (Option.some Jvm.ClassFile.FieldType.int)) ∈ lw_all := lw_g (lw_at lw_m6 168 rfl) rfl
theorem q1472 : (Jvm.Cond.instanceMethod ({ cls := "NameRestsModel", name := "mend", desc := "(III)I" } : Jvm.MethodName)) ∈ lw_all := lw_g (lw_at lw_m6 170 rfl) rfl
theorem q1473 : (Jvm.Cond.selects "NameRestsModel" ({ cls := "NameRestsModel", name := "mend", desc := "(III)I" } : Jvm.MethodName) ({ cls := "NameRestsModel", name := "mend", desc := "(III)I" } : Jvm.MethodName)) ∈ lw_all := lw_g (lw_at lw_m6 171 rfl) rfl
theorem q1474 : (Jvm.Cond.code ({ cls := "NameRestsModel", name := "mend", desc := "(III)I" } : Jvm.MethodName) prog_25_method_22_code (4 : Nat) (Option.some Jvm.ClassFile.FieldType.int)) ∈ lw_all := lw_g (lw_at lw_m6 172 rfl) rfl
theorem q1475 : (Jvm.Cond.methodLink "NameRestsModel" (165 : Nat) ({ cls := "NameRestsModel", name := "changes", desc := "(III)I" } : Jvm.MethodName)) ∈ lw_all := lw_g (lw_at lw_m6 173 rfl) rfl
theorem q1476 : (Jvm.Cond.privateMethod ({ cls := "NameRestsModel", name := "changes", desc := "(III)I" } : Jvm.MethodName)) ∈ lw_tbl := lw_at lw_m6 174 rfl
theorem q1477 : (Jvm.Cond.instanceMethod ({ cls := "NameRestsModel", name := "changes", desc := "(III)I" } : Jvm.MethodName)) ∈ lw_all := lw_g (lw_at lw_m6 175 rfl) rfl
theorem q1478 : (Jvm.Cond.code ({ cls := "NameRestsModel", name := "changes", desc := "(III)I" } : Jvm.MethodName) prog_25_method_19_code (6 : Nat) (Option.some Jvm.ClassFile.FieldType.int)) ∈ lw_all := lw_g (lw_at lw_m6 176 rfl) rfl
theorem q1479 : (Jvm.Cond.methodLink "NameRestsModel" (151 : Nat) ({ cls := "NameRestsModel", name := "valueAt", desc := "(II)I" } : Jvm.MethodName)) ∈ lw_all := lw_g (lw_at lw_m6 177 rfl) rfl
theorem q1480 : (Jvm.Cond.privateMethod ({ cls := "NameRestsModel", name := "valueAt", desc := "(II)I" } : Jvm.MethodName)) ∈ lw_tbl := lw_at lw_m6 178 rfl
theorem q1481 : (Jvm.Cond.instanceMethod ({ cls := "NameRestsModel", name := "valueAt", desc := "(II)I" } : Jvm.MethodName)) ∈ lw_all := lw_g (lw_at lw_m6 179 rfl) rfl
theorem q1482 : (Jvm.Cond.code ({ cls := "NameRestsModel", name := "valueAt", desc := "(II)I" } : Jvm.MethodName) prog_25_method_17_code (3 : Nat) (Option.some Jvm.ClassFile.FieldType.int)) ∈ lw_all := lw_g (lw_at lw_m6 180 rfl) rfl
theorem q1484 : (Jvm.Cond.instanceMethod ({ cls := "NameRestsModel", name := "of", desc := "(II)I" } : Jvm.MethodName)) ∈ lw_all := lw_g (lw_at lw_m6 182 rfl) rfl
theorem q1485 : (Jvm.Cond.selects "NameRestsModel" ({ cls := "NameRestsModel", name := "of", desc := "(II)I" } : Jvm.MethodName) ({ cls := "NameRestsModel", name := "of", desc := "(II)I" } : Jvm.MethodName)) ∈ lw_all := lw_g (lw_at lw_m6 183 rfl) rfl
theorem q1486 : (Jvm.Cond.code ({ cls := "NameRestsModel", name := "of", desc := "(II)I" } : Jvm.MethodName) prog_25_method_28_code (3 : Nat) (Option.some Jvm.ClassFile.FieldType.int)) ∈ lw_all := lw_g (lw_at lw_m6 184 rfl) rfl
theorem q1487 : (Jvm.Cond.methodLink "NameRestsModel" (171 : Nat) ({ cls := "NameRestsModel", name := "placeOf", desc := "(I)I" } : Jvm.MethodName)) ∈ lw_all := lw_g (lw_at lw_m6 185 rfl) rfl
theorem q1488 : (Jvm.Cond.privateMethod ({ cls := "NameRestsModel", name := "placeOf", desc := "(I)I" } : Jvm.MethodName)) ∈ lw_tbl := lw_at lw_m6 186 rfl
theorem q1489 : (Jvm.Cond.instanceMethod ({ cls := "NameRestsModel", name := "placeOf", desc := "(I)I" } : Jvm.MethodName)) ∈ lw_all := lw_g (lw_at lw_m6 187 rfl) rfl
theorem q1490 : (Jvm.Cond.code ({ cls := "NameRestsModel", name := "placeOf", desc := "(I)I" } : Jvm.MethodName) prog_25_method_24_code (4 : Nat) (Option.some Jvm.ClassFile.FieldType.int)) ∈ lw_all := lw_g (lw_at lw_m6 188 rfl) rfl
theorem q1491 : (Jvm.Cond.methodLink "NameRestsModel" (168 : Nat) ({ cls := "NameRestsModel", name := "isAhead", desc := "(II)Z" } : Jvm.MethodName)) ∈ lw_all := lw_g (lw_at lw_m6 189 rfl) rfl
theorem q1492 : (Jvm.Cond.privateMethod ({ cls := "NameRestsModel", name := "isAhead", desc := "(II)Z" } : Jvm.MethodName)) ∈ lw_tbl := lw_at lw_m6 190 rfl
theorem q1493 : (Jvm.Cond.instanceMethod ({ cls := "NameRestsModel", name := "isAhead", desc := "(II)Z" } : Jvm.MethodName)) ∈ lw_all := lw_g (lw_at lw_m6 191 rfl) rfl
theorem q1494 : (Jvm.Cond.code ({ cls := "NameRestsModel", name := "isAhead", desc := "(II)Z" } : Jvm.MethodName) prog_25_method_23_code (3 : Nat) (Option.some Jvm.ClassFile.FieldType.boolean)) ∈ lw_all := lw_g (lw_at lw_m6 192 rfl) rfl
theorem q1495 : (Jvm.Cond.methodLink "NameRestsModel" (175 : Nat) ({ cls := "NameRestsModel", name := "bearersOf", desc := "(I)I" } : Jvm.MethodName)) ∈ lw_all := lw_g (lw_at lw_m6 193 rfl) rfl
theorem q1496 : (Jvm.Cond.privateMethod ({ cls := "NameRestsModel", name := "bearersOf", desc := "(I)I" } : Jvm.MethodName)) ∈ lw_tbl := lw_at lw_m6 194 rfl
theorem q1497 : (Jvm.Cond.instanceMethod ({ cls := "NameRestsModel", name := "bearersOf", desc := "(I)I" } : Jvm.MethodName)) ∈ lw_all := lw_g (lw_at lw_m6 195 rfl) rfl
theorem q1498 : (Jvm.Cond.code ({ cls := "NameRestsModel", name := "bearersOf", desc := "(I)I" } : Jvm.MethodName) prog_25_method_27_code (4 : Nat) (Option.some Jvm.ClassFile.FieldType.int)) ∈ lw_all := lw_g (lw_at lw_m6 196 rfl) rfl
theorem q1499 : (Jvm.Cond.methodLink "NameRestsModel" (178 : Nat) ({ cls := "NameRestsModel", name := "counts", desc := "(I)Z" } : Jvm.MethodName)) ∈ lw_all := lw_g (lw_at lw_m6 197 rfl) rfl
theorem q1500 : (Jvm.Cond.privateMethod ({ cls := "NameRestsModel", name := "counts", desc := "(I)Z" } : Jvm.MethodName)) ∈ lw_tbl := lw_at lw_m6 198 rfl
theorem q1501 : (Jvm.Cond.instanceMethod ({ cls := "NameRestsModel", name := "counts", desc := "(I)Z" } : Jvm.MethodName)) ∈ lw_all := lw_g (lw_at lw_m6 199 rfl) rfl
theorem q1502 : (Jvm.Cond.code ({ cls := "NameRestsModel", name := "counts", desc := "(I)Z" } : Jvm.MethodName) prog_25_method_26_code (2 : Nat) (Option.some Jvm.ClassFile.FieldType.boolean)) ∈ lw_all := lw_g (lw_at lw_m6 200 rfl) rfl
theorem q1504 : (Jvm.Cond.instanceMethod ({ cls := "NameRestsModel", name := "feed", desc := "(I)I" } : Jvm.MethodName)) ∈ lw_all := lw_g (lw_at lw_m6 202 rfl) rfl
theorem q1505 : (Jvm.Cond.selects "NameRestsModel" ({ cls := "NameRestsModel", name := "feed", desc := "(I)I" } : Jvm.MethodName) ({ cls := "NameRestsModel", name := "feed", desc := "(I)I" } : Jvm.MethodName)) ∈ lw_all := lw_g (lw_at lw_m6 203 rfl) rfl
theorem q1506 : (Jvm.Cond.code ({ cls := "NameRestsModel", name := "feed", desc := "(I)I" } : Jvm.MethodName) prog_25_method_29_code (2 : Nat) (Option.some Jvm.ClassFile.FieldType.int)) ∈ lw_all := lw_g (lw_at lw_m6 204 rfl) rfl
theorem q1508 : (Jvm.Cond.instanceMethod ({ cls := "NameRestsModel", name := "law", desc := "()I" } : Jvm.MethodName)) ∈ lw_all := lw_g (lw_at lw_m6 206 rfl) rfl
theorem q1509 : (Jvm.Cond.selects "NameRestsModel" ({ cls := "NameRestsModel", name := "law", desc := "()I" } : Jvm.MethodName) ({ cls := "NameRestsModel", name := "law", desc := "()I" } : Jvm.MethodName)) ∈ lw_all := lw_g (lw_at lw_m6 207 rfl) rfl
theorem q1510 : (Jvm.Cond.code ({ cls := "NameRestsModel", name := "law", desc := "()I" } : Jvm.MethodName) prog_25_method_47_code (2 : Nat) (Option.some Jvm.ClassFile.FieldType.int)) ∈ lw_all := lw_g (lw_at lw_m6 208 rfl) rfl
theorem q1511 : (Jvm.Cond.methodLink "NameRestsModel" (244 : Nat) ({ cls := "NameRestsModel", name := "readText", desc := "(I)I" } : Jvm.MethodName)) ∈ lw_all := lw_g (lw_at lw_m6 209 rfl) rfl
theorem q1512 : (Jvm.Cond.privateMethod ({ cls := "NameRestsModel", name := "readText", desc := "(I)I" } : Jvm.MethodName)) ∈ lw_tbl := lw_at lw_m6 210 rfl
theorem q1513 : (Jvm.Cond.instanceMethod ({ cls := "NameRestsModel", name := "readText", desc := "(I)I" } : Jvm.MethodName)) ∈ lw_all := lw_g (lw_at lw_m6 211 rfl) rfl
theorem q1514 : (Jvm.Cond.code ({ cls := "NameRestsModel", name := "readText", desc := "(I)I" } : Jvm.MethodName) prog_25_method_43_code (3 : Nat) (Option.some Jvm.ClassFile.FieldType.int)) ∈ lw_all := lw_g (lw_at lw_m6 212 rfl) rfl
theorem q1515 : (Jvm.Cond.methodLink "NameRestsModel" (235 : Nat) ({ cls := "NameRestsModel", name := "line", desc := "()V" } : Jvm.MethodName)) ∈ lw_all := lw_g (lw_at lw_m6 213 rfl) rfl
theorem q1516 : (Jvm.Cond.privateMethod ({ cls := "NameRestsModel", name := "line", desc := "()V" } : Jvm.MethodName)) ∈ lw_tbl := lw_at lw_m6 214 rfl
theorem q1517 : (Jvm.Cond.instanceMethod ({ cls := "NameRestsModel", name := "line", desc := "()V" } : Jvm.MethodName)) ∈ lw_all := lw_g (lw_at lw_m6 215 rfl) rfl
theorem q1518 : (Jvm.Cond.code ({ cls := "NameRestsModel", name := "line", desc := "()V" } : Jvm.MethodName) prog_25_method_42_code (2 : Nat) (Option.none : Option Jvm.ClassFile.FieldType)) ∈ lw_all := lw_g (lw_at lw_m6 216 rfl) rfl
theorem q1519 : (Jvm.Cond.methodLink "NameRestsModel" (217 : Nat) ({ cls := "NameRestsModel", name := "either", desc := "()V" } : Jvm.MethodName)) ∈ lw_all := lw_g (lw_at lw_m6 217 rfl) rfl
theorem q1520 : (Jvm.Cond.privateMethod ({ cls := "NameRestsModel", name := "either", desc := "()V" } : Jvm.MethodName)) ∈ lw_tbl := lw_at lw_m6 218 rfl
theorem q1521 : (Jvm.Cond.instanceMethod ({ cls := "NameRestsModel", name := "either", desc := "()V" } : Jvm.MethodName)) ∈ lw_all := lw_g (lw_at lw_m6 219 rfl) rfl
theorem q1522 : (Jvm.Cond.code ({ cls := "NameRestsModel", name := "either", desc := "()V" } : Jvm.MethodName) prog_25_method_41_code (1 : Nat) (Option.none : Option Jvm.ClassFile.FieldType)) ∈ lw_all := lw_g (lw_at lw_m6 220 rfl) rfl
theorem q1523 : (Jvm.Cond.methodLink "NameRestsModel" (232 : Nat) ({ cls := "NameRestsModel", name := "both", desc := "()V" } : Jvm.MethodName)) ∈ lw_all := lw_g (lw_at lw_m6 221 rfl) rfl
theorem q1524 : (Jvm.Cond.privateMethod ({ cls := "NameRestsModel", name := "both", desc := "()V" } : Jvm.MethodName)) ∈ lw_tbl := lw_at lw_m6 222 rfl
theorem q1525 : (Jvm.Cond.instanceMethod ({ cls := "NameRestsModel", name := "both", desc := "()V" } : Jvm.MethodName)) ∈ lw_all := lw_g (lw_at lw_m6 223 rfl) rfl
theorem q1526 : (Jvm.Cond.code ({ cls := "NameRestsModel", name := "both", desc := "()V" } : Jvm.MethodName) prog_25_method_40_code (1 : Nat) (Option.none : Option Jvm.ClassFile.FieldType)) ∈ lw_all := lw_g (lw_at lw_m6 224 rfl) rfl
theorem q1527 : (Jvm.Cond.methodLink "NameRestsModel" (229 : Nat) ({ cls := "NameRestsModel", name := "compared", desc := "()V" } : Jvm.MethodName)) ∈ lw_all := lw_g (lw_at lw_m6 225 rfl) rfl
theorem q1528 : (Jvm.Cond.privateMethod ({ cls := "NameRestsModel", name := "compared", desc := "()V" } : Jvm.MethodName)) ∈ lw_tbl := lw_at lw_m6 226 rfl
theorem q1529 : (Jvm.Cond.instanceMethod ({ cls := "NameRestsModel", name := "compared", desc := "()V" } : Jvm.MethodName)) ∈ lw_all := lw_g (lw_at lw_m6 227 rfl) rfl
theorem q1530 : (Jvm.Cond.code ({ cls := "NameRestsModel", name := "compared", desc := "()V" } : Jvm.MethodName) prog_25_method_39_code (2 : Nat) (Option.none : Option Jvm.ClassFile.FieldType)) ∈ lw_all := lw_g (lw_at lw_m6 228 rfl) rfl
theorem q1531 : (Jvm.Cond.methodLink "NameRestsModel" (226 : Nat) ({ cls := "NameRestsModel", name := "sum", desc := "()V" } : Jvm.MethodName)) ∈ lw_all := lw_g (lw_at lw_m6 229 rfl) rfl
theorem q1532 : (Jvm.Cond.privateMethod ({ cls := "NameRestsModel", name := "sum", desc := "()V" } : Jvm.MethodName)) ∈ lw_tbl := lw_at lw_m6 230 rfl
theorem q1533 : (Jvm.Cond.instanceMethod ({ cls := "NameRestsModel", name := "sum", desc := "()V" } : Jvm.MethodName)) ∈ lw_all := lw_g (lw_at lw_m6 231 rfl) rfl
theorem q1534 : (Jvm.Cond.code ({ cls := "NameRestsModel", name := "sum", desc := "()V" } : Jvm.MethodName) prog_25_method_38_code (2 : Nat) (Option.none : Option Jvm.ClassFile.FieldType)) ∈ lw_all := lw_g (lw_at lw_m6 232 rfl) rfl
theorem q1535 : (Jvm.Cond.methodLink "NameRestsModel" (223 : Nat) ({ cls := "NameRestsModel", name := "product", desc := "()V" } : Jvm.MethodName)) ∈ lw_all := lw_g (lw_at lw_m6 233 rfl) rfl
theorem q1536 : (Jvm.Cond.privateMethod ({ cls := "NameRestsModel", name := "product", desc := "()V" } : Jvm.MethodName)) ∈ lw_tbl := lw_at lw_m6 234 rfl
theorem q1537 : (Jvm.Cond.instanceMethod ({ cls := "NameRestsModel", name := "product", desc := "()V" } : Jvm.MethodName)) ∈ lw_all := lw_g (lw_at lw_m6 235 rfl) rfl
theorem q1538 : (Jvm.Cond.code ({ cls := "NameRestsModel", name := "product", desc := "()V" } : Jvm.MethodName) prog_25_method_37_code (2 : Nat) (Option.none : Option Jvm.ClassFile.FieldType)) ∈ lw_all := lw_g (lw_at lw_m6 236 rfl) rfl
theorem q1539 : (Jvm.Cond.methodLink "NameRestsModel" (214 : Nat) ({ cls := "NameRestsModel", name := "operand", desc := "()V" } : Jvm.MethodName)) ∈ lw_all := lw_g (lw_at lw_m6 237 rfl) rfl
theorem q1540 : (Jvm.Cond.privateMethod ({ cls := "NameRestsModel", name := "operand", desc := "()V" } : Jvm.MethodName)) ∈ lw_tbl := lw_at lw_m6 238 rfl
theorem q1541 : (Jvm.Cond.instanceMethod ({ cls := "NameRestsModel", name := "operand", desc := "()V" } : Jvm.MethodName)) ∈ lw_all := lw_g (lw_at lw_m6 239 rfl) rfl
theorem q1542 : (Jvm.Cond.code ({ cls := "NameRestsModel", name := "operand", desc := "()V" } : Jvm.MethodName) prog_25_method_36_code (2 : Nat) (Option.none : Option Jvm.ClassFile.FieldType)) ∈ lw_all := lw_g (lw_at lw_m7 0 rfl) rfl
theorem q1543 : (Jvm.Cond.methodLink "NameRestsModel" (199 : Nat) ({ cls := "NameRestsModel", name := "look", desc := "()I" } : Jvm.MethodName)) ∈ lw_all := lw_g (lw_at lw_m7 1 rfl) rfl
theorem q1544 : (Jvm.Cond.privateMethod ({ cls := "NameRestsModel", name := "look", desc := "()I" } : Jvm.MethodName)) ∈ lw_tbl := lw_at lw_m7 2 rfl
theorem q1545 : (Jvm.Cond.instanceMethod ({ cls := "NameRestsModel", name := "look", desc := "()I" } : Jvm.MethodName)) ∈ lw_all := lw_g (lw_at lw_m7 3 rfl) rfl
theorem q1546 : (Jvm.Cond.code ({ cls := "NameRestsModel", name := "look", desc := "()I" } : Jvm.MethodName) prog_25_method_30_code (1 : Nat) (Option.some Jvm.ClassFile.FieldType.int)) ∈ lw_all := lw_g (lw_at lw_m7 4 rfl) rfl
theorem q1547 : (Jvm.Cond.methodLink "NameRestsModel" (207 : Nat) ({ cls := "NameRestsModel", name := "nameOf", desc := "(I)I" } : Jvm.MethodName)) ∈ lw_all := lw_g (lw_at lw_m7 5 rfl) rfl
theorem q1548 : (Jvm.Cond.static ({ cls := "NameRestsModel", name := "nameOf", desc := "(I)I" } : Jvm.MethodName)) ∈ lw_all := lw_g (lw_at lw_m7 6 rfl) rfl
theorem q1549 : (Jvm.Cond.code ({ cls := "NameRestsModel", name := "nameOf", desc := "(I)I" } : Jvm.MethodName) prog_25_method_33_code (1 : Nat) (Option.some Jvm.ClassFile.FieldType.int)) ∈ lw_all := lw_g (lw_at lw_m7 7 rfl) rfl
theorem q1550 : (Jvm.Cond.methodLink "NameRestsModel" (203 : Nat) ({ cls := "NameRestsModel", name := "addStep", desc := "(II)V" } : Jvm.MethodName)) ∈ lw_all := lw_g (lw_at lw_m7 8 rfl) rfl
theorem q1551 : (Jvm.Cond.privateMethod ({ cls := "NameRestsModel", name := "addStep", desc := "(II)V" } : Jvm.MethodName)) ∈ lw_tbl := lw_at lw_m7 9 rfl
theorem q1552 : (Jvm.Cond.instanceMethod ({ cls := "NameRestsModel", name := "addStep", desc := "(II)V" } : Jvm.MethodName)) ∈ lw_all := lw_g (lw_at lw_m7 10 rfl) rfl
theorem q1553 : (Jvm.Cond.code ({ cls := "NameRestsModel", name := "addStep", desc := "(II)V" } : Jvm.MethodName) prog_25_method_32_code (3 : Nat) (Option.none : Option Jvm.ClassFile.FieldType)) ∈ lw_all := lw_g (lw_at lw_m7 11 rfl) rfl
theorem q1554 : (Jvm.Cond.methodLink "NameRestsModel" (210 : Nat) ({ cls := "NameRestsModel", name := "opens", desc := "()Z" } : Jvm.MethodName)) ∈ lw_all := lw_g (lw_at lw_m7 12 rfl) rfl
theorem q1555 : (Jvm.Cond.privateMethod ({ cls := "NameRestsModel", name := "opens", desc := "()Z" } : Jvm.MethodName)) ∈ lw_tbl := lw_at lw_m7 13 rfl
theorem q1556 : (Jvm.Cond.instanceMethod ({ cls := "NameRestsModel", name := "opens", desc := "()Z" } : Jvm.MethodName)) ∈ lw_all := lw_g (lw_at lw_m7 14 rfl) rfl
theorem q1557 : (Jvm.Cond.code ({ cls := "NameRestsModel", name := "opens", desc := "()Z" } : Jvm.MethodName) prog_25_method_34_code (1 : Nat) (Option.some Jvm.ClassFile.FieldType.boolean)) ∈ lw_all := lw_g (lw_at lw_m7 15 rfl) rfl
theorem q1558 : (Jvm.Cond.methodLink "NameRestsModel" (196 : Nat) ({ cls := "NameRestsModel", name := "faulty", desc := "()V" } : Jvm.MethodName)) ∈ lw_all := lw_g (lw_at lw_m7 16 rfl) rfl
theorem q1559 : (Jvm.Cond.privateMethod ({ cls := "NameRestsModel", name := "faulty", desc := "()V" } : Jvm.MethodName)) ∈ lw_tbl := lw_at lw_m7 17 rfl
theorem q1560 : (Jvm.Cond.instanceMethod ({ cls := "NameRestsModel", name := "faulty", desc := "()V" } : Jvm.MethodName)) ∈ lw_all := lw_g (lw_at lw_m7 18 rfl) rfl
theorem q1561 : (Jvm.Cond.code ({ cls := "NameRestsModel", name := "faulty", desc := "()V" } : Jvm.MethodName) prog_25_method_31_code (1 : Nat) (Option.none : Option Jvm.ClassFile.FieldType)) ∈ lw_all := lw_g (lw_at lw_m7 19 rfl) rfl
theorem q1562 : (Jvm.Cond.methodLink "NameRestsModel" (220 : Nat) ({ cls := "NameRestsModel", name := "figure", desc := "()V" } : Jvm.MethodName)) ∈ lw_all := lw_g (lw_at lw_m7 20 rfl) rfl
theorem q1563 : (Jvm.Cond.privateMethod ({ cls := "NameRestsModel", name := "figure", desc := "()V" } : Jvm.MethodName)) ∈ lw_tbl := lw_at lw_m7 21 rfl
theorem q1564 : (Jvm.Cond.instanceMethod ({ cls := "NameRestsModel", name := "figure", desc := "()V" } : Jvm.MethodName)) ∈ lw_all := lw_g (lw_at lw_m7 22 rfl) rfl
theorem q1565 : (Jvm.Cond.code ({ cls := "NameRestsModel", name := "figure", desc := "()V" } : Jvm.MethodName) prog_25_method_35_code (3 : Nat) (Option.none : Option Jvm.ClassFile.FieldType)) ∈ lw_all := lw_g (lw_at lw_m7 23 rfl) rfl
theorem q1567 : (Jvm.Cond.instanceMethod ({ cls := "NameRestsModel", name := "knows", desc := "(II)I" } : Jvm.MethodName)) ∈ lw_all := lw_g (lw_at lw_m7 25 rfl) rfl
theorem q1568 : (Jvm.Cond.selects "NameRestsModel" ({ cls := "NameRestsModel", name := "knows", desc := "(II)I" } : Jvm.MethodName) ({ cls := "NameRestsModel", name := "knows", desc := "(II)I" } : Jvm.MethodName)) ∈ lw_all := lw_g (lw_at lw_m7 26 rfl) rfl
theorem q1569 : (Jvm.Cond.code ({ cls := "NameRestsModel", name := "knows", desc := "(II)I" } : Jvm.MethodName) prog_25_method_50_code (3 : Nat) (Option.some Jvm.ClassFile.FieldType.int)) ∈ lw_all := lw_g (lw_at lw_m7 27 rfl) rfl
theorem q1570 : (Jvm.Cond.methodLink "NameRestsModel" (254 : Nat) ({ cls := "NameRestsModel", name := "findKnown", desc := "(II)V" } : Jvm.MethodName)) ∈ lw_all := lw_g (lw_at lw_m7 28 rfl) rfl
theorem q1571 : (Jvm.Cond.privateMethod ({ cls := "NameRestsModel", name := "findKnown", desc := "(II)V" } : Jvm.MethodName)) ∈ lw_tbl := lw_at lw_m7 29 rfl
theorem q1572 : (Jvm.Cond.instanceMethod ({ cls := "NameRestsModel", name := "findKnown", desc := "(II)V" } : Jvm.MethodName)) ∈ lw_all := lw_g (lw_at lw_m7 30 rfl) rfl
theorem q1573 : (Jvm.Cond.code ({ cls := "NameRestsModel", name := "findKnown", desc := "(II)V" } : Jvm.MethodName) prog_25_method_49_code (8 : Nat) (Option.none : Option Jvm.ClassFile.FieldType)) ∈ lw_all := lw_g (lw_at lw_m7 31 rfl) rfl
theorem q1575 : (Jvm.Cond.instanceMethod ({ cls := "NameRestsModel", name := "held", desc := "(III)I" } : Jvm.MethodName)) ∈ lw_all := lw_g (lw_at lw_m7 33 rfl) rfl
theorem q1576 : (Jvm.Cond.selects "NameRestsModel" ({ cls := "NameRestsModel", name := "held", desc := "(III)I" } : Jvm.MethodName) ({ cls := "NameRestsModel", name := "held", desc := "(III)I" } : Jvm.MethodName)) ∈ lw_all := lw_g (lw_at lw_m7 34 rfl) rfl
theorem q1577 : (Jvm.Cond.code ({ cls := "NameRestsModel", name := "held", desc := "(III)I" } : Jvm.MethodName) prog_25_method_58_code (5 : Nat) (Option.some Jvm.ClassFile.FieldType.int)) ∈ lw_all := lw_g (lw_at lw_m7 35 rfl) rfl
theorem q1578 : (Jvm.Cond.methodLink "NameRestsModel" (273 : Nat) ({ cls := "NameRestsModel", name := "asNamed", desc := "()V" } : Jvm.MethodName)) ∈ lw_all := lw_g (lw_at lw_m7 36 rfl) rfl
theorem q1579 : (Jvm.Cond.privateMethod ({ cls := "NameRestsModel", name := "asNamed", desc := "()V" } : Jvm.MethodName)) ∈ lw_tbl := lw_at lw_m7 37 rfl
theorem q1580 : (Jvm.Cond.instanceMethod ({ cls := "NameRestsModel", name := "asNamed", desc := "()V" } : Jvm.MethodName)) ∈ lw_all := lw_g (lw_at lw_m7 38 rfl) rfl
theorem q1581 : (Jvm.Cond.code ({ cls := "NameRestsModel", name := "asNamed", desc := "()V" } : Jvm.MethodName) prog_25_method_51_code (2 : Nat) (Option.none : Option Jvm.ClassFile.FieldType)) ∈ lw_all := lw_g (lw_at lw_m7 39 rfl) rfl
theorem q1582 : (Jvm.Cond.methodLink "NameRestsModel" (276 : Nat) ({ cls := "NameRestsModel", name := "everybody", desc := "()I" } : Jvm.MethodName)) ∈ lw_all := lw_g (lw_at lw_m7 40 rfl) rfl
theorem q1583 : (Jvm.Cond.privateMethod ({ cls := "NameRestsModel", name := "everybody", desc := "()I" } : Jvm.MethodName)) ∈ lw_tbl := lw_at lw_m7 41 rfl
theorem q1584 : (Jvm.Cond.instanceMethod ({ cls := "NameRestsModel", name := "everybody", desc := "()I" } : Jvm.MethodName)) ∈ lw_all := lw_g (lw_at lw_m7 42 rfl) rfl
theorem q1585 : (Jvm.Cond.code ({ cls := "NameRestsModel", name := "everybody", desc := "()I" } : Jvm.MethodName) prog_25_method_52_code (1 : Nat) (Option.some Jvm.ClassFile.FieldType.int)) ∈ lw_all := lw_g (lw_at lw_m7 43 rfl) rfl
theorem q1586 : (Jvm.Cond.methodLink "NameRestsModel" (279 : Nat) ({ cls := "NameRestsModel", name := "isHeld", desc := "(III)Z" } : Jvm.MethodName)) ∈ lw_all := lw_g (lw_at lw_m7 44 rfl) rfl
theorem q1587 : (Jvm.Cond.privateMethod ({ cls := "NameRestsModel", name := "isHeld", desc := "(III)Z" } : Jvm.MethodName)) ∈ lw_tbl := lw_at lw_m7 45 rfl
theorem q1588 : (Jvm.Cond.instanceMethod ({ cls := "NameRestsModel", name := "isHeld", desc := "(III)Z" } : Jvm.MethodName)) ∈ lw_all := lw_g (lw_at lw_m7 46 rfl) rfl
theorem q1589 : (Jvm.Cond.code ({ cls := "NameRestsModel", name := "isHeld", desc := "(III)Z" } : Jvm.MethodName) prog_25_method_57_code (4 : Nat) (Option.some Jvm.ClassFile.FieldType.boolean)) ∈ lw_all := lw_g (lw_at lw_m7 47 rfl) rfl
theorem q1590 : (Jvm.Cond.methodLink "NameRestsModel" (267 : Nat) ({ cls := "NameRestsModel", name := "isFamous", desc := "(III)Z" } : Jvm.MethodName)) ∈ lw_all := lw_g (lw_at lw_m7 48 rfl) rfl
theorem q1591 : (Jvm.Cond.privateMethod ({ cls := "NameRestsModel", name := "isFamous", desc := "(III)Z" } : Jvm.MethodName)) ∈ lw_tbl := lw_at lw_m7 49 rfl
theorem q1592 : (Jvm.Cond.instanceMethod ({ cls := "NameRestsModel", name := "isFamous", desc := "(III)Z" } : Jvm.MethodName)) ∈ lw_all := lw_g (lw_at lw_m7 50 rfl) rfl
theorem q1593 : (Jvm.Cond.code ({ cls := "NameRestsModel", name := "isFamous", desc := "(III)Z" } : Jvm.MethodName) prog_25_method_56_code (5 : Nat) (Option.some Jvm.ClassFile.FieldType.boolean)) ∈ lw_all := lw_g (lw_at lw_m7 51 rfl) rfl
theorem q1594 : (Jvm.Cond.methodLink "NameRestsModel" (257 : Nat) ({ cls := "NameRestsModel", name := "bears", desc := "(IIII)Z" } : Jvm.MethodName)) ∈ lw_all := lw_g (lw_at lw_m7 52 rfl) rfl
theorem q1595 : (Jvm.Cond.privateMethod ({ cls := "NameRestsModel", name := "bears", desc := "(IIII)Z" } : Jvm.MethodName)) ∈ lw_tbl := lw_at lw_m7 53 rfl
theorem q1596 : (Jvm.Cond.instanceMethod ({ cls := "NameRestsModel", name := "bears", desc := "(IIII)Z" } : Jvm.MethodName)) ∈ lw_all := lw_g (lw_at lw_m7 54 rfl) rfl
theorem q1597 : (Jvm.Cond.code ({ cls := "NameRestsModel", name := "bears", desc := "(IIII)Z" } : Jvm.MethodName) prog_25_method_53_code (5 : Nat) (Option.some Jvm.ClassFile.FieldType.boolean)) ∈ lw_all := lw_g (lw_at lw_m7 55 rfl) rfl
theorem q1598 : (Jvm.Cond.methodLink "NameRestsModel" (270 : Nat) ({ cls := "NameRestsModel", name := "holders", desc := "(III)I" } : Jvm.MethodName)) ∈ lw_all := lw_g (lw_at lw_m7 56 rfl) rfl
theorem q1599 : (Jvm.Cond.privateMethod ({ cls := "NameRestsModel", name := "holders", desc := "(III)I" } : Jvm.MethodName)) ∈ lw_tbl := lw_at lw_m7 57 rfl
theorem q1600 : (Jvm.Cond.instanceMethod ({ cls := "NameRestsModel", name := "holders", desc := "(III)I" } : Jvm.MethodName)) ∈ lw_all := lw_g (lw_at lw_m7 58 rfl) rfl
theorem q1601 : (Jvm.Cond.code ({ cls := "NameRestsModel", name := "holders", desc := "(III)I" } : Jvm.MethodName) prog_25_method_55_code (6 : Nat) (Option.some Jvm.ClassFile.FieldType.int)) ∈ lw_all := lw_g (lw_at lw_m7 59 rfl) rfl
theorem q1602 : (Jvm.Cond.methodLink "NameRestsModel" (264 : Nat) ({ cls := "NameRestsModel", name := "doesHold", desc := "(IIII)Z" } : Jvm.MethodName)) ∈ lw_all := lw_g (lw_at lw_m7 60 rfl) rfl
theorem q1603 : (Jvm.Cond.privateMethod ({ cls := "NameRestsModel", name := "doesHold", desc := "(IIII)Z" } : Jvm.MethodName)) ∈ lw_tbl := lw_at lw_m7 61 rfl
theorem q1604 : (Jvm.Cond.instanceMethod ({ cls := "NameRestsModel", name := "doesHold", desc := "(IIII)Z" } : Jvm.MethodName)) ∈ lw_all := lw_g (lw_at lw_m7 62 rfl) rfl
theorem q1605 : (Jvm.Cond.code ({ cls := "NameRestsModel", name := "doesHold", desc := "(IIII)Z" } : Jvm.MethodName) prog_25_method_54_code (6 : Nat) (Option.some Jvm.ClassFile.FieldType.boolean)) ∈ lw_all := lw_g (lw_at lw_m7 63 rfl) rfl
theorem q1606 : (Jvm.Cond.methodLink "NameRestsModel" (261 : Nat) ({ cls := "NameRestsModel", name := "holdsFor", desc := "(IIII)Z" } : Jvm.MethodName)) ∈ lw_all := lw_g (lw_at lw_m7 64 rfl) rfl
theorem q1607 : (Jvm.Cond.privateMethod ({ cls := "NameRestsModel", name := "holdsFor", desc := "(IIII)Z" } : Jvm.MethodName)) ∈ lw_tbl := lw_at lw_m7 65 rfl
theorem q1608 : (Jvm.Cond.instanceMethod ({ cls := "NameRestsModel", name := "holdsFor", desc := "(IIII)Z" } : Jvm.MethodName)) ∈ lw_all := lw_g (lw_at lw_m7 66 rfl) rfl
theorem q1609 : (Jvm.Cond.code ({ cls := "NameRestsModel", name := "holdsFor", desc := "(IIII)Z" } : Jvm.MethodName) prog_25_method_48_code (7 : Nat) (Option.some Jvm.ClassFile.FieldType.boolean)) ∈ lw_all := lw_g (lw_at lw_m7 67 rfl) rfl
theorem q1610 : (Jvm.Cond.methodLink "NameRestsModel" (251 : Nat) ({ cls := "NameRestsModel", name := "gives", desc := "(I)I" } : Jvm.MethodName)) ∈ lw_all := lw_g (lw_at lw_m7 68 rfl) rfl
theorem q1611 : (Jvm.Cond.privateMethod ({ cls := "NameRestsModel", name := "gives", desc := "(I)I" } : Jvm.MethodName)) ∈ lw_tbl := lw_at lw_m7 69 rfl
theorem q1612 : (Jvm.Cond.instanceMethod ({ cls := "NameRestsModel", name := "gives", desc := "(I)I" } : Jvm.MethodName)) ∈ lw_all := lw_g (lw_at lw_m7 70 rfl) rfl
theorem q1613 : (Jvm.Cond.code ({ cls := "NameRestsModel", name := "gives", desc := "(I)I" } : Jvm.MethodName) prog_25_method_46_code (4 : Nat) (Option.some Jvm.ClassFile.FieldType.int)) ∈ lw_all := lw_g (lw_at lw_m7 71 rfl) rfl
theorem q1614 : (Jvm.Cond.methodLink "NameRestsModel" (241 : Nat) ({ cls := "NameRestsModel", name := "worked", desc := "(III)I" } : Jvm.MethodName)) ∈ lw_all := lw_g (lw_at lw_m7 72 rfl) rfl
theorem q1615 : (Jvm.Cond.privateMethod ({ cls := "NameRestsModel", name := "worked", desc := "(III)I" } : Jvm.MethodName)) ∈ lw_tbl := lw_at lw_m7 73 rfl
theorem q1616 : (Jvm.Cond.instanceMethod ({ cls := "NameRestsModel", name := "worked", desc := "(III)I" } : Jvm.MethodName)) ∈ lw_all := lw_g (lw_at lw_m7 74 rfl) rfl
theorem q1617 : (Jvm.Cond.code ({ cls := "NameRestsModel", name := "worked", desc := "(III)I" } : Jvm.MethodName) prog_25_method_45_code (7 : Nat) (Option.some Jvm.ClassFile.FieldType.int)) ∈ lw_all := lw_g (lw_at lw_m7 75 rfl) rfl
theorem q1618 : (Jvm.Cond.methodLink "NameRestsModel" (238 : Nat) ({ cls := "NameRestsModel", name := "twoOf", desc := "(III)I" } : Jvm.MethodName)) ∈ lw_all := lw_g (lw_at lw_m7 76 rfl) rfl
theorem q1619 : (Jvm.Cond.static ({ cls := "NameRestsModel", name := "twoOf", desc := "(III)I" } : Jvm.MethodName)) ∈ lw_all := lw_g (lw_at lw_m7 77 rfl) rfl
theorem q1620 : (Jvm.Cond.code ({ cls := "NameRestsModel", name := "twoOf", desc := "(III)I" } : Jvm.MethodName) prog_25_method_44_code (3 : Nat) (Option.some Jvm.ClassFile.FieldType.int)) ∈ lw_all := lw_g (lw_at lw_m7 78 rfl) rfl
theorem q1622 : (Jvm.Cond.instanceMethod ({ cls := "NameRestsModel", name := "free", desc := "(I)I" } : Jvm.MethodName)) ∈ lw_all := lw_g (lw_at lw_m7 80 rfl) rfl
theorem q1623 : (Jvm.Cond.selects "NameRestsModel" ({ cls := "NameRestsModel", name := "free", desc := "(I)I" } : Jvm.MethodName) ({ cls := "NameRestsModel", name := "free", desc := "(I)I" } : Jvm.MethodName)) ∈ lw_all := lw_g (lw_at lw_m7 81 rfl) rfl
theorem q1624 : (Jvm.Cond.code ({ cls := "NameRestsModel", name := "free", desc := "(I)I" } : Jvm.MethodName) prog_25_method_60_code (2 : Nat) (Option.some Jvm.ClassFile.FieldType.int)) ∈ lw_all := lw_g (lw_at lw_m7 82 rfl) rfl
theorem q1625 : (Jvm.Cond.methodLink "NameRestsModel" (282 : Nat) ({ cls := "NameRestsModel", name := "heldIn", desc := "(I)I" } : Jvm.MethodName)) ∈ lw_all := lw_g (lw_at lw_m7 83 rfl) rfl
theorem q1626 : (Jvm.Cond.privateMethod ({ cls := "NameRestsModel", name := "heldIn", desc := "(I)I" } : Jvm.MethodName)) ∈ lw_tbl := lw_at lw_m7 84 rfl
theorem q1627 : (Jvm.Cond.instanceMethod ({ cls := "NameRestsModel", name := "heldIn", desc := "(I)I" } : Jvm.MethodName)) ∈ lw_all := lw_g (lw_at lw_m7 85 rfl) rfl
theorem q1628 : (Jvm.Cond.code ({ cls := "NameRestsModel", name := "heldIn", desc := "(I)I" } : Jvm.MethodName) prog_25_method_59_code (4 : Nat) (Option.some Jvm.ClassFile.FieldType.int)) ∈ lw_all := lw_g (lw_at lw_m7 86 rfl) rfl
theorem q1630 : (Jvm.Cond.instanceMethod ({ cls := "NameRestsModel", name := "most", desc := "(I)I" } : Jvm.MethodName)) ∈ lw_all := lw_g (lw_at lw_m7 88 rfl) rfl
theorem q1631 : (Jvm.Cond.selects "NameRestsModel" ({ cls := "NameRestsModel", name := "most", desc := "(I)I" } : Jvm.MethodName) ({ cls := "NameRestsModel", name := "most", desc := "(I)I" } : Jvm.MethodName)) ∈ lw_all := lw_g (lw_at lw_m7 89 rfl) rfl
theorem q1632 : (Jvm.Cond.code ({ cls := "NameRestsModel", name := "most", desc := "(I)I" } : Jvm.MethodName) prog_25_method_61_code (6 : Nat) (Option.some Jvm.ClassFile.FieldType.int)) ∈ lw_all := lw_g (lw_at lw_m7 90 rfl) rfl
theorem q1633 : (Jvm.Cond.methodLink "NameRestsModel" (285 : Nat) ({ cls := "NameRestsModel", name := "bitsOf", desc := "(I)I" } : Jvm.MethodName)) ∈ lw_all := lw_g (lw_at lw_m7 91 rfl) rfl
theorem q1634 : (Jvm.Cond.static ({ cls := "NameRestsModel", name := "bitsOf", desc := "(I)I" } : Jvm.MethodName)) ∈ lw_all := lw_g (lw_at lw_m7 92 rfl) rfl
theorem q1635 : (Jvm.Cond.code ({ cls := "NameRestsModel", name := "bitsOf", desc := "(I)I" } : Jvm.MethodName) prog_25_method_4_code (3 : Nat) (Option.some Jvm.ClassFile.FieldType.int)) ∈ lw_all := lw_g (lw_at lw_m7 93 rfl) rfl
theorem q1637 : (Jvm.Cond.instanceMethod ({ cls := "NameRestsModel", name := "judge", desc := "()I" } : Jvm.MethodName)) ∈ lw_all := lw_g (lw_at lw_m7 95 rfl) rfl
theorem q1638 : (Jvm.Cond.selects "NameRestsModel" ({ cls := "NameRestsModel", name := "judge", desc := "()I" } : Jvm.MethodName) ({ cls := "NameRestsModel", name := "judge", desc := "()I" } : Jvm.MethodName)) ∈ lw_all := lw_g (lw_at lw_m7 96 rfl) rfl
theorem q1639 : (Jvm.Cond.code ({ cls := "NameRestsModel", name := "judge", desc := "()I" } : Jvm.MethodName) prog_25_method_63_code (3 : Nat) (Option.some Jvm.ClassFile.FieldType.int)) ∈ lw_all := lw_g (lw_at lw_m7 97 rfl) rfl
theorem q1640 : (Jvm.Cond.methodLink "NameRestsModel" (288 : Nat) ({ cls := "NameRestsModel", name := "personAt", desc := "(I)I" } : Jvm.MethodName)) ∈ lw_all := lw_g (lw_at lw_m7 98 rfl) rfl
theorem q1641 : (Jvm.Cond.privateMethod ({ cls := "NameRestsModel", name := "personAt", desc := "(I)I" } : Jvm.MethodName)) ∈ lw_tbl := lw_at lw_m7 99 rfl
theorem q1642 : (Jvm.Cond.instanceMethod ({ cls := "NameRestsModel", name := "personAt", desc := "(I)I" } : Jvm.MethodName)) ∈ lw_all := lw_g (lw_at lw_m7 100 rfl) rfl
theorem q1643 : (Jvm.Cond.code ({ cls := "NameRestsModel", name := "personAt", desc := "(I)I" } : Jvm.MethodName) prog_25_method_25_code (3 : Nat) (Option.some Jvm.ClassFile.FieldType.int)) ∈ lw_all := lw_g (lw_at lw_m7 101 rfl) rfl
theorem q1644 : (Jvm.Cond.methodLink "NameRestsModel" (291 : Nat) ({ cls := "NameRestsModel", name := "aheadOf", desc := "(I)I" } : Jvm.MethodName)) ∈ lw_all := lw_g (lw_at lw_m7 102 rfl) rfl
theorem q1645 : (Jvm.Cond.privateMethod ({ cls := "NameRestsModel", name := "aheadOf", desc := "(I)I" } : Jvm.MethodName)) ∈ lw_tbl := lw_at lw_m7 103 rfl
theorem q1646 : (Jvm.Cond.instanceMethod ({ cls := "NameRestsModel", name := "aheadOf", desc := "(I)I" } : Jvm.MethodName)) ∈ lw_all := lw_g (lw_at lw_m7 104 rfl) rfl
theorem q1647 : (Jvm.Cond.code ({ cls := "NameRestsModel", name := "aheadOf", desc := "(I)I" } : Jvm.MethodName) prog_25_method_62_code (4 : Nat) (Option.some Jvm.ClassFile.FieldType.int)) ∈ lw_all := lw_g (lw_at lw_m7 105 rfl) rfl
theorem q1649 : (Jvm.Cond.instanceMethod ({ cls := "NameRestsModel", name := "give", desc := "(II)I" } : Jvm.MethodName)) ∈ lw_all := lw_g (lw_at lw_m7 107 rfl) rfl
theorem q1650 : (Jvm.Cond.selects "NameRestsModel" ({ cls := "NameRestsModel", name := "give", desc := "(II)I" } : Jvm.MethodName) ({ cls := "NameRestsModel", name := "give", desc := "(II)I" } : Jvm.MethodName)) ∈ lw_all := lw_g (lw_at lw_m7 108 rfl) rfl
theorem q1651 : (Jvm.Cond.code ({ cls := "NameRestsModel", name := "give", desc := "(II)I" } : Jvm.MethodName) prog_25_method_66_code (4 : Nat) (Option.some Jvm.ClassFile.FieldType.int)) ∈ lw_all := lw_g (lw_at lw_m7 109 rfl) rfl
theorem q1652 : (Jvm.Cond.methodLink "NameRestsModel" (297 : Nat) ({ cls := "NameRestsModel", name := "given", desc := "(II)I" } : Jvm.MethodName)) ∈ lw_all := lw_g (lw_at lw_m7 110 rfl) rfl
theorem q1653 : (Jvm.Cond.privateMethod ({ cls := "NameRestsModel", name := "given", desc := "(II)I" } : Jvm.MethodName)) ∈ lw_tbl := lw_at lw_m7 111 rfl
theorem q1654 : (Jvm.Cond.instanceMethod ({ cls := "NameRestsModel", name := "given", desc := "(II)I" } : Jvm.MethodName)) ∈ lw_all := lw_g (lw_at lw_m7 112 rfl) rfl
theorem q1655 : (Jvm.Cond.code ({ cls := "NameRestsModel", name := "given", desc := "(II)I" } : Jvm.MethodName) prog_25_method_65_code (9 : Nat) (Option.some Jvm.ClassFile.FieldType.int)) ∈ lw_all := lw_g (lw_at lw_m7 113 rfl) rfl
theorem q1656 : (Jvm.Cond.methodLink "NameRestsModel" (294 : Nat) ({ cls := "NameRestsModel", name := "latestHeld", desc := "(III)I" } : Jvm.MethodName)) ∈ lw_all := lw_g (lw_at lw_m7 114 rfl) rfl
theorem q1657 : (Jvm.Cond.privateMethod ({ cls := "NameRestsModel", name := "latestHeld", desc := "(III)I" } : Jvm.MethodName)) ∈ lw_tbl := lw_at lw_m7 115 rfl
theorem q1658 : (Jvm.Cond.instanceMethod ({ cls := "NameRestsModel", name := "latestHeld", desc := "(III)I" } : Jvm.MethodName)) ∈ lw_all := lw_g (lw_at lw_m7 116 rfl) rfl
theorem q1659 : (Jvm.Cond.code ({ cls := "NameRestsModel", name := "latestHeld", desc := "(III)I" } : Jvm.MethodName) prog_25_method_64_code (5 : Nat) (Option.some Jvm.ClassFile.FieldType.int)) ∈ lw_all := lw_g (lw_at lw_m7 117 rfl) rfl
theorem q1661 : (Jvm.Cond.instanceMethod ({ cls := "NameRestsModel", name := "run", desc := "(II)I" } : Jvm.MethodName)) ∈ lw_all := lw_g (lw_at lw_m7 119 rfl) rfl
theorem q1662 : (Jvm.Cond.selects "NameRestsModel" ({ cls := "NameRestsModel", name := "run", desc := "(II)I" } : Jvm.MethodName) ({ cls := "NameRestsModel", name := "run", desc := "(II)I" } : Jvm.MethodName)) ∈ lw_all := lw_g (lw_at lw_m7 120 rfl) rfl
theorem q1663 : (Jvm.Cond.code ({ cls := "NameRestsModel", name := "run", desc := "(II)I" } : Jvm.MethodName) prog_25_method_68_code (3 : Nat) (Option.some Jvm.ClassFile.FieldType.int)) ∈ lw_all := lw_g (lw_at lw_m7 121 rfl) rfl
theorem q1664 : (Jvm.Cond.methodLink "NameRestsModel" (300 : Nat) ({ cls := "NameRestsModel", name := "runBy", desc := "(I)V" } : Jvm.MethodName)) ∈ lw_all := lw_g (lw_at lw_m7 122 rfl) rfl
theorem q1665 : (Jvm.Cond.privateMethod ({ cls := "NameRestsModel", name := "runBy", desc := "(I)V" } : Jvm.MethodName)) ∈ lw_tbl := lw_at lw_m7 123 rfl
theorem q1666 : (Jvm.Cond.instanceMethod ({ cls := "NameRestsModel", name := "runBy", desc := "(I)V" } : Jvm.MethodName)) ∈ lw_all := lw_g (lw_at lw_m7 124 rfl) rfl
theorem q1667 : (Jvm.Cond.code ({ cls := "NameRestsModel", name := "runBy", desc := "(I)V" } : Jvm.MethodName) prog_25_method_67_code (5 : Nat) (Option.none : Option Jvm.ClassFile.FieldType)) ∈ lw_all := lw_g (lw_at lw_m7 125 rfl) rfl
theorem q1669 : (Jvm.Cond.instanceMethod ({ cls := "NameRestsModel", name := "used", desc := "(II)I" } : Jvm.MethodName)) ∈ lw_all := lw_g (lw_at lw_m7 127 rfl) rfl
theorem q1670 : (Jvm.Cond.selects "NameRestsModel" ({ cls := "NameRestsModel", name := "used", desc := "(II)I" } : Jvm.MethodName) ({ cls := "NameRestsModel", name := "used", desc := "(II)I" } : Jvm.MethodName)) ∈ lw_all := lw_g (lw_at lw_m7 128 rfl) rfl
theorem q1671 : (Jvm.Cond.code ({ cls := "NameRestsModel", name := "used", desc := "(II)I" } : Jvm.MethodName) prog_25_method_70_code (5 : Nat) (Option.some Jvm.ClassFile.FieldType.int)) ∈ lw_all := lw_g (lw_at lw_m7 129 rfl) rfl
theorem q1672 : (Jvm.Cond.methodLink "NameRestsModel" (304 : Nat) ({ cls := "NameRestsModel", name := "unlikeNames", desc := "()I" } : Jvm.MethodName)) ∈ lw_all := lw_g (lw_at lw_m7 130 rfl) rfl
theorem q1673 : (Jvm.Cond.privateMethod ({ cls := "NameRestsModel", name := "unlikeNames", desc := "()I" } : Jvm.MethodName)) ∈ lw_tbl := lw_at lw_m7 131 rfl
theorem q1674 : (Jvm.Cond.instanceMethod ({ cls := "NameRestsModel", name := "unlikeNames", desc := "()I" } : Jvm.MethodName)) ∈ lw_all := lw_g (lw_at lw_m7 132 rfl) rfl
theorem q1675 : (Jvm.Cond.code ({ cls := "NameRestsModel", name := "unlikeNames", desc := "()I" } : Jvm.MethodName) prog_25_method_69_code (3 : Nat) (Option.some Jvm.ClassFile.FieldType.int)) ∈ lw_all := lw_g (lw_at lw_m7 133 rfl) rfl
theorem q1677 : (Jvm.Cond.instanceMethod ({ cls := "NameRestsModel", name := "apart", desc := "(II)I" } : Jvm.MethodName)) ∈ lw_all := lw_g (lw_at lw_m7 135 rfl) rfl
theorem q1678 : (Jvm.Cond.selects "NameRestsModel" ({ cls := "NameRestsModel", name := "apart", desc := "(II)I" } : Jvm.MethodName) ({ cls := "NameRestsModel", name := "apart", desc := "(II)I" } : Jvm.MethodName)) ∈ lw_all := lw_g (lw_at lw_m7 136 rfl) rfl
theorem q1679 : (Jvm.Cond.code ({ cls := "NameRestsModel", name := "apart", desc := "(II)I" } : Jvm.MethodName) prog_25_method_72_code (6 : Nat) (Option.some Jvm.ClassFile.FieldType.int)) ∈ lw_all := lw_g (lw_at lw_m7 137 rfl) rfl
theorem q1680 : (Jvm.Cond.methodLink "NameRestsModel" (307 : Nat) ({ cls := "NameRestsModel", name := "isFreeWithout", desc := "(III)Z" } : Jvm.MethodName)) ∈ lw_all := lw_g (lw_at lw_m7 138 rfl) rfl
theorem q1681 : (Jvm.Cond.privateMethod ({ cls := "NameRestsModel", name := "isFreeWithout", desc := "(III)Z" } : Jvm.MethodName)) ∈ lw_tbl := lw_at lw_m7 139 rfl
theorem q1682 : (Jvm.Cond.instanceMethod ({ cls := "NameRestsModel", name := "isFreeWithout", desc := "(III)Z" } : Jvm.MethodName)) ∈ lw_all := lw_g (lw_at lw_m7 140 rfl) rfl
theorem q1683 : (Jvm.Cond.code ({ cls := "NameRestsModel", name := "isFreeWithout", desc := "(III)Z" } : Jvm.MethodName) prog_25_method_71_code (4 : Nat) (Option.some Jvm.ClassFile.FieldType.boolean)) ∈ lw_all := lw_g (lw_at lw_m7 141 rfl) rfl
theorem q1685 : (Jvm.Cond.instanceMethod ({ cls := "NameRestsModel", name := "freed", desc := "(II)I" } : Jvm.MethodName)) ∈ lw_all := lw_g (lw_at lw_m7 143 rfl) rfl
theorem q1686 : (Jvm.Cond.selects "NameRestsModel" ({ cls := "NameRestsModel", name := "freed", desc := "(II)I" } : Jvm.MethodName) ({ cls := "NameRestsModel", name := "freed", desc := "(II)I" } : Jvm.MethodName)) ∈ lw_all := lw_g (lw_at lw_m7 144 rfl) rfl
theorem q1687 : (Jvm.Cond.code ({ cls := "NameRestsModel", name := "freed", desc := "(II)I" } : Jvm.MethodName) prog_25_method_73_code (5 : Nat) (Option.some Jvm.ClassFile.FieldType.int)) ∈ lw_all := lw_g (lw_at lw_m7 145 rfl) rfl
theorem q1689 : (Jvm.Cond.instanceMethod ({ cls := "NameRestsModel", name := "never", desc := "(I)I" } : Jvm.MethodName)) ∈ lw_all := lw_g (lw_at lw_m7 147 rfl) rfl
theorem q1690 : (Jvm.Cond.selects "NameRestsModel" ({ cls := "NameRestsModel", name := "never", desc := "(I)I" } : Jvm.MethodName) ({ cls := "NameRestsModel", name := "never", desc := "(I)I" } : Jvm.MethodName)) ∈ lw_all := lw_g (lw_at lw_m7 148 rfl) rfl
theorem q1691 : (Jvm.Cond.code ({ cls := "NameRestsModel", name := "never", desc := "(I)I" } : Jvm.MethodName) prog_25_method_74_code (5 : Nat) (Option.some Jvm.ClassFile.FieldType.int)) ∈ lw_all := lw_g (lw_at lw_m7 149 rfl) rfl
theorem q1693 : (Jvm.Cond.instanceMethod ({ cls := "NameRestsModel", name := "needs", desc := "(III)I" } : Jvm.MethodName)) ∈ lw_all := lw_g (lw_at lw_m7 151 rfl) rfl
theorem q1694 : (Jvm.Cond.selects "NameRestsModel" ({ cls := "NameRestsModel", name := "needs", desc := "(III)I" } : Jvm.MethodName) ({ cls := "NameRestsModel", name := "needs", desc := "(III)I" } : Jvm.MethodName)) ∈ lw_all := lw_g (lw_at lw_m7 152 rfl) rfl
theorem q1695 : (Jvm.Cond.code ({ cls := "NameRestsModel", name := "needs", desc := "(III)I" } : Jvm.MethodName) prog_25_method_75_code (9 : Nat) (Option.some Jvm.ClassFile.FieldType.int)) ∈ lw_all := lw_g (lw_at lw_m7 153 rfl) rfl
theorem q1696 : (Jvm.Cond.constant "NameRestsModel" (310 : Nat) (1103515245 : Int32)) ∈ lw_all := lw_g (lw_at lw_m7 154 rfl) rfl
theorem q1698 : (Jvm.Cond.instanceMethod ({ cls := "NameRestsModel", name := "image", desc := "()I" } : Jvm.MethodName)) ∈ lw_all := lw_g (lw_at lw_m7 156 rfl) rfl
theorem q1699 : (Jvm.Cond.selects "NameRestsModel" ({ cls := "NameRestsModel", name := "image", desc := "()I" } : Jvm.MethodName) ({ cls := "NameRestsModel", name := "image", desc := "()I" } : Jvm.MethodName)) ∈ lw_all := lw_g (lw_at lw_m7 157 rfl) rfl
theorem q1700 : (Jvm.Cond.code ({ cls := "NameRestsModel", name := "image", desc := "()I" } : Jvm.MethodName) prog_25_method_76_code (2 : Nat) (Option.some Jvm.ClassFile.FieldType.int)) ∈ lw_all := lw_g (lw_at lw_m7 158 rfl) rfl
theorem q1702 : (Jvm.Cond.instanceMethod ({ cls := "NameRestsModel", name := "back", desc := "()I" } : Jvm.MethodName)) ∈ lw_all := lw_g (lw_at lw_m7 160 rfl) rfl
theorem q1703 : (Jvm.Cond.selects "NameRestsModel" ({ cls := "NameRestsModel", name := "back", desc := "()I" } : Jvm.MethodName) ({ cls := "NameRestsModel", name := "back", desc := "()I" } : Jvm.MethodName)) ∈ lw_all := lw_g (lw_at lw_m7 161 rfl) rfl
theorem q1704 : (Jvm.Cond.code ({ cls := "NameRestsModel", name := "back", desc := "()I" } : Jvm.MethodName) prog_25_method_77_code (2 : Nat) (Option.some Jvm.ClassFile.FieldType.int)) ∈ lw_all := lw_g (lw_at lw_m7 162 rfl) rfl
theorem q1706 : (Jvm.Cond.instanceMethod ({ cls := "NameRestsModel", name := "trace", desc := "(I)I" } : Jvm.MethodName)) ∈ lw_all := lw_g (lw_at lw_m7 164 rfl) rfl
theorem q1707 : (Jvm.Cond.selects "NameRestsModel" ({ cls := "NameRestsModel", name := "trace", desc := "(I)I" } : Jvm.MethodName) ({ cls := "NameRestsModel", name := "trace", desc := "(I)I" } : Jvm.MethodName)) ∈ lw_all := lw_g (lw_at lw_m7 165 rfl) rfl
theorem q1708 : (Jvm.Cond.code ({ cls := "NameRestsModel", name := "trace", desc := "(I)I" } : Jvm.MethodName) prog_25_method_80_code (2 : Nat) (Option.some Jvm.ClassFile.FieldType.int)) ∈ lw_all := lw_g (lw_at lw_m7 166 rfl) rfl
theorem q1710 : (Jvm.Cond.instanceMethod ({ cls := "NameRestsModel", name := "body", desc := "(I)I" } : Jvm.MethodName)) ∈ lw_all := lw_g (lw_at lw_m7 168 rfl) rfl
theorem q1711 : (Jvm.Cond.selects "NameRestsModel" ({ cls := "NameRestsModel", name := "body", desc := "(I)I" } : Jvm.MethodName) ({ cls := "NameRestsModel", name := "body", desc := "(I)I" } : Jvm.MethodName)) ∈ lw_all := lw_g (lw_at lw_m7 169 rfl) rfl
theorem q1712 : (Jvm.Cond.code ({ cls := "NameRestsModel", name := "body", desc := "(I)I" } : Jvm.MethodName) prog_25_method_81_code (2 : Nat) (Option.some Jvm.ClassFile.FieldType.int)) ∈ lw_all := lw_g (lw_at lw_m7 170 rfl) rfl
theorem q1714 : (Jvm.Cond.instanceMethod ({ cls := "NameRestsModel", name := "act", desc := "(III)I" } : Jvm.MethodName)) ∈ lw_all := lw_g (lw_at lw_m7 172 rfl) rfl
theorem q1715 : (Jvm.Cond.selects "NameRestsModel" ({ cls := "NameRestsModel", name := "act", desc := "(III)I" } : Jvm.MethodName) ({ cls := "NameRestsModel", name := "act", desc := "(III)I" } : Jvm.MethodName)) ∈ lw_all := lw_g (lw_at lw_m7 173 rfl) rfl
theorem q1716 : (Jvm.Cond.code ({ cls := "NameRestsModel", name := "act", desc := "(III)I" } : Jvm.MethodName) prog_25_method_94_code (4 : Nat) (Option.some Jvm.ClassFile.FieldType.int)) ∈ lw_all := lw_g (lw_at lw_m7 174 rfl) rfl
theorem q1717 : (Jvm.Cond.methodLink "NameRestsModel" (359 : Nat) ({ cls := "NameRestsModel", name := "isBody", desc := "(I)Z" } : Jvm.MethodName)) ∈ lw_all := lw_g (lw_at lw_m7 175 rfl) rfl
theorem q1718 : (Jvm.Cond.privateMethod ({ cls := "NameRestsModel", name := "isBody", desc := "(I)Z" } : Jvm.MethodName)) ∈ lw_tbl := lw_at lw_m7 176 rfl
theorem q1719 : (Jvm.Cond.instanceMethod ({ cls := "NameRestsModel", name := "isBody", desc := "(I)Z" } : Jvm.MethodName)) ∈ lw_all := lw_g (lw_at lw_m7 177 rfl) rfl
theorem q1720 : (Jvm.Cond.code ({ cls := "NameRestsModel", name := "isBody", desc := "(I)Z" } : Jvm.MethodName) prog_25_method_78_code (2 : Nat) (Option.some Jvm.ClassFile.FieldType.boolean)) ∈ lw_all := lw_g (lw_at lw_m7 178 rfl) rfl
theorem q1721 : (Jvm.Cond.methodLink "NameRestsModel" (335 : Nat) ({ cls := "NameRestsModel", name := "giving", desc := "(II)I" } : Jvm.MethodName)) ∈ lw_all := lw_g (lw_at lw_m7 179 rfl) rfl
theorem q1722 : (Jvm.Cond.privateMethod ({ cls := "NameRestsModel", name := "giving", desc := "(II)I" } : Jvm.MethodName)) ∈ lw_tbl := lw_at lw_m7 180 rfl
theorem q1723 : (Jvm.Cond.instanceMethod ({ cls := "NameRestsModel", name := "giving", desc := "(II)I" } : Jvm.MethodName)) ∈ lw_all := lw_g (lw_at lw_m7 181 rfl) rfl
theorem q1724 : (Jvm.Cond.code ({ cls := "NameRestsModel", name := "giving", desc := "(II)I" } : Jvm.MethodName) prog_25_method_85_code (3 : Nat) (Option.some Jvm.ClassFile.FieldType.int)) ∈ lw_all := lw_g (lw_at lw_m7 182 rfl) rfl
theorem q1725 : (Jvm.Cond.methodLink "NameRestsModel" (329 : Nat) ({ cls := "NameRestsModel", name := "isUnder", desc := "(II)Z" } : Jvm.MethodName)) ∈ lw_all := lw_g (lw_at lw_m7 183 rfl) rfl
theorem q1726 : (Jvm.Cond.static ({ cls := "NameRestsModel", name := "isUnder", desc := "(II)Z" } : Jvm.MethodName)) ∈ lw_all := lw_g (lw_at lw_m7 184 rfl) rfl
theorem q1727 : (Jvm.Cond.code ({ cls := "NameRestsModel", name := "isUnder", desc := "(II)Z" } : Jvm.MethodName) prog_25_method_82_code (2 : Nat) (Option.some Jvm.ClassFile.FieldType.boolean)) ∈ lw_all := lw_g (lw_at lw_m7 185 rfl) rfl
theorem q1728 : (Jvm.Cond.methodLink "NameRestsModel" (323 : Nat) ({ cls := "NameRestsModel", name := "ran", desc := "(I)V" } : Jvm.MethodName)) ∈ lw_all := lw_g (lw_at lw_m7 186 rfl) rfl
theorem q1729 : (Jvm.Cond.privateMethod ({ cls := "NameRestsModel", name := "ran", desc := "(I)V" } : Jvm.MethodName)) ∈ lw_tbl := lw_at lw_m7 187 rfl
theorem q1730 : (Jvm.Cond.instanceMethod ({ cls := "NameRestsModel", name := "ran", desc := "(I)V" } : Jvm.MethodName)) ∈ lw_all := lw_g (lw_at lw_m7 188 rfl) rfl
theorem q1731 : (Jvm.Cond.code ({ cls := "NameRestsModel", name := "ran", desc := "(I)V" } : Jvm.MethodName) prog_25_method_79_code (2 : Nat) (Option.none : Option Jvm.ClassFile.FieldType)) ∈ lw_all := lw_g (lw_at lw_m7 189 rfl) rfl
theorem q1732 : (Jvm.Cond.methodLink "NameRestsModel" (326 : Nat) ({ cls := "NameRestsModel", name := "plainGives", desc := "(II)I" } : Jvm.MethodName)) ∈ lw_all := lw_g (lw_at lw_m7 190 rfl) rfl
theorem q1733 : (Jvm.Cond.privateMethod ({ cls := "NameRestsModel", name := "plainGives", desc := "(II)I" } : Jvm.MethodName)) ∈ lw_tbl := lw_at lw_m7 191 rfl
theorem q1734 : (Jvm.Cond.instanceMethod ({ cls := "NameRestsModel", name := "plainGives", desc := "(II)I" } : Jvm.MethodName)) ∈ lw_all := lw_g (lw_at lw_m7 192 rfl) rfl
theorem q1735 : (Jvm.Cond.code ({ cls := "NameRestsModel", name := "plainGives", desc := "(II)I" } : Jvm.MethodName) prog_25_method_83_code (3 : Nat) (Option.some Jvm.ClassFile.FieldType.int)) ∈ lw_all := lw_g (lw_at lw_m7 193 rfl) rfl
theorem q1736 : (Jvm.Cond.methodLink "NameRestsModel" (332 : Nat) ({ cls := "NameRestsModel", name := "toldGives", desc := "(II)I" } : Jvm.MethodName)) ∈ lw_all := lw_g (lw_at lw_m7 194 rfl) rfl
theorem q1737 : (Jvm.Cond.privateMethod ({ cls := "NameRestsModel", name := "toldGives", desc := "(II)I" } : Jvm.MethodName)) ∈ lw_tbl := lw_at lw_m7 195 rfl
theorem q1738 : (Jvm.Cond.instanceMethod ({ cls := "NameRestsModel", name := "toldGives", desc := "(II)I" } : Jvm.MethodName)) ∈ lw_all := lw_g (lw_at lw_m7 196 rfl) rfl
theorem q1739 : (Jvm.Cond.code ({ cls := "NameRestsModel", name := "toldGives", desc := "(II)I" } : Jvm.MethodName) prog_25_method_84_code (3 : Nat) (Option.some Jvm.ClassFile.FieldType.int)) ∈ lw_all := lw_g (lw_at lw_m7 197 rfl) rfl
theorem q1740 : (Jvm.Cond.methodLink "NameRestsModel" (353 : Nat) ({ cls := "NameRestsModel", name := "holding", desc := "(II)I" } : Jvm.MethodName)) ∈ lw_all := lw_g (lw_at lw_m7 198 rfl) rfl
theorem q1741 : (Jvm.Cond.privateMethod ({ cls := "NameRestsModel", name := "holding", desc := "(II)I" } : Jvm.MethodName)) ∈ lw_tbl := lw_at lw_m7 199 rfl
theorem q1742 : (Jvm.Cond.instanceMethod ({ cls := "NameRestsModel", name := "holding", desc := "(II)I" } : Jvm.MethodName)) ∈ lw_all := lw_g (lw_at lw_m7 200 rfl) rfl
theorem q1743 : (Jvm.Cond.code ({ cls := "NameRestsModel", name := "holding", desc := "(II)I" } : Jvm.MethodName) prog_25_method_88_code (4 : Nat) (Option.some Jvm.ClassFile.FieldType.int)) ∈ lw_all := lw_g (lw_at lw_m7 201 rfl) rfl
theorem q1744 : (Jvm.Cond.methodLink "NameRestsModel" (341 : Nat) ({ cls := "NameRestsModel", name := "soonHolds", desc := "(II)I" } : Jvm.MethodName)) ∈ lw_all := lw_g (lw_at lw_m7 202 rfl) rfl
theorem q1745 : (Jvm.Cond.privateMethod ({ cls := "NameRestsModel", name := "soonHolds", desc := "(II)I" } : Jvm.MethodName)) ∈ lw_tbl := lw_at lw_m7 203 rfl
theorem q1746 : (Jvm.Cond.instanceMethod ({ cls := "NameRestsModel", name := "soonHolds", desc := "(II)I" } : Jvm.MethodName)) ∈ lw_all := lw_g (lw_at lw_m7 204 rfl) rfl
theorem q1747 : (Jvm.Cond.code ({ cls := "NameRestsModel", name := "soonHolds", desc := "(II)I" } : Jvm.MethodName) prog_25_method_87_code (3 : Nat) (Option.some Jvm.ClassFile.FieldType.int)) ∈ lw_all := lw_g (lw_at lw_m7 205 rfl) rfl
theorem q1748 : (Jvm.Cond.methodLink "NameRestsModel" (338 : Nat) ({ cls := "NameRestsModel", name := "plainHolds", desc := "(II)I" } : Jvm.MethodName)) ∈ lw_all := lw_g (lw_at lw_m7 206 rfl) rfl
theorem q1749 : (Jvm.Cond.privateMethod ({ cls := "NameRestsModel", name := "plainHolds", desc := "(II)I" } : Jvm.MethodName)) ∈ lw_tbl := lw_at lw_m7 207 rfl
theorem q1750 : (Jvm.Cond.instanceMethod ({ cls := "NameRestsModel", name := "plainHolds", desc := "(II)I" } : Jvm.MethodName)) ∈ lw_all := lw_g (lw_at lw_m7 208 rfl) rfl
theorem q1751 : (Jvm.Cond.code ({ cls := "NameRestsModel", name := "plainHolds", desc := "(II)I" } : Jvm.MethodName) prog_25_method_86_code (3 : Nat) (Option.some Jvm.ClassFile.FieldType.int)) ∈ lw_all := lw_g (lw_at lw_m7 209 rfl) rfl
theorem q1752 : (Jvm.Cond.methodLink "NameRestsModel" (344 : Nat) ({ cls := "NameRestsModel", name := "knowing", desc := "(II)I" } : Jvm.MethodName)) ∈ lw_all := lw_g (lw_at lw_m7 210 rfl) rfl
theorem q1753 : (Jvm.Cond.privateMethod ({ cls := "NameRestsModel", name := "knowing", desc := "(II)I" } : Jvm.MethodName)) ∈ lw_tbl := lw_at lw_m7 211 rfl
theorem q1754 : (Jvm.Cond.instanceMethod ({ cls := "NameRestsModel", name := "knowing", desc := "(II)I" } : Jvm.MethodName)) ∈ lw_all := lw_g (lw_at lw_m7 212 rfl) rfl
theorem q1755 : (Jvm.Cond.code ({ cls := "NameRestsModel", name := "knowing", desc := "(II)I" } : Jvm.MethodName) prog_25_method_91_code (4 : Nat) (Option.some Jvm.ClassFile.FieldType.int)) ∈ lw_all := lw_g (lw_at lw_m7 213 rfl) rfl
theorem q1756 : (Jvm.Cond.methodLink "NameRestsModel" (350 : Nat) ({ cls := "NameRestsModel", name := "wishKnows", desc := "(II)I" } : Jvm.MethodName)) ∈ lw_all := lw_g (lw_at lw_m7 214 rfl) rfl
theorem q1757 : (Jvm.Cond.privateMethod ({ cls := "NameRestsModel", name := "wishKnows", desc := "(II)I" } : Jvm.MethodName)) ∈ lw_tbl := lw_at lw_m7 215 rfl
theorem q1758 : (Jvm.Cond.instanceMethod ({ cls := "NameRestsModel", name := "wishKnows", desc := "(II)I" } : Jvm.MethodName)) ∈ lw_all := lw_g (lw_at lw_m7 216 rfl) rfl
theorem q1759 : (Jvm.Cond.code ({ cls := "NameRestsModel", name := "wishKnows", desc := "(II)I" } : Jvm.MethodName) prog_25_method_90_code (3 : Nat) (Option.some Jvm.ClassFile.FieldType.int)) ∈ lw_all := lw_g (lw_at lw_m7 217 rfl) rfl
theorem q1760 : (Jvm.Cond.methodLink "NameRestsModel" (347 : Nat) ({ cls := "NameRestsModel", name := "plainKnows", desc := "(II)I" } : Jvm.MethodName)) ∈ lw_all := lw_g (lw_at lw_m7 218 rfl) rfl
theorem q1761 : (Jvm.Cond.privateMethod ({ cls := "NameRestsModel", name := "plainKnows", desc := "(II)I" } : Jvm.MethodName)) ∈ lw_tbl := lw_at lw_m7 219 rfl
theorem q1762 : (Jvm.Cond.instanceMethod ({ cls := "NameRestsModel", name := "plainKnows", desc := "(II)I" } : Jvm.MethodName)) ∈ lw_all := lw_g (lw_at lw_m7 220 rfl) rfl
theorem q1763 : (Jvm.Cond.code ({ cls := "NameRestsModel", name := "plainKnows", desc := "(II)I" } : Jvm.MethodName) prog_25_method_89_code (3 : Nat) (Option.some Jvm.ClassFile.FieldType.int)) ∈ lw_all := lw_g (lw_at lw_m7 221 rfl) rfl
theorem q1764 : (Jvm.Cond.methodLink "NameRestsModel" (362 : Nat) ({ cls := "NameRestsModel", name := "telling", desc := "(II)I" } : Jvm.MethodName)) ∈ lw_all := lw_g (lw_at lw_m7 222 rfl) rfl
theorem q1765 : (Jvm.Cond.privateMethod ({ cls := "NameRestsModel", name := "telling", desc := "(II)I" } : Jvm.MethodName)) ∈ lw_tbl := lw_at lw_m7 223 rfl
theorem q1766 : (Jvm.Cond.instanceMethod ({ cls := "NameRestsModel", name := "telling", desc := "(II)I" } : Jvm.MethodName)) ∈ lw_all := lw_g (lw_at lw_m7 224 rfl) rfl
theorem q1767 : (Jvm.Cond.code ({ cls := "NameRestsModel", name := "telling", desc := "(II)I" } : Jvm.MethodName) prog_25_method_93_code (3 : Nat) (Option.some Jvm.ClassFile.FieldType.int)) ∈ lw_all := lw_g (lw_at lw_m7 225 rfl) rfl
theorem q1768 : (Jvm.Cond.methodLink "NameRestsModel" (356 : Nat) ({ cls := "NameRestsModel", name := "plainTells", desc := "(II)I" } : Jvm.MethodName)) ∈ lw_all := lw_g (lw_at lw_m7 226 rfl) rfl
theorem q1769 : (Jvm.Cond.privateMethod ({ cls := "NameRestsModel", name := "plainTells", desc := "(II)I" } : Jvm.MethodName)) ∈ lw_tbl := lw_at lw_m7 227 rfl
theorem q1770 : (Jvm.Cond.instanceMethod ({ cls := "NameRestsModel", name := "plainTells", desc := "(II)I" } : Jvm.MethodName)) ∈ lw_all := lw_g (lw_at lw_m7 228 rfl) rfl
theorem q1771 : (Jvm.Cond.code ({ cls := "NameRestsModel", name := "plainTells", desc := "(II)I" } : Jvm.MethodName) prog_25_method_92_code (4 : Nat) (Option.some Jvm.ClassFile.FieldType.int)) ∈ lw_all := lw_g (lw_at lw_m7 229 rfl) rfl
theorem q1773 : (Jvm.Cond.instanceMethod ({ cls := "NameRestsModel", name := "count", desc := "(I)I" } : Jvm.MethodName)) ∈ lw_all := lw_g (lw_at lw_m7 231 rfl) rfl
theorem q1774 : (Jvm.Cond.selects "NameRestsModel" ({ cls := "NameRestsModel", name := "count", desc := "(I)I" } : Jvm.MethodName) ({ cls := "NameRestsModel", name := "count", desc := "(I)I" } : Jvm.MethodName)) ∈ lw_all := lw_g (lw_at lw_m7 232 rfl) rfl
theorem q1775 : (Jvm.Cond.code ({ cls := "NameRestsModel", name := "count", desc := "(I)I" } : Jvm.MethodName) prog_25_method_96_code (2 : Nat) (Option.some Jvm.ClassFile.FieldType.int)) ∈ lw_all := lw_g (lw_at lw_m7 233 rfl) rfl
theorem q1776 : (Jvm.Cond.methodLink "NameRestsModel" (365 : Nat) ({ cls := "NameRestsModel", name := "namedMany", desc := "()I" } : Jvm.MethodName)) ∈ lw_all := lw_g (lw_at lw_m7 234 rfl) rfl
theorem q1777 : (Jvm.Cond.privateMethod ({ cls := "NameRestsModel", name := "namedMany", desc := "()I" } : Jvm.MethodName)) ∈ lw_tbl := lw_at lw_m7 235 rfl
theorem q1778 : (Jvm.Cond.instanceMethod ({ cls := "NameRestsModel", name := "namedMany", desc := "()I" } : Jvm.MethodName)) ∈ lw_all := lw_g (lw_at lw_m7 236 rfl) rfl
theorem q1779 : (Jvm.Cond.code ({ cls := "NameRestsModel", name := "namedMany", desc := "()I" } : Jvm.MethodName) prog_25_method_95_code (3 : Nat) (Option.some Jvm.ClassFile.FieldType.int)) ∈ lw_all := lw_g (lw_at lw_m7 237 rfl) rfl
theorem q1781 : (Jvm.Cond.instanceMethod ({ cls := "NameRestsModel", name := "keep", desc := "(II)I" } : Jvm.MethodName)) ∈ lw_all := lw_g (lw_at lw_m7 239 rfl) rfl
theorem q1782 : (Jvm.Cond.selects "NameRestsModel" ({ cls := "NameRestsModel", name := "keep", desc := "(II)I" } : Jvm.MethodName) ({ cls := "NameRestsModel", name := "keep", desc := "(II)I" } : Jvm.MethodName)) ∈ lw_all := lw_g (lw_at lw_m8 0 rfl) rfl
theorem q1783 : (Jvm.Cond.code ({ cls := "NameRestsModel", name := "keep", desc := "(II)I" } : Jvm.MethodName) prog_25_method_98_code (3 : Nat) (Option.some Jvm.ClassFile.FieldType.int)) ∈ lw_all := lw_g (lw_at lw_m8 1 rfl) rfl
theorem q1785 : (Jvm.Cond.instanceMethod ({ cls := "NameRestsModel", name := "row", desc := "(III)I" } : Jvm.MethodName)) ∈ lw_all := lw_g (lw_at lw_m8 3 rfl) rfl
theorem q1786 : (Jvm.Cond.selects "NameRestsModel" ({ cls := "NameRestsModel", name := "row", desc := "(III)I" } : Jvm.MethodName) ({ cls := "NameRestsModel", name := "row", desc := "(III)I" } : Jvm.MethodName)) ∈ lw_all := lw_g (lw_at lw_m8 4 rfl) rfl
theorem q1787 : (Jvm.Cond.code ({ cls := "NameRestsModel", name := "row", desc := "(III)I" } : Jvm.MethodName) prog_25_method_99_code (5 : Nat) (Option.some Jvm.ClassFile.FieldType.int)) ∈ lw_all := lw_g (lw_at lw_m8 5 rfl) rfl
theorem q1789 : (Jvm.Cond.instanceMethod ({ cls := "NameRestsModel", name := "put", desc := "(IIJ)I" } : Jvm.MethodName)) ∈ lw_all := lw_g (lw_at lw_m8 7 rfl) rfl
theorem q1790 : (Jvm.Cond.selects "NameRestsModel" ({ cls := "NameRestsModel", name := "put", desc := "(IIJ)I" } : Jvm.MethodName) ({ cls := "NameRestsModel", name := "put", desc := "(IIJ)I" } : Jvm.MethodName)) ∈ lw_all := lw_g (lw_at lw_m8 8 rfl) rfl
theorem q1791 : (Jvm.Cond.code ({ cls := "NameRestsModel", name := "put", desc := "(IIJ)I" } : Jvm.MethodName) prog_25_method_101_code (7 : Nat) (Option.some Jvm.ClassFile.FieldType.int)) ∈ lw_all := lw_g (lw_at lw_m8 9 rfl) rfl
theorem q1792 : (Jvm.Cond.methodLink "NameRestsModel" (368 : Nat) ({ cls := "NameRestsModel", name := "whyNoPlace", desc := "(II)I" } : Jvm.MethodName)) ∈ lw_all := lw_g (lw_at lw_m8 10 rfl) rfl
theorem q1793 : (Jvm.Cond.privateMethod ({ cls := "NameRestsModel", name := "whyNoPlace", desc := "(II)I" } : Jvm.MethodName)) ∈ lw_tbl := lw_at lw_m8 11 rfl
theorem q1794 : (Jvm.Cond.instanceMethod ({ cls := "NameRestsModel", name := "whyNoPlace", desc := "(II)I" } : Jvm.MethodName)) ∈ lw_all := lw_g (lw_at lw_m8 12 rfl) rfl
theorem q1795 : (Jvm.Cond.code ({ cls := "NameRestsModel", name := "whyNoPlace", desc := "(II)I" } : Jvm.MethodName) prog_25_method_100_code (3 : Nat) (Option.some Jvm.ClassFile.FieldType.int)) ∈ lw_all := lw_g (lw_at lw_m8 13 rfl) rfl
theorem q1797 : (Jvm.Cond.instanceMethod ({ cls := "NameRestsModel", name := "element", desc := "(II)J" } : Jvm.MethodName)) ∈ lw_all := lw_g (lw_at lw_m8 15 rfl) rfl
theorem q1798 : (Jvm.Cond.selects "NameRestsModel" ({ cls := "NameRestsModel", name := "element", desc := "(II)J" } : Jvm.MethodName) ({ cls := "NameRestsModel", name := "element", desc := "(II)J" } : Jvm.MethodName)) ∈ lw_all := lw_g (lw_at lw_m8 16 rfl) rfl
theorem q1799 : (Jvm.Cond.code ({ cls := "NameRestsModel", name := "element", desc := "(II)J" } : Jvm.MethodName) prog_25_method_102_code (3 : Nat) (Option.some Jvm.ClassFile.FieldType.long)) ∈ lw_all := lw_g (lw_at lw_m8 17 rfl) rfl
theorem q1800 : (Jvm.Cond.constantLong "NameRestsModel" (373 : Nat) (-9223372036854775808 : Int64)) ∈ lw_all := lw_g (lw_at lw_m8 18 rfl) rfl
theorem q1802 : (Jvm.Cond.instanceMethod ({ cls := "NameRestsModel", name := "shift", desc := "(IIIII)I" } : Jvm.MethodName)) ∈ lw_all := lw_g (lw_at lw_m8 20 rfl) rfl
theorem q1803 : (Jvm.Cond.selects "NameRestsModel" ({ cls := "NameRestsModel", name := "shift", desc := "(IIIII)I" } : Jvm.MethodName) ({ cls := "NameRestsModel", name := "shift", desc := "(IIIII)I" } : Jvm.MethodName)) ∈ lw_all := lw_g (lw_at lw_m8 21 rfl) rfl
theorem q1804 : (Jvm.Cond.code ({ cls := "NameRestsModel", name := "shift", desc := "(IIIII)I" } : Jvm.MethodName) prog_25_method_103_code (7 : Nat) (Option.some Jvm.ClassFile.FieldType.int)) ∈ lw_all := lw_g (lw_at lw_m8 22 rfl) rfl
theorem q1806 : (Jvm.Cond.instanceMethod ({ cls := "NameRestsModel", name := "taken", desc := "(II)I" } : Jvm.MethodName)) ∈ lw_all := lw_g (lw_at lw_m8 24 rfl) rfl
theorem q1807 : (Jvm.Cond.selects "NameRestsModel" ({ cls := "NameRestsModel", name := "taken", desc := "(II)I" } : Jvm.MethodName) ({ cls := "NameRestsModel", name := "taken", desc := "(II)I" } : Jvm.MethodName)) ∈ lw_all := lw_g (lw_at lw_m8 25 rfl) rfl
theorem q1808 : (Jvm.Cond.code ({ cls := "NameRestsModel", name := "taken", desc := "(II)I" } : Jvm.MethodName) prog_25_method_104_code (3 : Nat) (Option.some Jvm.ClassFile.FieldType.int)) ∈ lw_all := lw_g (lw_at lw_m8 26 rfl) rfl
theorem q1848 : (Jvm.Cond.castable "NameRestsModel" "java/lang/Object") ∈ lw_tbl := lw_at lw_m8 66 rfl
theorem in_X5 : ∀ w ∈ wsX50, w ∈ lw_all := lw_in wsX50 [1311, 1313, 1315, 1317, 1319, 1321, 1323, 1325, 1327, 1329, 1331, 1333, 1335, 1337, 1339, 1341, 1343, 1345, 1347, 1349, 1351, 1353, 1355, 1357, 1359, 1361, 1363, 1365, 1367, 1369, 1371, 1373, 1375, 1377, 1379, 1381, 1383, 1385, 1387, 1389, 1391, 1393, 1395, 1397, 1399, 1401, 1403] (by decide +kernel) (by decide +kernel)

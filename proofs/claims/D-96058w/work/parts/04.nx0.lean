/-! NameRests -/
set_option maxRecDepth 100000
def RX0 : String := "NameRests"
def TX0 : u_T := fun k => match k with
  | 0 => ("NameRests", "changes", "[LNameRests$Change;", true)
  | 1 => ("NameRests", "changeMany", "I", false)
  | 2 => ("NameRests", "done", "I", false)
  | 3 => ("NameRests", "tape", "[I", true)
  | 4 => ("NameRests", "length", "I", false)
  | 5 => ("NameRests", "fault", "LNameRests$Fault;", true)
  | 6 => ("NameRests", "at", "I", false)
  | 7 => ("NameRests", "people", "[LNameRests$Person;", true)
  | 8 => ("NameRests", "personMany", "I", false)
  | 9 => ("NameRests", "order", "[I", true)
  | 10 => ("NameRests", "meetings", "[LNameRests$Meeting;", true)
  | 11 => ("NameRests", "meetingMany", "I", false)
  | 12 => ("NameRests", "byYear", "[I", true)
  | 13 => ("NameRests", "hearing", "I", false)
  | 14 => ("NameRests", "worths", "[LNameRests$Held;", true)
  | 15 => ("NameRests", "fame", "[I", true)
  | 16 => ("NameRests", "torn", "LNameRests$Torn;", true)
  | 17 => ("NameRests", "names", "[I", true)
  | 18 => ("NameRests", "opened", "I", false)
  | 19 => ("NameRests", "holding", "LNameRests$Line;", false)
  | 20 => ("NameRests", "known", "[I", true)
  | 21 => ("NameRests", "bears", "[I", true)
  | 22 => ("NameRests", "diesToo", "[I", true)
  | 23 => ("NameRests", "isKept", "Z", false)
  | 24 => ("NameRests", "imagePeople", "I", false)
  | 25 => ("NameRests", "imageNames", "[I", true)
  | 26 => ("NameRests", "bodies", "[LNameRests$Body;", true)
  | 27 => ("NameRests", "bodyMany", "I", false)
  | 28 => ("NameRests", "trace", "[I", true)
  | 29 => ("NameRests", "ran", "I", false)
  | _ => ("NameRests", "shelves", "[Ljava/lang/Object;", true)
def tyX0 : Nat → FieldType := fun k => match k with
  | 0 => .array (.object "NameRests$Change")
  | 1 => .int
  | 2 => .int
  | 3 => .array .int
  | 4 => .int
  | 5 => .object "NameRests$Fault"
  | 6 => .int
  | 7 => .array (.object "NameRests$Person")
  | 8 => .int
  | 9 => .array .int
  | 10 => .array (.object "NameRests$Meeting")
  | 11 => .int
  | 12 => .array .int
  | 13 => .int
  | 14 => .array (.object "NameRests$Held")
  | 15 => .array .int
  | 16 => .object "NameRests$Torn"
  | 17 => .array .int
  | 18 => .int
  | 19 => .object "NameRests$Line"
  | 20 => .array .int
  | 21 => .array .int
  | 22 => .array .int
  | 23 => .boolean
  | 24 => .int
  | 25 => .array .int
  | 26 => .array (.object "NameRests$Body")
  | 27 => .int
  | 28 => .array .int
  | 29 => .int
  | _ => .array (.object "java/lang/Object")
abbrev wsX00 : List Cond := u_ws RX0 TX0 31
set_option maxRecDepth 100000 in
theorem nmX0 : ∀ a, a < 31 → ∀ b, b < 31 → a ≠ b → (TX0 a).2.1 ≠ (TX0 b).2.1 := by decide +kernel
set_option maxRecDepth 100000 in
theorem tyX0_ok : ∀ k, k < 31 → parseFieldDescriptor (TX0 k).2.2.1 = some (tyX0 k) := by decide +kernel
abbrev cX0_undo : ByteArray := prog_1_method_6_code
def yX0_undo : MethodName := ⟨RX0, "undo", "()I"⟩
def dkwX0_undo_2 : List UInt8 := [180, 0, 7, 172]
abbrev dktX0_undo_2 : List UInt8 := dkwX0_undo_2 ++ []
def dkwX0_undo_1 : List UInt8 := [42, 180, 0, 7, 50, 180, 0, 16, 42, 180, 0, 12, 42, 180, 0, 7, 50, 180, 0, 22, 181, 0, 1, 42]
abbrev dktX0_undo_1 : List UInt8 := dkwX0_undo_1 ++ dktX0_undo_2
def dkwX0_undo_0 : List UInt8 := [42, 180, 0, 7, 154, 0, 6, 16, 251, 172, 42, 89, 180, 0, 7, 4, 100, 181, 0, 7, 42, 180, 0, 12]
abbrev dktX0_undo_0 : List UInt8 := dkwX0_undo_0 ++ dktX0_undo_1
theorem dksX0_undo_0 : cX0_undo.data.toList.drop 0 = dktX0_undo_0 := by decide +kernel
theorem dksX0_undo_1 : cX0_undo.data.toList.drop 24 = dktX0_undo_1 := dk_seg dksX0_undo_0 24 rfl rfl
theorem dksX0_undo_2 : cX0_undo.data.toList.drop 48 = dktX0_undo_2 := dk_seg dksX0_undo_1 24 rfl rfl
theorem dX0_undo_0 : decode cX0_undo 0 = .ok (.aload_n 0, 1) := dk_42 (dk_at dksX0_undo_0 0 rfl rfl)
theorem dX0_undo_1 : decode cX0_undo 1 = .ok (.getfield 7, 3) := dk_180 0 7 (dk_at dksX0_undo_0 1 rfl rfl)
theorem dX0_undo_4 : decode cX0_undo 4 = .ok (.ifCond .ne 6, 3) := dk_154 0 6 (dk_at dksX0_undo_0 4 rfl rfl)
theorem dX0_undo_7 : decode cX0_undo 7 = .ok (.bipush (-5), 2) := dk_16 251 (dk_at dksX0_undo_0 7 rfl rfl)
theorem dX0_undo_9 : decode cX0_undo 9 = .ok (.ireturn, 1) := dk_172 (dk_at dksX0_undo_0 9 rfl rfl)
theorem dX0_undo_10 : decode cX0_undo 10 = .ok (.aload_n 0, 1) := dk_42 (dk_at dksX0_undo_0 10 rfl rfl)
theorem dX0_undo_11 : decode cX0_undo 11 = .ok (.dup, 1) := dk_89 (dk_at dksX0_undo_0 11 rfl rfl)
theorem dX0_undo_12 : decode cX0_undo 12 = .ok (.getfield 7, 3) := dk_180 0 7 (dk_at dksX0_undo_0 12 rfl rfl)
theorem dX0_undo_15 : decode cX0_undo 15 = .ok (.iconst 1, 1) := dk_4 (dk_at dksX0_undo_0 15 rfl rfl)
theorem dX0_undo_16 : decode cX0_undo 16 = .ok (.isub, 1) := dk_100 (dk_at dksX0_undo_0 16 rfl rfl)
theorem dX0_undo_17 : decode cX0_undo 17 = .ok (.putfield 7, 3) := dk_181 0 7 (dk_at dksX0_undo_0 17 rfl rfl)
theorem dX0_undo_20 : decode cX0_undo 20 = .ok (.aload_n 0, 1) := dk_42 (dk_at dksX0_undo_0 20 rfl rfl)
theorem dX0_undo_21 : decode cX0_undo 21 = .ok (.getfield 12, 3) := dk_180 0 12 (dk_at dksX0_undo_0 21 rfl rfl)
theorem dX0_undo_24 : decode cX0_undo 24 = .ok (.aload_n 0, 1) := dk_42 (dk_at dksX0_undo_1 0 rfl rfl)
theorem dX0_undo_25 : decode cX0_undo 25 = .ok (.getfield 7, 3) := dk_180 0 7 (dk_at dksX0_undo_1 1 rfl rfl)
theorem dX0_undo_28 : decode cX0_undo 28 = .ok (.aaload, 1) := dk_50 (dk_at dksX0_undo_1 4 rfl rfl)
theorem dX0_undo_29 : decode cX0_undo 29 = .ok (.getfield 16, 3) := dk_180 0 16 (dk_at dksX0_undo_1 5 rfl rfl)
theorem dX0_undo_32 : decode cX0_undo 32 = .ok (.aload_n 0, 1) := dk_42 (dk_at dksX0_undo_1 8 rfl rfl)
theorem dX0_undo_33 : decode cX0_undo 33 = .ok (.getfield 12, 3) := dk_180 0 12 (dk_at dksX0_undo_1 9 rfl rfl)
theorem dX0_undo_36 : decode cX0_undo 36 = .ok (.aload_n 0, 1) := dk_42 (dk_at dksX0_undo_1 12 rfl rfl)
theorem dX0_undo_37 : decode cX0_undo 37 = .ok (.getfield 7, 3) := dk_180 0 7 (dk_at dksX0_undo_1 13 rfl rfl)
theorem dX0_undo_40 : decode cX0_undo 40 = .ok (.aaload, 1) := dk_50 (dk_at dksX0_undo_1 16 rfl rfl)
theorem dX0_undo_41 : decode cX0_undo 41 = .ok (.getfield 22, 3) := dk_180 0 22 (dk_at dksX0_undo_1 17 rfl rfl)
theorem dX0_undo_44 : decode cX0_undo 44 = .ok (.putfield 1, 3) := dk_181 0 1 (dk_at dksX0_undo_1 20 rfl rfl)
theorem dX0_undo_47 : decode cX0_undo 47 = .ok (.aload_n 0, 1) := dk_42 (dk_at dksX0_undo_1 23 rfl rfl)
theorem dX0_undo_48 : decode cX0_undo 48 = .ok (.getfield 7, 3) := dk_180 0 7 (dk_at dksX0_undo_2 0 rfl rfl)
theorem dX0_undo_51 : decode cX0_undo 51 = .ok (.ireturn, 1) := dk_172 (dk_at dksX0_undo_2 3 rfl rfl)
abbrev cX0_redo : ByteArray := prog_1_method_7_code
def yX0_redo : MethodName := ⟨RX0, "redo", "()I"⟩
def dkwX0_redo_2 : List UInt8 := [96, 181, 0, 7, 42, 180, 0, 28, 42, 180, 0, 7, 100, 172]
abbrev dktX0_redo_2 : List UInt8 := dkwX0_redo_2 ++ []
def dkwX0_redo_1 : List UInt8 := [180, 0, 16, 42, 180, 0, 12, 42, 180, 0, 7, 50, 180, 0, 25, 181, 0, 1, 42, 89, 180, 0, 7, 4]
abbrev dktX0_redo_1 : List UInt8 := dkwX0_redo_1 ++ dktX0_redo_2
def dkwX0_redo_0 : List UInt8 := [42, 180, 0, 7, 42, 180, 0, 28, 160, 0, 6, 16, 251, 172, 42, 180, 0, 12, 42, 180, 0, 7, 50]
abbrev dktX0_redo_0 : List UInt8 := dkwX0_redo_0 ++ dktX0_redo_1
theorem dksX0_redo_0 : cX0_redo.data.toList.drop 0 = dktX0_redo_0 := by decide +kernel
theorem dksX0_redo_1 : cX0_redo.data.toList.drop 23 = dktX0_redo_1 := dk_seg dksX0_redo_0 23 rfl rfl
theorem dksX0_redo_2 : cX0_redo.data.toList.drop 47 = dktX0_redo_2 := dk_seg dksX0_redo_1 24 rfl rfl
theorem dX0_redo_0 : decode cX0_redo 0 = .ok (.aload_n 0, 1) := dk_42 (dk_at dksX0_redo_0 0 rfl rfl)
theorem dX0_redo_1 : decode cX0_redo 1 = .ok (.getfield 7, 3) := dk_180 0 7 (dk_at dksX0_redo_0 1 rfl rfl)
theorem dX0_redo_4 : decode cX0_redo 4 = .ok (.aload_n 0, 1) := dk_42 (dk_at dksX0_redo_0 4 rfl rfl)
theorem dX0_redo_5 : decode cX0_redo 5 = .ok (.getfield 28, 3) := dk_180 0 28 (dk_at dksX0_redo_0 5 rfl rfl)
theorem dX0_redo_8 : decode cX0_redo 8 = .ok (.if_icmp .ne 6, 3) := dk_160 0 6 (dk_at dksX0_redo_0 8 rfl rfl)
theorem dX0_redo_11 : decode cX0_redo 11 = .ok (.bipush (-5), 2) := dk_16 251 (dk_at dksX0_redo_0 11 rfl rfl)
theorem dX0_redo_13 : decode cX0_redo 13 = .ok (.ireturn, 1) := dk_172 (dk_at dksX0_redo_0 13 rfl rfl)
theorem dX0_redo_14 : decode cX0_redo 14 = .ok (.aload_n 0, 1) := dk_42 (dk_at dksX0_redo_0 14 rfl rfl)
theorem dX0_redo_15 : decode cX0_redo 15 = .ok (.getfield 12, 3) := dk_180 0 12 (dk_at dksX0_redo_0 15 rfl rfl)
theorem dX0_redo_18 : decode cX0_redo 18 = .ok (.aload_n 0, 1) := dk_42 (dk_at dksX0_redo_0 18 rfl rfl)
theorem dX0_redo_19 : decode cX0_redo 19 = .ok (.getfield 7, 3) := dk_180 0 7 (dk_at dksX0_redo_0 19 rfl rfl)
theorem dX0_redo_22 : decode cX0_redo 22 = .ok (.aaload, 1) := dk_50 (dk_at dksX0_redo_0 22 rfl rfl)
theorem dX0_redo_23 : decode cX0_redo 23 = .ok (.getfield 16, 3) := dk_180 0 16 (dk_at dksX0_redo_1 0 rfl rfl)
theorem dX0_redo_26 : decode cX0_redo 26 = .ok (.aload_n 0, 1) := dk_42 (dk_at dksX0_redo_1 3 rfl rfl)
theorem dX0_redo_27 : decode cX0_redo 27 = .ok (.getfield 12, 3) := dk_180 0 12 (dk_at dksX0_redo_1 4 rfl rfl)
theorem dX0_redo_30 : decode cX0_redo 30 = .ok (.aload_n 0, 1) := dk_42 (dk_at dksX0_redo_1 7 rfl rfl)
theorem dX0_redo_31 : decode cX0_redo 31 = .ok (.getfield 7, 3) := dk_180 0 7 (dk_at dksX0_redo_1 8 rfl rfl)
theorem dX0_redo_34 : decode cX0_redo 34 = .ok (.aaload, 1) := dk_50 (dk_at dksX0_redo_1 11 rfl rfl)
theorem dX0_redo_35 : decode cX0_redo 35 = .ok (.getfield 25, 3) := dk_180 0 25 (dk_at dksX0_redo_1 12 rfl rfl)
theorem dX0_redo_38 : decode cX0_redo 38 = .ok (.putfield 1, 3) := dk_181 0 1 (dk_at dksX0_redo_1 15 rfl rfl)
theorem dX0_redo_41 : decode cX0_redo 41 = .ok (.aload_n 0, 1) := dk_42 (dk_at dksX0_redo_1 18 rfl rfl)
theorem dX0_redo_42 : decode cX0_redo 42 = .ok (.dup, 1) := dk_89 (dk_at dksX0_redo_1 19 rfl rfl)
theorem dX0_redo_43 : decode cX0_redo 43 = .ok (.getfield 7, 3) := dk_180 0 7 (dk_at dksX0_redo_1 20 rfl rfl)
theorem dX0_redo_46 : decode cX0_redo 46 = .ok (.iconst 1, 1) := dk_4 (dk_at dksX0_redo_1 23 rfl rfl)
theorem dX0_redo_47 : decode cX0_redo 47 = .ok (.iadd, 1) := dk_96 (dk_at dksX0_redo_2 0 rfl rfl)
theorem dX0_redo_48 : decode cX0_redo 48 = .ok (.putfield 7, 3) := dk_181 0 7 (dk_at dksX0_redo_2 1 rfl rfl)
theorem dX0_redo_51 : decode cX0_redo 51 = .ok (.aload_n 0, 1) := dk_42 (dk_at dksX0_redo_2 4 rfl rfl)
theorem dX0_redo_52 : decode cX0_redo 52 = .ok (.getfield 28, 3) := dk_180 0 28 (dk_at dksX0_redo_2 5 rfl rfl)
theorem dX0_redo_55 : decode cX0_redo 55 = .ok (.aload_n 0, 1) := dk_42 (dk_at dksX0_redo_2 8 rfl rfl)
theorem dX0_redo_56 : decode cX0_redo 56 = .ok (.getfield 7, 3) := dk_180 0 7 (dk_at dksX0_redo_2 9 rfl rfl)
theorem dX0_redo_59 : decode cX0_redo 59 = .ok (.isub, 1) := dk_100 (dk_at dksX0_redo_2 12 rfl rfl)
theorem dX0_redo_60 : decode cX0_redo 60 = .ok (.ireturn, 1) := dk_172 (dk_at dksX0_redo_2 13 rfl rfl)
abbrev cX0_init : ByteArray := prog_1_method_8_code
def yX0_init : MethodName := ⟨RX0, "<init>", "()V"⟩
def dkwX0_init_9 : List UInt8 := [42, 180, 0, 66, 27, 50, 4, 181, 0, 1, 132, 1, 1, 167, 255, 224, 177]
abbrev dktX0_init_9 : List UInt8 := dkwX0_init_9 ++ []
def dkwX0_init_8 : List UInt8 := [167, 255, 234, 3, 60, 27, 16, 12, 162, 0, 32, 42, 180, 0, 66, 27, 187, 0, 2, 89, 183, 0, 109, 83]
abbrev dktX0_init_8 : List UInt8 := dkwX0_init_8 ++ dktX0_init_9
def dkwX0_init_7 : List UInt8 := [60, 27, 16, 40, 162, 0, 22, 42, 180, 0, 12, 27, 187, 0, 17, 89, 183, 0, 108, 83, 132, 1, 1]
abbrev dktX0_init_7 : List UInt8 := dkwX0_init_7 ++ dktX0_init_8
def dkwX0_init_6 : List UInt8 := [189, 0, 95, 181, 0, 97, 42, 16, 24, 188, 10, 181, 0, 101, 42, 16, 6, 189, 0, 32, 181, 0, 104, 3]
abbrev dktX0_init_6 : List UInt8 := dkwX0_init_6 ++ dktX0_init_7
def dkwX0_init_5 : List UInt8 := [181, 0, 86, 42, 16, 12, 188, 10, 181, 0, 89, 42, 16, 12, 188, 10, 181, 0, 92, 42, 16, 50]
abbrev dktX0_init_5 : List UInt8 := dkwX0_init_5 ++ dktX0_init_6
def dkwX0_init_4 : List UInt8 := [181, 0, 76, 42, 16, 6, 188, 10, 181, 0, 80, 42, 16, 12, 188, 10, 181, 0, 83, 42, 16, 12, 188, 10]
abbrev dktX0_init_4 : List UInt8 := dkwX0_init_4 ++ dktX0_init_5
def dkwX0_init_3 : List UInt8 := [189, 0, 2, 181, 0, 66, 42, 16, 12, 188, 10, 181, 0, 70, 42, 187, 0, 73, 89, 183, 0, 75]
abbrev dktX0_init_3 : List UInt8 := dkwX0_init_3 ++ dktX0_init_4
def dkwX0_init_2 : List UInt8 := [181, 0, 54, 42, 16, 16, 189, 0, 57, 181, 0, 59, 42, 16, 16, 188, 10, 181, 0, 63, 42, 16, 12]
abbrev dktX0_init_2 : List UInt8 := dkwX0_init_2 ++ dktX0_init_3
def dkwX0_init_1 : List UInt8 := [187, 0, 41, 89, 183, 0, 43, 181, 0, 44, 42, 16, 12, 189, 0, 48, 181, 0, 50, 42, 16, 12, 188, 10]
abbrev dktX0_init_1 : List UInt8 := dkwX0_init_1 ++ dktX0_init_2
def dkwX0_init_0 : List UInt8 := [42, 183, 0, 31, 42, 16, 40, 189, 0, 17, 181, 0, 12, 42, 16, 120, 188, 10, 181, 0, 37, 42]
abbrev dktX0_init_0 : List UInt8 := dkwX0_init_0 ++ dktX0_init_1
theorem dksX0_init_0 : cX0_init.data.toList.drop 0 = dktX0_init_0 := by decide +kernel
theorem dksX0_init_1 : cX0_init.data.toList.drop 22 = dktX0_init_1 := dk_seg dksX0_init_0 22 rfl rfl
theorem dksX0_init_2 : cX0_init.data.toList.drop 46 = dktX0_init_2 := dk_seg dksX0_init_1 24 rfl rfl
theorem dksX0_init_3 : cX0_init.data.toList.drop 69 = dktX0_init_3 := dk_seg dksX0_init_2 23 rfl rfl
theorem dksX0_init_4 : cX0_init.data.toList.drop 91 = dktX0_init_4 := dk_seg dksX0_init_3 22 rfl rfl
theorem dksX0_init_5 : cX0_init.data.toList.drop 115 = dktX0_init_5 := dk_seg dksX0_init_4 24 rfl rfl
theorem dksX0_init_6 : cX0_init.data.toList.drop 137 = dktX0_init_6 := dk_seg dksX0_init_5 22 rfl rfl
theorem dksX0_init_7 : cX0_init.data.toList.drop 161 = dktX0_init_7 := dk_seg dksX0_init_6 24 rfl rfl
theorem dksX0_init_8 : cX0_init.data.toList.drop 184 = dktX0_init_8 := dk_seg dksX0_init_7 23 rfl rfl
theorem dksX0_init_9 : cX0_init.data.toList.drop 208 = dktX0_init_9 := dk_seg dksX0_init_8 24 rfl rfl
theorem dX0_init_0 : decode cX0_init 0 = .ok (.aload_n 0, 1) := dk_42 (dk_at dksX0_init_0 0 rfl rfl)
theorem dX0_init_1 : decode cX0_init 1 = .ok (.invokespecial 31, 3) := dk_183 0 31 (dk_at dksX0_init_0 1 rfl rfl)
theorem dX0_init_4 : decode cX0_init 4 = .ok (.aload_n 0, 1) := dk_42 (dk_at dksX0_init_0 4 rfl rfl)
theorem dX0_init_5 : decode cX0_init 5 = .ok (.bipush 40, 2) := dk_16 40 (dk_at dksX0_init_0 5 rfl rfl)
theorem dX0_init_7 : decode cX0_init 7 = .ok (.anewarray 17, 3) := dk_189 0 17 (dk_at dksX0_init_0 7 rfl rfl)
theorem dX0_init_10 : decode cX0_init 10 = .ok (.putfield 12, 3) := dk_181 0 12 (dk_at dksX0_init_0 10 rfl rfl)
theorem dX0_init_13 : decode cX0_init 13 = .ok (.aload_n 0, 1) := dk_42 (dk_at dksX0_init_0 13 rfl rfl)
theorem dX0_init_14 : decode cX0_init 14 = .ok (.bipush 120, 2) := dk_16 120 (dk_at dksX0_init_0 14 rfl rfl)
theorem dX0_init_16 : decode cX0_init 16 = .ok (.newarray .int, 2) := dk_188_10 (dk_at dksX0_init_0 16 rfl rfl)
theorem dX0_init_18 : decode cX0_init 18 = .ok (.putfield 37, 3) := dk_181 0 37 (dk_at dksX0_init_0 18 rfl rfl)
theorem dX0_init_21 : decode cX0_init 21 = .ok (.aload_n 0, 1) := dk_42 (dk_at dksX0_init_0 21 rfl rfl)
theorem dX0_init_22 : decode cX0_init 22 = .ok (.new 41, 3) := dk_187 0 41 (dk_at dksX0_init_1 0 rfl rfl)
theorem dX0_init_25 : decode cX0_init 25 = .ok (.dup, 1) := dk_89 (dk_at dksX0_init_1 3 rfl rfl)
theorem dX0_init_26 : decode cX0_init 26 = .ok (.invokespecial 43, 3) := dk_183 0 43 (dk_at dksX0_init_1 4 rfl rfl)
theorem dX0_init_29 : decode cX0_init 29 = .ok (.putfield 44, 3) := dk_181 0 44 (dk_at dksX0_init_1 7 rfl rfl)
theorem dX0_init_32 : decode cX0_init 32 = .ok (.aload_n 0, 1) := dk_42 (dk_at dksX0_init_1 10 rfl rfl)
theorem dX0_init_33 : decode cX0_init 33 = .ok (.bipush 12, 2) := dk_16 12 (dk_at dksX0_init_1 11 rfl rfl)
theorem dX0_init_35 : decode cX0_init 35 = .ok (.anewarray 48, 3) := dk_189 0 48 (dk_at dksX0_init_1 13 rfl rfl)
theorem dX0_init_38 : decode cX0_init 38 = .ok (.putfield 50, 3) := dk_181 0 50 (dk_at dksX0_init_1 16 rfl rfl)
theorem dX0_init_41 : decode cX0_init 41 = .ok (.aload_n 0, 1) := dk_42 (dk_at dksX0_init_1 19 rfl rfl)
theorem dX0_init_42 : decode cX0_init 42 = .ok (.bipush 12, 2) := dk_16 12 (dk_at dksX0_init_1 20 rfl rfl)
theorem dX0_init_44 : decode cX0_init 44 = .ok (.newarray .int, 2) := dk_188_10 (dk_at dksX0_init_1 22 rfl rfl)
theorem dX0_init_46 : decode cX0_init 46 = .ok (.putfield 54, 3) := dk_181 0 54 (dk_at dksX0_init_2 0 rfl rfl)
theorem dX0_init_49 : decode cX0_init 49 = .ok (.aload_n 0, 1) := dk_42 (dk_at dksX0_init_2 3 rfl rfl)
theorem dX0_init_50 : decode cX0_init 50 = .ok (.bipush 16, 2) := dk_16 16 (dk_at dksX0_init_2 4 rfl rfl)
theorem dX0_init_52 : decode cX0_init 52 = .ok (.anewarray 57, 3) := dk_189 0 57 (dk_at dksX0_init_2 6 rfl rfl)
theorem dX0_init_55 : decode cX0_init 55 = .ok (.putfield 59, 3) := dk_181 0 59 (dk_at dksX0_init_2 9 rfl rfl)
theorem dX0_init_58 : decode cX0_init 58 = .ok (.aload_n 0, 1) := dk_42 (dk_at dksX0_init_2 12 rfl rfl)
theorem dX0_init_59 : decode cX0_init 59 = .ok (.bipush 16, 2) := dk_16 16 (dk_at dksX0_init_2 13 rfl rfl)
theorem dX0_init_61 : decode cX0_init 61 = .ok (.newarray .int, 2) := dk_188_10 (dk_at dksX0_init_2 15 rfl rfl)
theorem dX0_init_63 : decode cX0_init 63 = .ok (.putfield 63, 3) := dk_181 0 63 (dk_at dksX0_init_2 17 rfl rfl)
theorem dX0_init_66 : decode cX0_init 66 = .ok (.aload_n 0, 1) := dk_42 (dk_at dksX0_init_2 20 rfl rfl)
theorem dX0_init_67 : decode cX0_init 67 = .ok (.bipush 12, 2) := dk_16 12 (dk_at dksX0_init_2 21 rfl rfl)
theorem dX0_init_69 : decode cX0_init 69 = .ok (.anewarray 2, 3) := dk_189 0 2 (dk_at dksX0_init_3 0 rfl rfl)
theorem dX0_init_72 : decode cX0_init 72 = .ok (.putfield 66, 3) := dk_181 0 66 (dk_at dksX0_init_3 3 rfl rfl)
theorem dX0_init_75 : decode cX0_init 75 = .ok (.aload_n 0, 1) := dk_42 (dk_at dksX0_init_3 6 rfl rfl)
theorem dX0_init_76 : decode cX0_init 76 = .ok (.bipush 12, 2) := dk_16 12 (dk_at dksX0_init_3 7 rfl rfl)
theorem dX0_init_78 : decode cX0_init 78 = .ok (.newarray .int, 2) := dk_188_10 (dk_at dksX0_init_3 9 rfl rfl)
theorem dX0_init_80 : decode cX0_init 80 = .ok (.putfield 70, 3) := dk_181 0 70 (dk_at dksX0_init_3 11 rfl rfl)
theorem dX0_init_83 : decode cX0_init 83 = .ok (.aload_n 0, 1) := dk_42 (dk_at dksX0_init_3 14 rfl rfl)
theorem dX0_init_84 : decode cX0_init 84 = .ok (.new 73, 3) := dk_187 0 73 (dk_at dksX0_init_3 15 rfl rfl)
theorem dX0_init_87 : decode cX0_init 87 = .ok (.dup, 1) := dk_89 (dk_at dksX0_init_3 18 rfl rfl)
theorem dX0_init_88 : decode cX0_init 88 = .ok (.invokespecial 75, 3) := dk_183 0 75 (dk_at dksX0_init_3 19 rfl rfl)
theorem dX0_init_91 : decode cX0_init 91 = .ok (.putfield 76, 3) := dk_181 0 76 (dk_at dksX0_init_4 0 rfl rfl)
theorem dX0_init_94 : decode cX0_init 94 = .ok (.aload_n 0, 1) := dk_42 (dk_at dksX0_init_4 3 rfl rfl)
theorem dX0_init_95 : decode cX0_init 95 = .ok (.bipush 6, 2) := dk_16 6 (dk_at dksX0_init_4 4 rfl rfl)
theorem dX0_init_97 : decode cX0_init 97 = .ok (.newarray .int, 2) := dk_188_10 (dk_at dksX0_init_4 6 rfl rfl)
theorem dX0_init_99 : decode cX0_init 99 = .ok (.putfield 80, 3) := dk_181 0 80 (dk_at dksX0_init_4 8 rfl rfl)
theorem dX0_init_102 : decode cX0_init 102 = .ok (.aload_n 0, 1) := dk_42 (dk_at dksX0_init_4 11 rfl rfl)
theorem dX0_init_103 : decode cX0_init 103 = .ok (.bipush 12, 2) := dk_16 12 (dk_at dksX0_init_4 12 rfl rfl)
theorem dX0_init_105 : decode cX0_init 105 = .ok (.newarray .int, 2) := dk_188_10 (dk_at dksX0_init_4 14 rfl rfl)
theorem dX0_init_107 : decode cX0_init 107 = .ok (.putfield 83, 3) := dk_181 0 83 (dk_at dksX0_init_4 16 rfl rfl)
theorem dX0_init_110 : decode cX0_init 110 = .ok (.aload_n 0, 1) := dk_42 (dk_at dksX0_init_4 19 rfl rfl)
theorem dX0_init_111 : decode cX0_init 111 = .ok (.bipush 12, 2) := dk_16 12 (dk_at dksX0_init_4 20 rfl rfl)
theorem dX0_init_113 : decode cX0_init 113 = .ok (.newarray .int, 2) := dk_188_10 (dk_at dksX0_init_4 22 rfl rfl)
theorem dX0_init_115 : decode cX0_init 115 = .ok (.putfield 86, 3) := dk_181 0 86 (dk_at dksX0_init_5 0 rfl rfl)
theorem dX0_init_118 : decode cX0_init 118 = .ok (.aload_n 0, 1) := dk_42 (dk_at dksX0_init_5 3 rfl rfl)
theorem dX0_init_119 : decode cX0_init 119 = .ok (.bipush 12, 2) := dk_16 12 (dk_at dksX0_init_5 4 rfl rfl)
theorem dX0_init_121 : decode cX0_init 121 = .ok (.newarray .int, 2) := dk_188_10 (dk_at dksX0_init_5 6 rfl rfl)
theorem dX0_init_123 : decode cX0_init 123 = .ok (.putfield 89, 3) := dk_181 0 89 (dk_at dksX0_init_5 8 rfl rfl)
theorem dX0_init_126 : decode cX0_init 126 = .ok (.aload_n 0, 1) := dk_42 (dk_at dksX0_init_5 11 rfl rfl)
theorem dX0_init_127 : decode cX0_init 127 = .ok (.bipush 12, 2) := dk_16 12 (dk_at dksX0_init_5 12 rfl rfl)
theorem dX0_init_129 : decode cX0_init 129 = .ok (.newarray .int, 2) := dk_188_10 (dk_at dksX0_init_5 14 rfl rfl)
theorem dX0_init_131 : decode cX0_init 131 = .ok (.putfield 92, 3) := dk_181 0 92 (dk_at dksX0_init_5 16 rfl rfl)
theorem dX0_init_134 : decode cX0_init 134 = .ok (.aload_n 0, 1) := dk_42 (dk_at dksX0_init_5 19 rfl rfl)
theorem dX0_init_135 : decode cX0_init 135 = .ok (.bipush 50, 2) := dk_16 50 (dk_at dksX0_init_5 20 rfl rfl)
theorem dX0_init_137 : decode cX0_init 137 = .ok (.anewarray 95, 3) := dk_189 0 95 (dk_at dksX0_init_6 0 rfl rfl)
theorem dX0_init_140 : decode cX0_init 140 = .ok (.putfield 97, 3) := dk_181 0 97 (dk_at dksX0_init_6 3 rfl rfl)
theorem dX0_init_143 : decode cX0_init 143 = .ok (.aload_n 0, 1) := dk_42 (dk_at dksX0_init_6 6 rfl rfl)
theorem dX0_init_144 : decode cX0_init 144 = .ok (.bipush 24, 2) := dk_16 24 (dk_at dksX0_init_6 7 rfl rfl)
theorem dX0_init_146 : decode cX0_init 146 = .ok (.newarray .int, 2) := dk_188_10 (dk_at dksX0_init_6 9 rfl rfl)
theorem dX0_init_148 : decode cX0_init 148 = .ok (.putfield 101, 3) := dk_181 0 101 (dk_at dksX0_init_6 11 rfl rfl)
theorem dX0_init_151 : decode cX0_init 151 = .ok (.aload_n 0, 1) := dk_42 (dk_at dksX0_init_6 14 rfl rfl)
theorem dX0_init_152 : decode cX0_init 152 = .ok (.bipush 6, 2) := dk_16 6 (dk_at dksX0_init_6 15 rfl rfl)
theorem dX0_init_154 : decode cX0_init 154 = .ok (.anewarray 32, 3) := dk_189 0 32 (dk_at dksX0_init_6 17 rfl rfl)
theorem dX0_init_157 : decode cX0_init 157 = .ok (.putfield 104, 3) := dk_181 0 104 (dk_at dksX0_init_6 20 rfl rfl)
theorem dX0_init_160 : decode cX0_init 160 = .ok (.iconst 0, 1) := dk_3 (dk_at dksX0_init_6 23 rfl rfl)
theorem dX0_init_161 : decode cX0_init 161 = .ok (.istore_n 1, 1) := dk_60 (dk_at dksX0_init_7 0 rfl rfl)
theorem dX0_init_162 : decode cX0_init 162 = .ok (.iload_n 1, 1) := dk_27 (dk_at dksX0_init_7 1 rfl rfl)
theorem dX0_init_163 : decode cX0_init 163 = .ok (.bipush 40, 2) := dk_16 40 (dk_at dksX0_init_7 2 rfl rfl)
theorem dX0_init_165 : decode cX0_init 165 = .ok (.if_icmp .ge 22, 3) := dk_162 0 22 (dk_at dksX0_init_7 4 rfl rfl)
theorem dX0_init_168 : decode cX0_init 168 = .ok (.aload_n 0, 1) := dk_42 (dk_at dksX0_init_7 7 rfl rfl)
theorem dX0_init_169 : decode cX0_init 169 = .ok (.getfield 12, 3) := dk_180 0 12 (dk_at dksX0_init_7 8 rfl rfl)
theorem dX0_init_172 : decode cX0_init 172 = .ok (.iload_n 1, 1) := dk_27 (dk_at dksX0_init_7 11 rfl rfl)
theorem dX0_init_173 : decode cX0_init 173 = .ok (.new 17, 3) := dk_187 0 17 (dk_at dksX0_init_7 12 rfl rfl)
theorem dX0_init_176 : decode cX0_init 176 = .ok (.dup, 1) := dk_89 (dk_at dksX0_init_7 15 rfl rfl)
theorem dX0_init_177 : decode cX0_init 177 = .ok (.invokespecial 108, 3) := dk_183 0 108 (dk_at dksX0_init_7 16 rfl rfl)
theorem dX0_init_180 : decode cX0_init 180 = .ok (.aastore, 1) := dk_83 (dk_at dksX0_init_7 19 rfl rfl)
theorem dX0_init_181 : decode cX0_init 181 = .ok (.iinc 1 1, 3) := dk_132 1 1 (dk_at dksX0_init_7 20 rfl rfl)
theorem dX0_init_184 : decode cX0_init 184 = .ok (.goto (-22), 3) := dk_167 255 234 (dk_at dksX0_init_8 0 rfl rfl)
theorem dX0_init_187 : decode cX0_init 187 = .ok (.iconst 0, 1) := dk_3 (dk_at dksX0_init_8 3 rfl rfl)
theorem dX0_init_188 : decode cX0_init 188 = .ok (.istore_n 1, 1) := dk_60 (dk_at dksX0_init_8 4 rfl rfl)
theorem dX0_init_189 : decode cX0_init 189 = .ok (.iload_n 1, 1) := dk_27 (dk_at dksX0_init_8 5 rfl rfl)
theorem dX0_init_190 : decode cX0_init 190 = .ok (.bipush 12, 2) := dk_16 12 (dk_at dksX0_init_8 6 rfl rfl)
theorem dX0_init_192 : decode cX0_init 192 = .ok (.if_icmp .ge 32, 3) := dk_162 0 32 (dk_at dksX0_init_8 8 rfl rfl)
theorem dX0_init_195 : decode cX0_init 195 = .ok (.aload_n 0, 1) := dk_42 (dk_at dksX0_init_8 11 rfl rfl)
theorem dX0_init_196 : decode cX0_init 196 = .ok (.getfield 66, 3) := dk_180 0 66 (dk_at dksX0_init_8 12 rfl rfl)
theorem dX0_init_199 : decode cX0_init 199 = .ok (.iload_n 1, 1) := dk_27 (dk_at dksX0_init_8 15 rfl rfl)
theorem dX0_init_200 : decode cX0_init 200 = .ok (.new 2, 3) := dk_187 0 2 (dk_at dksX0_init_8 16 rfl rfl)
theorem dX0_init_203 : decode cX0_init 203 = .ok (.dup, 1) := dk_89 (dk_at dksX0_init_8 19 rfl rfl)
theorem dX0_init_204 : decode cX0_init 204 = .ok (.invokespecial 109, 3) := dk_183 0 109 (dk_at dksX0_init_8 20 rfl rfl)
theorem dX0_init_207 : decode cX0_init 207 = .ok (.aastore, 1) := dk_83 (dk_at dksX0_init_8 23 rfl rfl)
theorem dX0_init_208 : decode cX0_init 208 = .ok (.aload_n 0, 1) := dk_42 (dk_at dksX0_init_9 0 rfl rfl)
theorem dX0_init_209 : decode cX0_init 209 = .ok (.getfield 66, 3) := dk_180 0 66 (dk_at dksX0_init_9 1 rfl rfl)
theorem dX0_init_212 : decode cX0_init 212 = .ok (.iload_n 1, 1) := dk_27 (dk_at dksX0_init_9 4 rfl rfl)
theorem dX0_init_213 : decode cX0_init 213 = .ok (.aaload, 1) := dk_50 (dk_at dksX0_init_9 5 rfl rfl)
theorem dX0_init_214 : decode cX0_init 214 = .ok (.iconst 1, 1) := dk_4 (dk_at dksX0_init_9 6 rfl rfl)
theorem dX0_init_215 : decode cX0_init 215 = .ok (.putfield 1, 3) := dk_181 0 1 (dk_at dksX0_init_9 7 rfl rfl)
theorem dX0_init_218 : decode cX0_init 218 = .ok (.iinc 1 1, 3) := dk_132 1 1 (dk_at dksX0_init_9 10 rfl rfl)
theorem dX0_init_221 : decode cX0_init 221 = .ok (.goto (-32), 3) := dk_167 255 224 (dk_at dksX0_init_9 13 rfl rfl)
theorem dX0_init_224 : decode cX0_init 224 = .ok (.return_, 1) := dk_177 (dk_at dksX0_init_9 16 rfl rfl)
abbrev cX0_feed : ByteArray := prog_1_method_9_code
def yX0_feed : MethodName := ⟨RX0, "feed", "(I)I"⟩
def dkwX0_feed_2 : List UInt8 := [172]
abbrev dktX0_feed_2 : List UInt8 := dkwX0_feed_2 ++ []
def dkwX0_feed_1 : List UInt8 := [16, 253, 172, 42, 180, 0, 37, 42, 89, 180, 0, 116, 90, 4, 96, 181, 0, 116, 27, 79, 42, 180, 0, 116]
abbrev dktX0_feed_1 : List UInt8 := dkwX0_feed_1 ++ dktX0_feed_2
def dkwX0_feed_0 : List UInt8 := [27, 133, 9, 20, 0, 110, 184, 0, 112, 154, 0, 5, 2, 172, 42, 180, 0, 116, 16, 120, 160, 0, 6]
abbrev dktX0_feed_0 : List UInt8 := dkwX0_feed_0 ++ dktX0_feed_1
theorem dksX0_feed_0 : cX0_feed.data.toList.drop 0 = dktX0_feed_0 := by decide +kernel
theorem dksX0_feed_1 : cX0_feed.data.toList.drop 23 = dktX0_feed_1 := dk_seg dksX0_feed_0 23 rfl rfl
theorem dksX0_feed_2 : cX0_feed.data.toList.drop 47 = dktX0_feed_2 := dk_seg dksX0_feed_1 24 rfl rfl
theorem dX0_feed_0 : decode cX0_feed 0 = .ok (.iload_n 1, 1) := dk_27 (dk_at dksX0_feed_0 0 rfl rfl)
theorem dX0_feed_1 : decode cX0_feed 1 = .ok (.i2l, 1) := dk_133 (dk_at dksX0_feed_0 1 rfl rfl)
theorem dX0_feed_2 : decode cX0_feed 2 = .ok (.lconst 0, 1) := dk_9 (dk_at dksX0_feed_0 2 rfl rfl)
theorem dX0_feed_3 : decode cX0_feed 3 = .ok (.ldc2_w 110, 3) := dk_20 0 110 (dk_at dksX0_feed_0 3 rfl rfl)
theorem dX0_feed_6 : decode cX0_feed 6 = .ok (.invokestatic 112, 3) := dk_184 0 112 (dk_at dksX0_feed_0 6 rfl rfl)
theorem dX0_feed_9 : decode cX0_feed 9 = .ok (.ifCond .ne 5, 3) := dk_154 0 5 (dk_at dksX0_feed_0 9 rfl rfl)
theorem dX0_feed_12 : decode cX0_feed 12 = .ok (.iconst (-1), 1) := dk_2 (dk_at dksX0_feed_0 12 rfl rfl)
theorem dX0_feed_13 : decode cX0_feed 13 = .ok (.ireturn, 1) := dk_172 (dk_at dksX0_feed_0 13 rfl rfl)
theorem dX0_feed_14 : decode cX0_feed 14 = .ok (.aload_n 0, 1) := dk_42 (dk_at dksX0_feed_0 14 rfl rfl)
theorem dX0_feed_15 : decode cX0_feed 15 = .ok (.getfield 116, 3) := dk_180 0 116 (dk_at dksX0_feed_0 15 rfl rfl)
theorem dX0_feed_18 : decode cX0_feed 18 = .ok (.bipush 120, 2) := dk_16 120 (dk_at dksX0_feed_0 18 rfl rfl)
theorem dX0_feed_20 : decode cX0_feed 20 = .ok (.if_icmp .ne 6, 3) := dk_160 0 6 (dk_at dksX0_feed_0 20 rfl rfl)
theorem dX0_feed_23 : decode cX0_feed 23 = .ok (.bipush (-3), 2) := dk_16 253 (dk_at dksX0_feed_1 0 rfl rfl)
theorem dX0_feed_25 : decode cX0_feed 25 = .ok (.ireturn, 1) := dk_172 (dk_at dksX0_feed_1 2 rfl rfl)
theorem dX0_feed_26 : decode cX0_feed 26 = .ok (.aload_n 0, 1) := dk_42 (dk_at dksX0_feed_1 3 rfl rfl)
theorem dX0_feed_27 : decode cX0_feed 27 = .ok (.getfield 37, 3) := dk_180 0 37 (dk_at dksX0_feed_1 4 rfl rfl)
theorem dX0_feed_30 : decode cX0_feed 30 = .ok (.aload_n 0, 1) := dk_42 (dk_at dksX0_feed_1 7 rfl rfl)
theorem dX0_feed_31 : decode cX0_feed 31 = .ok (.dup, 1) := dk_89 (dk_at dksX0_feed_1 8 rfl rfl)
theorem dX0_feed_32 : decode cX0_feed 32 = .ok (.getfield 116, 3) := dk_180 0 116 (dk_at dksX0_feed_1 9 rfl rfl)
theorem dX0_feed_35 : decode cX0_feed 35 = .ok (.dup_x1, 1) := dk_90 (dk_at dksX0_feed_1 12 rfl rfl)
theorem dX0_feed_36 : decode cX0_feed 36 = .ok (.iconst 1, 1) := dk_4 (dk_at dksX0_feed_1 13 rfl rfl)
theorem dX0_feed_37 : decode cX0_feed 37 = .ok (.iadd, 1) := dk_96 (dk_at dksX0_feed_1 14 rfl rfl)
theorem dX0_feed_38 : decode cX0_feed 38 = .ok (.putfield 116, 3) := dk_181 0 116 (dk_at dksX0_feed_1 15 rfl rfl)
theorem dX0_feed_41 : decode cX0_feed 41 = .ok (.iload_n 1, 1) := dk_27 (dk_at dksX0_feed_1 18 rfl rfl)
theorem dX0_feed_42 : decode cX0_feed 42 = .ok (.iastore, 1) := dk_79 (dk_at dksX0_feed_1 19 rfl rfl)
theorem dX0_feed_43 : decode cX0_feed 43 = .ok (.aload_n 0, 1) := dk_42 (dk_at dksX0_feed_1 20 rfl rfl)
theorem dX0_feed_44 : decode cX0_feed 44 = .ok (.getfield 116, 3) := dk_180 0 116 (dk_at dksX0_feed_1 21 rfl rfl)
theorem dX0_feed_47 : decode cX0_feed 47 = .ok (.ireturn, 1) := dk_172 (dk_at dksX0_feed_2 0 rfl rfl)
abbrev cX0_within : ByteArray := prog_1_method_1_code
def yX0_within : MethodName := ⟨RX0, "within", "(JJJ)Z"⟩
def dkwX0_within_0 : List UInt8 := [30, 32, 148, 155, 0, 14, 30, 22, 4, 148, 157, 0, 7, 4, 167, 0, 4, 3, 172]
abbrev dktX0_within_0 : List UInt8 := dkwX0_within_0 ++ []
theorem dksX0_within_0 : cX0_within.data.toList.drop 0 = dktX0_within_0 := by decide +kernel
theorem dX0_within_0 : decode cX0_within 0 = .ok (.lload_n 0, 1) := dk_30 (dk_at dksX0_within_0 0 rfl rfl)
theorem dX0_within_1 : decode cX0_within 1 = .ok (.lload_n 2, 1) := dk_32 (dk_at dksX0_within_0 1 rfl rfl)
theorem dX0_within_2 : decode cX0_within 2 = .ok (.lcmp, 1) := dk_148 (dk_at dksX0_within_0 2 rfl rfl)
theorem dX0_within_3 : decode cX0_within 3 = .ok (.ifCond .lt 14, 3) := dk_155 0 14 (dk_at dksX0_within_0 3 rfl rfl)
theorem dX0_within_6 : decode cX0_within 6 = .ok (.lload_n 0, 1) := dk_30 (dk_at dksX0_within_0 6 rfl rfl)
theorem dX0_within_7 : decode cX0_within 7 = .ok (.lload 4, 2) := dk_22 4 (dk_at dksX0_within_0 7 rfl rfl)
theorem dX0_within_9 : decode cX0_within 9 = .ok (.lcmp, 1) := dk_148 (dk_at dksX0_within_0 9 rfl rfl)
theorem dX0_within_10 : decode cX0_within 10 = .ok (.ifCond .gt 7, 3) := dk_157 0 7 (dk_at dksX0_within_0 10 rfl rfl)
theorem dX0_within_13 : decode cX0_within 13 = .ok (.iconst 1, 1) := dk_4 (dk_at dksX0_within_0 13 rfl rfl)
theorem dX0_within_14 : decode cX0_within 14 = .ok (.goto 4, 3) := dk_167 0 4 (dk_at dksX0_within_0 14 rfl rfl)
theorem dX0_within_17 : decode cX0_within 17 = .ok (.iconst 0, 1) := dk_3 (dk_at dksX0_within_0 17 rfl rfl)
theorem dX0_within_18 : decode cX0_within 18 = .ok (.ireturn, 1) := dk_172 (dk_at dksX0_within_0 18 rfl rfl)
abbrev cX0_person : ByteArray := prog_1_method_20_code
def yX0_person : MethodName := ⟨RX0, "person", "(II)I"⟩
def dkwX0_person_1 : List UInt8 := [187, 0, 48, 89, 27, 28, 183, 0, 156, 182, 0, 159, 42, 180, 0, 134, 4, 100, 172]
abbrev dktX0_person_1 : List UInt8 := dkwX0_person_1 ++ []
def dkwX0_person_0 : List UInt8 := [27, 28, 184, 0, 152, 154, 0, 5, 2, 172, 42, 180, 0, 134, 16, 12, 160, 0, 6, 16, 253, 172, 42]
abbrev dktX0_person_0 : List UInt8 := dkwX0_person_0 ++ dktX0_person_1
theorem dksX0_person_0 : cX0_person.data.toList.drop 0 = dktX0_person_0 := by decide +kernel
theorem dksX0_person_1 : cX0_person.data.toList.drop 23 = dktX0_person_1 := dk_seg dksX0_person_0 23 rfl rfl
theorem dX0_person_0 : decode cX0_person 0 = .ok (.iload_n 1, 1) := dk_27 (dk_at dksX0_person_0 0 rfl rfl)
theorem dX0_person_1 : decode cX0_person 1 = .ok (.iload_n 2, 1) := dk_28 (dk_at dksX0_person_0 1 rfl rfl)
theorem dX0_person_2 : decode cX0_person 2 = .ok (.invokestatic 152, 3) := dk_184 0 152 (dk_at dksX0_person_0 2 rfl rfl)
theorem dX0_person_5 : decode cX0_person 5 = .ok (.ifCond .ne 5, 3) := dk_154 0 5 (dk_at dksX0_person_0 5 rfl rfl)
theorem dX0_person_8 : decode cX0_person 8 = .ok (.iconst (-1), 1) := dk_2 (dk_at dksX0_person_0 8 rfl rfl)
theorem dX0_person_9 : decode cX0_person 9 = .ok (.ireturn, 1) := dk_172 (dk_at dksX0_person_0 9 rfl rfl)
theorem dX0_person_10 : decode cX0_person 10 = .ok (.aload_n 0, 1) := dk_42 (dk_at dksX0_person_0 10 rfl rfl)
theorem dX0_person_11 : decode cX0_person 11 = .ok (.getfield 134, 3) := dk_180 0 134 (dk_at dksX0_person_0 11 rfl rfl)
theorem dX0_person_14 : decode cX0_person 14 = .ok (.bipush 12, 2) := dk_16 12 (dk_at dksX0_person_0 14 rfl rfl)
theorem dX0_person_16 : decode cX0_person 16 = .ok (.if_icmp .ne 6, 3) := dk_160 0 6 (dk_at dksX0_person_0 16 rfl rfl)
theorem dX0_person_19 : decode cX0_person 19 = .ok (.bipush (-3), 2) := dk_16 253 (dk_at dksX0_person_0 19 rfl rfl)
theorem dX0_person_21 : decode cX0_person 21 = .ok (.ireturn, 1) := dk_172 (dk_at dksX0_person_0 21 rfl rfl)
theorem dX0_person_22 : decode cX0_person 22 = .ok (.aload_n 0, 1) := dk_42 (dk_at dksX0_person_0 22 rfl rfl)
theorem dX0_person_23 : decode cX0_person 23 = .ok (.new 48, 3) := dk_187 0 48 (dk_at dksX0_person_1 0 rfl rfl)
theorem dX0_person_26 : decode cX0_person 26 = .ok (.dup, 1) := dk_89 (dk_at dksX0_person_1 3 rfl rfl)
theorem dX0_person_27 : decode cX0_person 27 = .ok (.iload_n 1, 1) := dk_27 (dk_at dksX0_person_1 4 rfl rfl)
theorem dX0_person_28 : decode cX0_person 28 = .ok (.iload_n 2, 1) := dk_28 (dk_at dksX0_person_1 5 rfl rfl)
theorem dX0_person_29 : decode cX0_person 29 = .ok (.invokespecial 156, 3) := dk_183 0 156 (dk_at dksX0_person_1 6 rfl rfl)
theorem dX0_person_32 : decode cX0_person 32 = .ok (.invokevirtual 159, 3) := dk_182 0 159 (dk_at dksX0_person_1 9 rfl rfl)
theorem dX0_person_35 : decode cX0_person 35 = .ok (.aload_n 0, 1) := dk_42 (dk_at dksX0_person_1 12 rfl rfl)
theorem dX0_person_36 : decode cX0_person 36 = .ok (.getfield 134, 3) := dk_180 0 134 (dk_at dksX0_person_1 13 rfl rfl)
theorem dX0_person_39 : decode cX0_person 39 = .ok (.iconst 1, 1) := dk_4 (dk_at dksX0_person_1 16 rfl rfl)
theorem dX0_person_40 : decode cX0_person 40 = .ok (.isub, 1) := dk_100 (dk_at dksX0_person_1 17 rfl rfl)
theorem dX0_person_41 : decode cX0_person 41 = .ok (.ireturn, 1) := dk_172 (dk_at dksX0_person_1 18 rfl rfl)
abbrev cX0_mayLive : ByteArray := prog_1_method_18_code
def yX0_mayLive : MethodName := ⟨RX0, "mayLive", "(II)Z"⟩
def dkwX0_mayLive_1 : List UInt8 := [167, 0, 4, 3, 172]
abbrev dktX0_mayLive_1 : List UInt8 := dkwX0_mayLive_1 ++ []
def dkwX0_mayLive_0 : List UInt8 := [26, 184, 0, 144, 153, 0, 22, 27, 133, 26, 4, 96, 133, 20, 0, 147, 184, 0, 112, 153, 0, 7, 4]
abbrev dktX0_mayLive_0 : List UInt8 := dkwX0_mayLive_0 ++ dktX0_mayLive_1
theorem dksX0_mayLive_0 : cX0_mayLive.data.toList.drop 0 = dktX0_mayLive_0 := by decide +kernel
theorem dksX0_mayLive_1 : cX0_mayLive.data.toList.drop 23 = dktX0_mayLive_1 := dk_seg dksX0_mayLive_0 23 rfl rfl
theorem dX0_mayLive_0 : decode cX0_mayLive 0 = .ok (.iload_n 0, 1) := dk_26 (dk_at dksX0_mayLive_0 0 rfl rfl)
theorem dX0_mayLive_1 : decode cX0_mayLive 1 = .ok (.invokestatic 144, 3) := dk_184 0 144 (dk_at dksX0_mayLive_0 1 rfl rfl)
theorem dX0_mayLive_4 : decode cX0_mayLive 4 = .ok (.ifCond .eq 22, 3) := dk_153 0 22 (dk_at dksX0_mayLive_0 4 rfl rfl)
theorem dX0_mayLive_7 : decode cX0_mayLive 7 = .ok (.iload_n 1, 1) := dk_27 (dk_at dksX0_mayLive_0 7 rfl rfl)
theorem dX0_mayLive_8 : decode cX0_mayLive 8 = .ok (.i2l, 1) := dk_133 (dk_at dksX0_mayLive_0 8 rfl rfl)
theorem dX0_mayLive_9 : decode cX0_mayLive 9 = .ok (.iload_n 0, 1) := dk_26 (dk_at dksX0_mayLive_0 9 rfl rfl)
theorem dX0_mayLive_10 : decode cX0_mayLive 10 = .ok (.iconst 1, 1) := dk_4 (dk_at dksX0_mayLive_0 10 rfl rfl)
theorem dX0_mayLive_11 : decode cX0_mayLive 11 = .ok (.iadd, 1) := dk_96 (dk_at dksX0_mayLive_0 11 rfl rfl)
theorem dX0_mayLive_12 : decode cX0_mayLive 12 = .ok (.i2l, 1) := dk_133 (dk_at dksX0_mayLive_0 12 rfl rfl)
theorem dX0_mayLive_13 : decode cX0_mayLive 13 = .ok (.ldc2_w 147, 3) := dk_20 0 147 (dk_at dksX0_mayLive_0 13 rfl rfl)
theorem dX0_mayLive_16 : decode cX0_mayLive 16 = .ok (.invokestatic 112, 3) := dk_184 0 112 (dk_at dksX0_mayLive_0 16 rfl rfl)
theorem dX0_mayLive_19 : decode cX0_mayLive 19 = .ok (.ifCond .eq 7, 3) := dk_153 0 7 (dk_at dksX0_mayLive_0 19 rfl rfl)
theorem dX0_mayLive_22 : decode cX0_mayLive 22 = .ok (.iconst 1, 1) := dk_4 (dk_at dksX0_mayLive_0 22 rfl rfl)
theorem dX0_mayLive_23 : decode cX0_mayLive 23 = .ok (.goto 4, 3) := dk_167 0 4 (dk_at dksX0_mayLive_1 0 rfl rfl)
theorem dX0_mayLive_26 : decode cX0_mayLive 26 = .ok (.iconst 0, 1) := dk_3 (dk_at dksX0_mayLive_1 3 rfl rfl)
theorem dX0_mayLive_27 : decode cX0_mayLive 27 = .ok (.ireturn, 1) := dk_172 (dk_at dksX0_mayLive_1 4 rfl rfl)
abbrev cX0_isYear : ByteArray := prog_1_method_16_code
def yX0_isYear : MethodName := ⟨RX0, "isYear", "(I)Z"⟩
def dkwX0_isYear_0 : List UInt8 := [26, 133, 9, 20, 0, 139, 184, 0, 112, 172]
abbrev dktX0_isYear_0 : List UInt8 := dkwX0_isYear_0 ++ []
theorem dksX0_isYear_0 : cX0_isYear.data.toList.drop 0 = dktX0_isYear_0 := by decide +kernel
theorem dX0_isYear_0 : decode cX0_isYear 0 = .ok (.iload_n 0, 1) := dk_26 (dk_at dksX0_isYear_0 0 rfl rfl)
theorem dX0_isYear_1 : decode cX0_isYear 1 = .ok (.i2l, 1) := dk_133 (dk_at dksX0_isYear_0 1 rfl rfl)
theorem dX0_isYear_2 : decode cX0_isYear 2 = .ok (.lconst 0, 1) := dk_9 (dk_at dksX0_isYear_0 2 rfl rfl)
theorem dX0_isYear_3 : decode cX0_isYear 3 = .ok (.ldc2_w 139, 3) := dk_20 0 139 (dk_at dksX0_isYear_0 3 rfl rfl)
theorem dX0_isYear_6 : decode cX0_isYear 6 = .ok (.invokestatic 112, 3) := dk_184 0 112 (dk_at dksX0_isYear_0 6 rfl rfl)
theorem dX0_isYear_9 : decode cX0_isYear 9 = .ok (.ireturn, 1) := dk_172 (dk_at dksX0_isYear_0 9 rfl rfl)
abbrev cX0_add : ByteArray := prog_1_method_19_code
def yX0_add : MethodName := ⟨RX0, "add", "(LNameRests$Person;)V"⟩
def dkwX0_add_3 : List UInt8 := [90, 4, 96, 181, 0, 134, 79, 177]
abbrev dktX0_add_3 : List UInt8 := dkwX0_add_3 ++ []
def dkwX0_add_2 : List UInt8 := [180, 0, 54, 28, 4, 100, 46, 79, 132, 2, 255, 167, 255, 212, 42, 180, 0, 54, 28, 42, 89, 180, 0, 134]
abbrev dktX0_add_2 : List UInt8 := dkwX0_add_2 ++ dktX0_add_3
def dkwX0_add_1 : List UInt8 := [180, 0, 54, 28, 4, 100, 46, 50, 180, 0, 149, 43, 180, 0, 149, 164, 0, 23, 42, 180, 0, 54, 28, 42]
abbrev dktX0_add_1 : List UInt8 := dkwX0_add_1 ++ dktX0_add_2
def dkwX0_add_0 : List UInt8 := [42, 180, 0, 50, 42, 180, 0, 134, 43, 83, 42, 180, 0, 134, 61, 28, 158, 0, 46, 42, 180, 0, 50, 42]
abbrev dktX0_add_0 : List UInt8 := dkwX0_add_0 ++ dktX0_add_1
theorem dksX0_add_0 : cX0_add.data.toList.drop 0 = dktX0_add_0 := by decide +kernel
theorem dksX0_add_1 : cX0_add.data.toList.drop 24 = dktX0_add_1 := dk_seg dksX0_add_0 24 rfl rfl
theorem dksX0_add_2 : cX0_add.data.toList.drop 48 = dktX0_add_2 := dk_seg dksX0_add_1 24 rfl rfl
theorem dksX0_add_3 : cX0_add.data.toList.drop 72 = dktX0_add_3 := dk_seg dksX0_add_2 24 rfl rfl
theorem dX0_add_0 : decode cX0_add 0 = .ok (.aload_n 0, 1) := dk_42 (dk_at dksX0_add_0 0 rfl rfl)
theorem dX0_add_1 : decode cX0_add 1 = .ok (.getfield 50, 3) := dk_180 0 50 (dk_at dksX0_add_0 1 rfl rfl)
theorem dX0_add_4 : decode cX0_add 4 = .ok (.aload_n 0, 1) := dk_42 (dk_at dksX0_add_0 4 rfl rfl)
theorem dX0_add_5 : decode cX0_add 5 = .ok (.getfield 134, 3) := dk_180 0 134 (dk_at dksX0_add_0 5 rfl rfl)
theorem dX0_add_8 : decode cX0_add 8 = .ok (.aload_n 1, 1) := dk_43 (dk_at dksX0_add_0 8 rfl rfl)
theorem dX0_add_9 : decode cX0_add 9 = .ok (.aastore, 1) := dk_83 (dk_at dksX0_add_0 9 rfl rfl)
theorem dX0_add_10 : decode cX0_add 10 = .ok (.aload_n 0, 1) := dk_42 (dk_at dksX0_add_0 10 rfl rfl)
theorem dX0_add_11 : decode cX0_add 11 = .ok (.getfield 134, 3) := dk_180 0 134 (dk_at dksX0_add_0 11 rfl rfl)
theorem dX0_add_14 : decode cX0_add 14 = .ok (.istore_n 2, 1) := dk_61 (dk_at dksX0_add_0 14 rfl rfl)
theorem dX0_add_15 : decode cX0_add 15 = .ok (.iload_n 2, 1) := dk_28 (dk_at dksX0_add_0 15 rfl rfl)
theorem dX0_add_16 : decode cX0_add 16 = .ok (.ifCond .le 46, 3) := dk_158 0 46 (dk_at dksX0_add_0 16 rfl rfl)
theorem dX0_add_19 : decode cX0_add 19 = .ok (.aload_n 0, 1) := dk_42 (dk_at dksX0_add_0 19 rfl rfl)
theorem dX0_add_20 : decode cX0_add 20 = .ok (.getfield 50, 3) := dk_180 0 50 (dk_at dksX0_add_0 20 rfl rfl)
theorem dX0_add_23 : decode cX0_add 23 = .ok (.aload_n 0, 1) := dk_42 (dk_at dksX0_add_0 23 rfl rfl)
theorem dX0_add_24 : decode cX0_add 24 = .ok (.getfield 54, 3) := dk_180 0 54 (dk_at dksX0_add_1 0 rfl rfl)
theorem dX0_add_27 : decode cX0_add 27 = .ok (.iload_n 2, 1) := dk_28 (dk_at dksX0_add_1 3 rfl rfl)
theorem dX0_add_28 : decode cX0_add 28 = .ok (.iconst 1, 1) := dk_4 (dk_at dksX0_add_1 4 rfl rfl)
theorem dX0_add_29 : decode cX0_add 29 = .ok (.isub, 1) := dk_100 (dk_at dksX0_add_1 5 rfl rfl)
theorem dX0_add_30 : decode cX0_add 30 = .ok (.iaload, 1) := dk_46 (dk_at dksX0_add_1 6 rfl rfl)
theorem dX0_add_31 : decode cX0_add 31 = .ok (.aaload, 1) := dk_50 (dk_at dksX0_add_1 7 rfl rfl)
theorem dX0_add_32 : decode cX0_add 32 = .ok (.getfield 149, 3) := dk_180 0 149 (dk_at dksX0_add_1 8 rfl rfl)
theorem dX0_add_35 : decode cX0_add 35 = .ok (.aload_n 1, 1) := dk_43 (dk_at dksX0_add_1 11 rfl rfl)
theorem dX0_add_36 : decode cX0_add 36 = .ok (.getfield 149, 3) := dk_180 0 149 (dk_at dksX0_add_1 12 rfl rfl)
theorem dX0_add_39 : decode cX0_add 39 = .ok (.if_icmp .le 23, 3) := dk_164 0 23 (dk_at dksX0_add_1 15 rfl rfl)
theorem dX0_add_42 : decode cX0_add 42 = .ok (.aload_n 0, 1) := dk_42 (dk_at dksX0_add_1 18 rfl rfl)
theorem dX0_add_43 : decode cX0_add 43 = .ok (.getfield 54, 3) := dk_180 0 54 (dk_at dksX0_add_1 19 rfl rfl)
theorem dX0_add_46 : decode cX0_add 46 = .ok (.iload_n 2, 1) := dk_28 (dk_at dksX0_add_1 22 rfl rfl)
theorem dX0_add_47 : decode cX0_add 47 = .ok (.aload_n 0, 1) := dk_42 (dk_at dksX0_add_1 23 rfl rfl)
theorem dX0_add_48 : decode cX0_add 48 = .ok (.getfield 54, 3) := dk_180 0 54 (dk_at dksX0_add_2 0 rfl rfl)
theorem dX0_add_51 : decode cX0_add 51 = .ok (.iload_n 2, 1) := dk_28 (dk_at dksX0_add_2 3 rfl rfl)
theorem dX0_add_52 : decode cX0_add 52 = .ok (.iconst 1, 1) := dk_4 (dk_at dksX0_add_2 4 rfl rfl)
theorem dX0_add_53 : decode cX0_add 53 = .ok (.isub, 1) := dk_100 (dk_at dksX0_add_2 5 rfl rfl)
theorem dX0_add_54 : decode cX0_add 54 = .ok (.iaload, 1) := dk_46 (dk_at dksX0_add_2 6 rfl rfl)
theorem dX0_add_55 : decode cX0_add 55 = .ok (.iastore, 1) := dk_79 (dk_at dksX0_add_2 7 rfl rfl)
theorem dX0_add_56 : decode cX0_add 56 = .ok (.iinc 2 (-1), 3) := dk_132 2 255 (dk_at dksX0_add_2 8 rfl rfl)
theorem dX0_add_59 : decode cX0_add 59 = .ok (.goto (-44), 3) := dk_167 255 212 (dk_at dksX0_add_2 11 rfl rfl)
theorem dX0_add_62 : decode cX0_add 62 = .ok (.aload_n 0, 1) := dk_42 (dk_at dksX0_add_2 14 rfl rfl)
theorem dX0_add_63 : decode cX0_add 63 = .ok (.getfield 54, 3) := dk_180 0 54 (dk_at dksX0_add_2 15 rfl rfl)
theorem dX0_add_66 : decode cX0_add 66 = .ok (.iload_n 2, 1) := dk_28 (dk_at dksX0_add_2 18 rfl rfl)
theorem dX0_add_67 : decode cX0_add 67 = .ok (.aload_n 0, 1) := dk_42 (dk_at dksX0_add_2 19 rfl rfl)
theorem dX0_add_68 : decode cX0_add 68 = .ok (.dup, 1) := dk_89 (dk_at dksX0_add_2 20 rfl rfl)
theorem dX0_add_69 : decode cX0_add 69 = .ok (.getfield 134, 3) := dk_180 0 134 (dk_at dksX0_add_2 21 rfl rfl)
theorem dX0_add_72 : decode cX0_add 72 = .ok (.dup_x1, 1) := dk_90 (dk_at dksX0_add_3 0 rfl rfl)
theorem dX0_add_73 : decode cX0_add 73 = .ok (.iconst 1, 1) := dk_4 (dk_at dksX0_add_3 1 rfl rfl)
theorem dX0_add_74 : decode cX0_add 74 = .ok (.iadd, 1) := dk_96 (dk_at dksX0_add_3 2 rfl rfl)
theorem dX0_add_75 : decode cX0_add 75 = .ok (.putfield 134, 3) := dk_181 0 134 (dk_at dksX0_add_3 3 rfl rfl)
theorem dX0_add_78 : decode cX0_add 78 = .ok (.iastore, 1) := dk_79 (dk_at dksX0_add_3 6 rfl rfl)
theorem dX0_add_79 : decode cX0_add 79 = .ok (.return_, 1) := dk_177 (dk_at dksX0_add_3 7 rfl rfl)
abbrev cX0_people : ByteArray := prog_1_method_22_code
def yX0_people : MethodName := ⟨RX0, "people", "(III)I"⟩
def dkwX0_people_8 : List UInt8 := [21, 5, 100, 54, 6, 21, 6, 172]
abbrev dktX0_people_8 : List UInt8 := dkwX0_people_8 ++ []
def dkwX0_people_7 : List UInt8 := [181, 0, 185, 42, 25, 12, 182, 0, 159, 132, 6, 1, 167, 255, 135, 167, 0, 14, 58, 7, 42, 180, 0, 134]
abbrev dktX0_people_7 : List UInt8 := dkwX0_people_7 ++ dktX0_people_8
def dkwX0_people_6 : List UInt8 := [42, 180, 0, 76, 191, 187, 0, 48, 89, 21, 9, 21, 10, 183, 0, 156, 58, 12, 25, 12, 21, 11]
abbrev dktX0_people_6 : List UInt8 := dkwX0_people_6 ++ dktX0_people_7
def dkwX0_people_5 : List UInt8 := [21, 9, 21, 10, 184, 0, 152, 153, 0, 17, 21, 11, 2, 159, 0, 16, 21, 11, 184, 0, 182, 154, 0, 8]
abbrev dktX0_people_5 : List UInt8 := dkwX0_people_5 ++ dktX0_people_6
def dkwX0_people_4 : List UInt8 := [42, 25, 4, 22, 7, 20, 0, 180, 97, 182, 0, 176, 54, 11, 42, 180, 0, 134, 16, 12, 159, 0, 27]
abbrev dktX0_people_4 : List UInt8 := dkwX0_people_4 ++ dktX0_people_5
def dkwX0_people_3 : List UInt8 := [55, 7, 42, 25, 4, 22, 7, 182, 0, 176, 54, 9, 42, 25, 4, 22, 7, 10, 97, 182, 0, 176, 54, 10]
abbrev dktX0_people_3 : List UInt8 := dkwX0_people_3 ++ dktX0_people_4
def dkwX0_people_2 : List UInt8 := [180, 0, 134, 54, 5, 3, 54, 6, 21, 6, 29, 162, 0, 121, 28, 133, 20, 0, 174, 21, 6, 133, 105, 97]
abbrev dktX0_people_2 : List UInt8 := dkwX0_people_2 ++ dktX0_people_3
def dkwX0_people_1 : List UInt8 := [180, 0, 104, 27, 50, 58, 4, 25, 4, 198, 0, 14, 25, 4, 184, 0, 170, 153, 0, 6, 16, 244, 172, 42]
abbrev dktX0_people_1 : List UInt8 := dkwX0_people_1 ++ dktX0_people_2
def dkwX0_people_0 : List UInt8 := [27, 184, 0, 165, 153, 0, 15, 29, 133, 10, 20, 0, 168, 184, 0, 112, 154, 0, 5, 2, 172, 42]
abbrev dktX0_people_0 : List UInt8 := dkwX0_people_0 ++ dktX0_people_1
theorem dksX0_people_0 : cX0_people.data.toList.drop 0 = dktX0_people_0 := by decide +kernel
theorem dksX0_people_1 : cX0_people.data.toList.drop 22 = dktX0_people_1 := dk_seg dksX0_people_0 22 rfl rfl
theorem dksX0_people_2 : cX0_people.data.toList.drop 46 = dktX0_people_2 := dk_seg dksX0_people_1 24 rfl rfl
theorem dksX0_people_3 : cX0_people.data.toList.drop 70 = dktX0_people_3 := dk_seg dksX0_people_2 24 rfl rfl
theorem dksX0_people_4 : cX0_people.data.toList.drop 94 = dktX0_people_4 := dk_seg dksX0_people_3 24 rfl rfl
theorem dksX0_people_5 : cX0_people.data.toList.drop 117 = dktX0_people_5 := dk_seg dksX0_people_4 23 rfl rfl
theorem dksX0_people_6 : cX0_people.data.toList.drop 141 = dktX0_people_6 := dk_seg dksX0_people_5 24 rfl rfl
theorem dksX0_people_7 : cX0_people.data.toList.drop 163 = dktX0_people_7 := dk_seg dksX0_people_6 22 rfl rfl
theorem dksX0_people_8 : cX0_people.data.toList.drop 187 = dktX0_people_8 := dk_seg dksX0_people_7 24 rfl rfl
theorem dX0_people_0 : decode cX0_people 0 = .ok (.iload_n 1, 1) := dk_27 (dk_at dksX0_people_0 0 rfl rfl)
theorem dX0_people_1 : decode cX0_people 1 = .ok (.invokestatic 165, 3) := dk_184 0 165 (dk_at dksX0_people_0 1 rfl rfl)
theorem dX0_people_4 : decode cX0_people 4 = .ok (.ifCond .eq 15, 3) := dk_153 0 15 (dk_at dksX0_people_0 4 rfl rfl)
theorem dX0_people_7 : decode cX0_people 7 = .ok (.iload_n 3, 1) := dk_29 (dk_at dksX0_people_0 7 rfl rfl)
theorem dX0_people_8 : decode cX0_people 8 = .ok (.i2l, 1) := dk_133 (dk_at dksX0_people_0 8 rfl rfl)
theorem dX0_people_9 : decode cX0_people 9 = .ok (.lconst 1, 1) := dk_10 (dk_at dksX0_people_0 9 rfl rfl)
theorem dX0_people_10 : decode cX0_people 10 = .ok (.ldc2_w 168, 3) := dk_20 0 168 (dk_at dksX0_people_0 10 rfl rfl)
theorem dX0_people_13 : decode cX0_people 13 = .ok (.invokestatic 112, 3) := dk_184 0 112 (dk_at dksX0_people_0 13 rfl rfl)
theorem dX0_people_16 : decode cX0_people 16 = .ok (.ifCond .ne 5, 3) := dk_154 0 5 (dk_at dksX0_people_0 16 rfl rfl)
theorem dX0_people_19 : decode cX0_people 19 = .ok (.iconst (-1), 1) := dk_2 (dk_at dksX0_people_0 19 rfl rfl)
theorem dX0_people_20 : decode cX0_people 20 = .ok (.ireturn, 1) := dk_172 (dk_at dksX0_people_0 20 rfl rfl)
theorem dX0_people_21 : decode cX0_people 21 = .ok (.aload_n 0, 1) := dk_42 (dk_at dksX0_people_0 21 rfl rfl)
theorem dX0_people_22 : decode cX0_people 22 = .ok (.getfield 104, 3) := dk_180 0 104 (dk_at dksX0_people_1 0 rfl rfl)
theorem dX0_people_25 : decode cX0_people 25 = .ok (.iload_n 1, 1) := dk_27 (dk_at dksX0_people_1 3 rfl rfl)
theorem dX0_people_26 : decode cX0_people 26 = .ok (.aaload, 1) := dk_50 (dk_at dksX0_people_1 4 rfl rfl)
theorem dX0_people_27 : decode cX0_people 27 = .ok (.astore 4, 2) := dk_58 4 (dk_at dksX0_people_1 5 rfl rfl)
theorem dX0_people_29 : decode cX0_people 29 = .ok (.aload 4, 2) := dk_25 4 (dk_at dksX0_people_1 7 rfl rfl)
theorem dX0_people_31 : decode cX0_people 31 = .ok (.ifnull 14, 3) := dk_198 0 14 (dk_at dksX0_people_1 9 rfl rfl)
theorem dX0_people_34 : decode cX0_people 34 = .ok (.aload 4, 2) := dk_25 4 (dk_at dksX0_people_1 12 rfl rfl)
theorem dX0_people_36 : decode cX0_people 36 = .ok (.invokestatic 170, 3) := dk_184 0 170 (dk_at dksX0_people_1 14 rfl rfl)
theorem dX0_people_39 : decode cX0_people 39 = .ok (.ifCond .eq 6, 3) := dk_153 0 6 (dk_at dksX0_people_1 17 rfl rfl)
theorem dX0_people_42 : decode cX0_people 42 = .ok (.bipush (-12), 2) := dk_16 244 (dk_at dksX0_people_1 20 rfl rfl)
theorem dX0_people_44 : decode cX0_people 44 = .ok (.ireturn, 1) := dk_172 (dk_at dksX0_people_1 22 rfl rfl)
theorem dX0_people_45 : decode cX0_people 45 = .ok (.aload_n 0, 1) := dk_42 (dk_at dksX0_people_1 23 rfl rfl)
theorem dX0_people_46 : decode cX0_people 46 = .ok (.getfield 134, 3) := dk_180 0 134 (dk_at dksX0_people_2 0 rfl rfl)
theorem dX0_people_49 : decode cX0_people 49 = .ok (.istore 5, 2) := dk_54 5 (dk_at dksX0_people_2 3 rfl rfl)
theorem dX0_people_51 : decode cX0_people 51 = .ok (.iconst 0, 1) := dk_3 (dk_at dksX0_people_2 5 rfl rfl)
theorem dX0_people_52 : decode cX0_people 52 = .ok (.istore 6, 2) := dk_54 6 (dk_at dksX0_people_2 6 rfl rfl)
theorem dX0_people_54 : decode cX0_people 54 = .ok (.iload 6, 2) := dk_21 6 (dk_at dksX0_people_2 8 rfl rfl)
theorem dX0_people_56 : decode cX0_people 56 = .ok (.iload_n 3, 1) := dk_29 (dk_at dksX0_people_2 10 rfl rfl)
theorem dX0_people_57 : decode cX0_people 57 = .ok (.if_icmp .ge 121, 3) := dk_162 0 121 (dk_at dksX0_people_2 11 rfl rfl)
theorem dX0_people_60 : decode cX0_people 60 = .ok (.iload_n 2, 1) := dk_28 (dk_at dksX0_people_2 14 rfl rfl)
theorem dX0_people_61 : decode cX0_people 61 = .ok (.i2l, 1) := dk_133 (dk_at dksX0_people_2 15 rfl rfl)
theorem dX0_people_62 : decode cX0_people 62 = .ok (.ldc2_w 174, 3) := dk_20 0 174 (dk_at dksX0_people_2 16 rfl rfl)
theorem dX0_people_65 : decode cX0_people 65 = .ok (.iload 6, 2) := dk_21 6 (dk_at dksX0_people_2 19 rfl rfl)
theorem dX0_people_67 : decode cX0_people 67 = .ok (.i2l, 1) := dk_133 (dk_at dksX0_people_2 21 rfl rfl)
theorem dX0_people_68 : decode cX0_people 68 = .ok (.lmul, 1) := dk_105 (dk_at dksX0_people_2 22 rfl rfl)
theorem dX0_people_69 : decode cX0_people 69 = .ok (.ladd, 1) := dk_97 (dk_at dksX0_people_2 23 rfl rfl)
theorem dX0_people_70 : decode cX0_people 70 = .ok (.lstore 7, 2) := dk_55 7 (dk_at dksX0_people_3 0 rfl rfl)
theorem dX0_people_72 : decode cX0_people 72 = .ok (.aload_n 0, 1) := dk_42 (dk_at dksX0_people_3 2 rfl rfl)
theorem dX0_people_73 : decode cX0_people 73 = .ok (.aload 4, 2) := dk_25 4 (dk_at dksX0_people_3 3 rfl rfl)
theorem dX0_people_75 : decode cX0_people 75 = .ok (.lload 7, 2) := dk_22 7 (dk_at dksX0_people_3 5 rfl rfl)
theorem dX0_people_77 : decode cX0_people 77 = .ok (.invokevirtual 176, 3) := dk_182 0 176 (dk_at dksX0_people_3 7 rfl rfl)
theorem dX0_people_80 : decode cX0_people 80 = .ok (.istore 9, 2) := dk_54 9 (dk_at dksX0_people_3 10 rfl rfl)
theorem dX0_people_82 : decode cX0_people 82 = .ok (.aload_n 0, 1) := dk_42 (dk_at dksX0_people_3 12 rfl rfl)
theorem dX0_people_83 : decode cX0_people 83 = .ok (.aload 4, 2) := dk_25 4 (dk_at dksX0_people_3 13 rfl rfl)
theorem dX0_people_85 : decode cX0_people 85 = .ok (.lload 7, 2) := dk_22 7 (dk_at dksX0_people_3 15 rfl rfl)
theorem dX0_people_87 : decode cX0_people 87 = .ok (.lconst 1, 1) := dk_10 (dk_at dksX0_people_3 17 rfl rfl)
theorem dX0_people_88 : decode cX0_people 88 = .ok (.ladd, 1) := dk_97 (dk_at dksX0_people_3 18 rfl rfl)
theorem dX0_people_89 : decode cX0_people 89 = .ok (.invokevirtual 176, 3) := dk_182 0 176 (dk_at dksX0_people_3 19 rfl rfl)
theorem dX0_people_92 : decode cX0_people 92 = .ok (.istore 10, 2) := dk_54 10 (dk_at dksX0_people_3 22 rfl rfl)
theorem dX0_people_94 : decode cX0_people 94 = .ok (.aload_n 0, 1) := dk_42 (dk_at dksX0_people_4 0 rfl rfl)
theorem dX0_people_95 : decode cX0_people 95 = .ok (.aload 4, 2) := dk_25 4 (dk_at dksX0_people_4 1 rfl rfl)
theorem dX0_people_97 : decode cX0_people 97 = .ok (.lload 7, 2) := dk_22 7 (dk_at dksX0_people_4 3 rfl rfl)
theorem dX0_people_99 : decode cX0_people 99 = .ok (.ldc2_w 180, 3) := dk_20 0 180 (dk_at dksX0_people_4 5 rfl rfl)
theorem dX0_people_102 : decode cX0_people 102 = .ok (.ladd, 1) := dk_97 (dk_at dksX0_people_4 8 rfl rfl)
theorem dX0_people_103 : decode cX0_people 103 = .ok (.invokevirtual 176, 3) := dk_182 0 176 (dk_at dksX0_people_4 9 rfl rfl)
theorem dX0_people_106 : decode cX0_people 106 = .ok (.istore 11, 2) := dk_54 11 (dk_at dksX0_people_4 12 rfl rfl)
theorem dX0_people_108 : decode cX0_people 108 = .ok (.aload_n 0, 1) := dk_42 (dk_at dksX0_people_4 14 rfl rfl)
theorem dX0_people_109 : decode cX0_people 109 = .ok (.getfield 134, 3) := dk_180 0 134 (dk_at dksX0_people_4 15 rfl rfl)
theorem dX0_people_112 : decode cX0_people 112 = .ok (.bipush 12, 2) := dk_16 12 (dk_at dksX0_people_4 18 rfl rfl)
theorem dX0_people_114 : decode cX0_people 114 = .ok (.if_icmp .eq 27, 3) := dk_159 0 27 (dk_at dksX0_people_4 20 rfl rfl)
theorem dX0_people_117 : decode cX0_people 117 = .ok (.iload 9, 2) := dk_21 9 (dk_at dksX0_people_5 0 rfl rfl)
theorem dX0_people_119 : decode cX0_people 119 = .ok (.iload 10, 2) := dk_21 10 (dk_at dksX0_people_5 2 rfl rfl)
theorem dX0_people_121 : decode cX0_people 121 = .ok (.invokestatic 152, 3) := dk_184 0 152 (dk_at dksX0_people_5 4 rfl rfl)
theorem dX0_people_124 : decode cX0_people 124 = .ok (.ifCond .eq 17, 3) := dk_153 0 17 (dk_at dksX0_people_5 7 rfl rfl)
theorem dX0_people_127 : decode cX0_people 127 = .ok (.iload 11, 2) := dk_21 11 (dk_at dksX0_people_5 10 rfl rfl)
theorem dX0_people_129 : decode cX0_people 129 = .ok (.iconst (-1), 1) := dk_2 (dk_at dksX0_people_5 12 rfl rfl)
theorem dX0_people_130 : decode cX0_people 130 = .ok (.if_icmp .eq 16, 3) := dk_159 0 16 (dk_at dksX0_people_5 13 rfl rfl)
theorem dX0_people_133 : decode cX0_people 133 = .ok (.iload 11, 2) := dk_21 11 (dk_at dksX0_people_5 16 rfl rfl)
theorem dX0_people_135 : decode cX0_people 135 = .ok (.invokestatic 182, 3) := dk_184 0 182 (dk_at dksX0_people_5 18 rfl rfl)
theorem dX0_people_138 : decode cX0_people 138 = .ok (.ifCond .ne 8, 3) := dk_154 0 8 (dk_at dksX0_people_5 21 rfl rfl)
theorem dX0_people_141 : decode cX0_people 141 = .ok (.aload_n 0, 1) := dk_42 (dk_at dksX0_people_6 0 rfl rfl)
theorem dX0_people_142 : decode cX0_people 142 = .ok (.getfield 76, 3) := dk_180 0 76 (dk_at dksX0_people_6 1 rfl rfl)
theorem dX0_people_145 : decode cX0_people 145 = .ok (.athrow, 1) := dk_191 (dk_at dksX0_people_6 4 rfl rfl)
theorem dX0_people_146 : decode cX0_people 146 = .ok (.new 48, 3) := dk_187 0 48 (dk_at dksX0_people_6 5 rfl rfl)
theorem dX0_people_149 : decode cX0_people 149 = .ok (.dup, 1) := dk_89 (dk_at dksX0_people_6 8 rfl rfl)
theorem dX0_people_150 : decode cX0_people 150 = .ok (.iload 9, 2) := dk_21 9 (dk_at dksX0_people_6 9 rfl rfl)
theorem dX0_people_152 : decode cX0_people 152 = .ok (.iload 10, 2) := dk_21 10 (dk_at dksX0_people_6 11 rfl rfl)
theorem dX0_people_154 : decode cX0_people 154 = .ok (.invokespecial 156, 3) := dk_183 0 156 (dk_at dksX0_people_6 13 rfl rfl)
theorem dX0_people_157 : decode cX0_people 157 = .ok (.astore 12, 2) := dk_58 12 (dk_at dksX0_people_6 16 rfl rfl)
theorem dX0_people_159 : decode cX0_people 159 = .ok (.aload 12, 2) := dk_25 12 (dk_at dksX0_people_6 18 rfl rfl)
theorem dX0_people_161 : decode cX0_people 161 = .ok (.iload 11, 2) := dk_21 11 (dk_at dksX0_people_6 20 rfl rfl)
theorem dX0_people_163 : decode cX0_people 163 = .ok (.putfield 185, 3) := dk_181 0 185 (dk_at dksX0_people_7 0 rfl rfl)
theorem dX0_people_166 : decode cX0_people 166 = .ok (.aload_n 0, 1) := dk_42 (dk_at dksX0_people_7 3 rfl rfl)
theorem dX0_people_167 : decode cX0_people 167 = .ok (.aload 12, 2) := dk_25 12 (dk_at dksX0_people_7 4 rfl rfl)
theorem dX0_people_169 : decode cX0_people 169 = .ok (.invokevirtual 159, 3) := dk_182 0 159 (dk_at dksX0_people_7 6 rfl rfl)
theorem dX0_people_172 : decode cX0_people 172 = .ok (.iinc 6 1, 3) := dk_132 6 1 (dk_at dksX0_people_7 9 rfl rfl)
theorem dX0_people_175 : decode cX0_people 175 = .ok (.goto (-121), 3) := dk_167 255 135 (dk_at dksX0_people_7 12 rfl rfl)
theorem dX0_people_178 : decode cX0_people 178 = .ok (.goto 14, 3) := dk_167 0 14 (dk_at dksX0_people_7 15 rfl rfl)
theorem dX0_people_181 : decode cX0_people 181 = .ok (.astore 7, 2) := dk_58 7 (dk_at dksX0_people_7 18 rfl rfl)
theorem dX0_people_183 : decode cX0_people 183 = .ok (.aload_n 0, 1) := dk_42 (dk_at dksX0_people_7 20 rfl rfl)
theorem dX0_people_184 : decode cX0_people 184 = .ok (.getfield 134, 3) := dk_180 0 134 (dk_at dksX0_people_7 21 rfl rfl)
theorem dX0_people_187 : decode cX0_people 187 = .ok (.iload 5, 2) := dk_21 5 (dk_at dksX0_people_8 0 rfl rfl)
theorem dX0_people_189 : decode cX0_people 189 = .ok (.isub, 1) := dk_100 (dk_at dksX0_people_8 2 rfl rfl)
theorem dX0_people_190 : decode cX0_people 190 = .ok (.istore 6, 2) := dk_54 6 (dk_at dksX0_people_8 3 rfl rfl)
theorem dX0_people_192 : decode cX0_people 192 = .ok (.iload 6, 2) := dk_21 6 (dk_at dksX0_people_8 5 rfl rfl)
theorem dX0_people_194 : decode cX0_people 194 = .ok (.ireturn, 1) := dk_172 (dk_at dksX0_people_8 7 rfl rfl)
abbrev cX0_isShelf : ByteArray := prog_1_method_82_code
def yX0_isShelf : MethodName := ⟨RX0, "isShelf", "(I)Z"⟩
def dkwX0_isShelf_0 : List UInt8 := [26, 133, 9, 20, 1, 205, 184, 0, 112, 172]
abbrev dktX0_isShelf_0 : List UInt8 := dkwX0_isShelf_0 ++ []
theorem dksX0_isShelf_0 : cX0_isShelf.data.toList.drop 0 = dktX0_isShelf_0 := by decide +kernel
theorem dX0_isShelf_0 : decode cX0_isShelf 0 = .ok (.iload_n 0, 1) := dk_26 (dk_at dksX0_isShelf_0 0 rfl rfl)
theorem dX0_isShelf_1 : decode cX0_isShelf 1 = .ok (.i2l, 1) := dk_133 (dk_at dksX0_isShelf_0 1 rfl rfl)
theorem dX0_isShelf_2 : decode cX0_isShelf 2 = .ok (.lconst 0, 1) := dk_9 (dk_at dksX0_isShelf_0 2 rfl rfl)
theorem dX0_isShelf_3 : decode cX0_isShelf 3 = .ok (.ldc2_w 461, 3) := dk_20 1 205 (dk_at dksX0_isShelf_0 3 rfl rfl)
theorem dX0_isShelf_6 : decode cX0_isShelf 6 = .ok (.invokestatic 112, 3) := dk_184 0 112 (dk_at dksX0_isShelf_0 6 rfl rfl)
theorem dX0_isShelf_9 : decode cX0_isShelf 9 = .ok (.ireturn, 1) := dk_172 (dk_at dksX0_isShelf_0 9 rfl rfl)
abbrev cX0_sortOf : ByteArray := prog_1_method_85_code
def yX0_sortOf : MethodName := ⟨RX0, "sortOf", "(Ljava/lang/Object;)I"⟩
def dkwX0_sortOf_2 : List UInt8 := [193, 1, 214, 153, 0, 7, 7, 167, 0, 4, 2, 172]
abbrev dktX0_sortOf_2 : List UInt8 := dkwX0_sortOf_2 ++ []
def dkwX0_sortOf_1 : List UInt8 := [193, 1, 211, 153, 0, 7, 5, 167, 0, 26, 42, 193, 1, 212, 153, 0, 7, 6, 167, 0, 15, 42]
abbrev dktX0_sortOf_1 : List UInt8 := dkwX0_sortOf_1 ++ dktX0_sortOf_2
def dkwX0_sortOf_0 : List UInt8 := [42, 193, 0, 163, 153, 0, 7, 3, 167, 0, 48, 42, 193, 1, 209, 153, 0, 7, 4, 167, 0, 37, 42]
abbrev dktX0_sortOf_0 : List UInt8 := dkwX0_sortOf_0 ++ dktX0_sortOf_1
theorem dksX0_sortOf_0 : cX0_sortOf.data.toList.drop 0 = dktX0_sortOf_0 := by decide +kernel
theorem dksX0_sortOf_1 : cX0_sortOf.data.toList.drop 23 = dktX0_sortOf_1 := dk_seg dksX0_sortOf_0 23 rfl rfl
theorem dksX0_sortOf_2 : cX0_sortOf.data.toList.drop 45 = dktX0_sortOf_2 := dk_seg dksX0_sortOf_1 22 rfl rfl
theorem dX0_sortOf_0 : decode cX0_sortOf 0 = .ok (.aload_n 0, 1) := dk_42 (dk_at dksX0_sortOf_0 0 rfl rfl)
theorem dX0_sortOf_1 : decode cX0_sortOf 1 = .ok (.instanceof 163, 3) := dk_193 0 163 (dk_at dksX0_sortOf_0 1 rfl rfl)
theorem dX0_sortOf_4 : decode cX0_sortOf 4 = .ok (.ifCond .eq 7, 3) := dk_153 0 7 (dk_at dksX0_sortOf_0 4 rfl rfl)
theorem dX0_sortOf_7 : decode cX0_sortOf 7 = .ok (.iconst 0, 1) := dk_3 (dk_at dksX0_sortOf_0 7 rfl rfl)
theorem dX0_sortOf_8 : decode cX0_sortOf 8 = .ok (.goto 48, 3) := dk_167 0 48 (dk_at dksX0_sortOf_0 8 rfl rfl)
theorem dX0_sortOf_11 : decode cX0_sortOf 11 = .ok (.aload_n 0, 1) := dk_42 (dk_at dksX0_sortOf_0 11 rfl rfl)
theorem dX0_sortOf_12 : decode cX0_sortOf 12 = .ok (.instanceof 465, 3) := dk_193 1 209 (dk_at dksX0_sortOf_0 12 rfl rfl)
theorem dX0_sortOf_15 : decode cX0_sortOf 15 = .ok (.ifCond .eq 7, 3) := dk_153 0 7 (dk_at dksX0_sortOf_0 15 rfl rfl)
theorem dX0_sortOf_18 : decode cX0_sortOf 18 = .ok (.iconst 1, 1) := dk_4 (dk_at dksX0_sortOf_0 18 rfl rfl)
theorem dX0_sortOf_19 : decode cX0_sortOf 19 = .ok (.goto 37, 3) := dk_167 0 37 (dk_at dksX0_sortOf_0 19 rfl rfl)
theorem dX0_sortOf_22 : decode cX0_sortOf 22 = .ok (.aload_n 0, 1) := dk_42 (dk_at dksX0_sortOf_0 22 rfl rfl)
theorem dX0_sortOf_23 : decode cX0_sortOf 23 = .ok (.instanceof 467, 3) := dk_193 1 211 (dk_at dksX0_sortOf_1 0 rfl rfl)
theorem dX0_sortOf_26 : decode cX0_sortOf 26 = .ok (.ifCond .eq 7, 3) := dk_153 0 7 (dk_at dksX0_sortOf_1 3 rfl rfl)
theorem dX0_sortOf_29 : decode cX0_sortOf 29 = .ok (.iconst 2, 1) := dk_5 (dk_at dksX0_sortOf_1 6 rfl rfl)
theorem dX0_sortOf_30 : decode cX0_sortOf 30 = .ok (.goto 26, 3) := dk_167 0 26 (dk_at dksX0_sortOf_1 7 rfl rfl)
theorem dX0_sortOf_33 : decode cX0_sortOf 33 = .ok (.aload_n 0, 1) := dk_42 (dk_at dksX0_sortOf_1 10 rfl rfl)
theorem dX0_sortOf_34 : decode cX0_sortOf 34 = .ok (.instanceof 468, 3) := dk_193 1 212 (dk_at dksX0_sortOf_1 11 rfl rfl)
theorem dX0_sortOf_37 : decode cX0_sortOf 37 = .ok (.ifCond .eq 7, 3) := dk_153 0 7 (dk_at dksX0_sortOf_1 14 rfl rfl)
theorem dX0_sortOf_40 : decode cX0_sortOf 40 = .ok (.iconst 3, 1) := dk_6 (dk_at dksX0_sortOf_1 17 rfl rfl)
theorem dX0_sortOf_41 : decode cX0_sortOf 41 = .ok (.goto 15, 3) := dk_167 0 15 (dk_at dksX0_sortOf_1 18 rfl rfl)
theorem dX0_sortOf_44 : decode cX0_sortOf 44 = .ok (.aload_n 0, 1) := dk_42 (dk_at dksX0_sortOf_1 21 rfl rfl)
theorem dX0_sortOf_45 : decode cX0_sortOf 45 = .ok (.instanceof 470, 3) := dk_193 1 214 (dk_at dksX0_sortOf_2 0 rfl rfl)
theorem dX0_sortOf_48 : decode cX0_sortOf 48 = .ok (.ifCond .eq 7, 3) := dk_153 0 7 (dk_at dksX0_sortOf_2 3 rfl rfl)
theorem dX0_sortOf_51 : decode cX0_sortOf 51 = .ok (.iconst 4, 1) := dk_7 (dk_at dksX0_sortOf_2 6 rfl rfl)
theorem dX0_sortOf_52 : decode cX0_sortOf 52 = .ok (.goto 4, 3) := dk_167 0 4 (dk_at dksX0_sortOf_2 7 rfl rfl)
theorem dX0_sortOf_55 : decode cX0_sortOf 55 = .ok (.iconst (-1), 1) := dk_2 (dk_at dksX0_sortOf_2 10 rfl rfl)
theorem dX0_sortOf_56 : decode cX0_sortOf 56 = .ok (.ireturn, 1) := dk_172 (dk_at dksX0_sortOf_2 11 rfl rfl)
abbrev cX0_toldIn : ByteArray := prog_1_method_21_code
def yX0_toldIn : MethodName := ⟨RX0, "toldIn", "(Ljava/lang/Object;J)I"⟩
def dkwX0_toldIn_1 : List UInt8 := [180, 0, 76, 191, 43, 192, 0, 163, 32, 136, 51, 172]
abbrev dktX0_toldIn_1 : List UInt8 := dkwX0_toldIn_1 ++ []
def dkwX0_toldIn_0 : List UInt8 := [43, 198, 0, 20, 32, 9, 148, 155, 0, 14, 32, 43, 192, 0, 163, 190, 133, 148, 155, 0, 8, 42]
abbrev dktX0_toldIn_0 : List UInt8 := dkwX0_toldIn_0 ++ dktX0_toldIn_1
theorem dksX0_toldIn_0 : cX0_toldIn.data.toList.drop 0 = dktX0_toldIn_0 := by decide +kernel
theorem dksX0_toldIn_1 : cX0_toldIn.data.toList.drop 22 = dktX0_toldIn_1 := dk_seg dksX0_toldIn_0 22 rfl rfl
theorem dX0_toldIn_0 : decode cX0_toldIn 0 = .ok (.aload_n 1, 1) := dk_43 (dk_at dksX0_toldIn_0 0 rfl rfl)
theorem dX0_toldIn_1 : decode cX0_toldIn 1 = .ok (.ifnull 20, 3) := dk_198 0 20 (dk_at dksX0_toldIn_0 1 rfl rfl)
theorem dX0_toldIn_4 : decode cX0_toldIn 4 = .ok (.lload_n 2, 1) := dk_32 (dk_at dksX0_toldIn_0 4 rfl rfl)
theorem dX0_toldIn_5 : decode cX0_toldIn 5 = .ok (.lconst 0, 1) := dk_9 (dk_at dksX0_toldIn_0 5 rfl rfl)
theorem dX0_toldIn_6 : decode cX0_toldIn 6 = .ok (.lcmp, 1) := dk_148 (dk_at dksX0_toldIn_0 6 rfl rfl)
theorem dX0_toldIn_7 : decode cX0_toldIn 7 = .ok (.ifCond .lt 14, 3) := dk_155 0 14 (dk_at dksX0_toldIn_0 7 rfl rfl)
theorem dX0_toldIn_10 : decode cX0_toldIn 10 = .ok (.lload_n 2, 1) := dk_32 (dk_at dksX0_toldIn_0 10 rfl rfl)
theorem dX0_toldIn_11 : decode cX0_toldIn 11 = .ok (.aload_n 1, 1) := dk_43 (dk_at dksX0_toldIn_0 11 rfl rfl)
theorem dX0_toldIn_12 : decode cX0_toldIn 12 = .ok (.checkcast 163, 3) := dk_192 0 163 (dk_at dksX0_toldIn_0 12 rfl rfl)
theorem dX0_toldIn_15 : decode cX0_toldIn 15 = .ok (.arraylength, 1) := dk_190 (dk_at dksX0_toldIn_0 15 rfl rfl)
theorem dX0_toldIn_16 : decode cX0_toldIn 16 = .ok (.i2l, 1) := dk_133 (dk_at dksX0_toldIn_0 16 rfl rfl)
theorem dX0_toldIn_17 : decode cX0_toldIn 17 = .ok (.lcmp, 1) := dk_148 (dk_at dksX0_toldIn_0 17 rfl rfl)
theorem dX0_toldIn_18 : decode cX0_toldIn 18 = .ok (.ifCond .lt 8, 3) := dk_155 0 8 (dk_at dksX0_toldIn_0 18 rfl rfl)
theorem dX0_toldIn_21 : decode cX0_toldIn 21 = .ok (.aload_n 0, 1) := dk_42 (dk_at dksX0_toldIn_0 21 rfl rfl)
theorem dX0_toldIn_22 : decode cX0_toldIn 22 = .ok (.getfield 76, 3) := dk_180 0 76 (dk_at dksX0_toldIn_1 0 rfl rfl)
theorem dX0_toldIn_25 : decode cX0_toldIn 25 = .ok (.athrow, 1) := dk_191 (dk_at dksX0_toldIn_1 3 rfl rfl)
theorem dX0_toldIn_26 : decode cX0_toldIn 26 = .ok (.aload_n 1, 1) := dk_43 (dk_at dksX0_toldIn_1 4 rfl rfl)
theorem dX0_toldIn_27 : decode cX0_toldIn 27 = .ok (.checkcast 163, 3) := dk_192 0 163 (dk_at dksX0_toldIn_1 5 rfl rfl)
theorem dX0_toldIn_30 : decode cX0_toldIn 30 = .ok (.lload_n 2, 1) := dk_32 (dk_at dksX0_toldIn_1 8 rfl rfl)
theorem dX0_toldIn_31 : decode cX0_toldIn 31 = .ok (.l2i, 1) := dk_136 (dk_at dksX0_toldIn_1 9 rfl rfl)
theorem dX0_toldIn_32 : decode cX0_toldIn 32 = .ok (.baload, 1) := dk_51 (dk_at dksX0_toldIn_1 10 rfl rfl)
theorem dX0_toldIn_33 : decode cX0_toldIn 33 = .ok (.ireturn, 1) := dk_172 (dk_at dksX0_toldIn_1 11 rfl rfl)
abbrev cX0_isName : ByteArray := prog_1_method_15_code
def yX0_isName : MethodName := ⟨RX0, "isName", "(I)Z"⟩
def dkwX0_isName_0 : List UInt8 := [26, 133, 9, 20, 0, 137, 184, 0, 112, 172]
abbrev dktX0_isName_0 : List UInt8 := dkwX0_isName_0 ++ []
theorem dksX0_isName_0 : cX0_isName.data.toList.drop 0 = dktX0_isName_0 := by decide +kernel
theorem dX0_isName_0 : decode cX0_isName 0 = .ok (.iload_n 0, 1) := dk_26 (dk_at dksX0_isName_0 0 rfl rfl)
theorem dX0_isName_1 : decode cX0_isName 1 = .ok (.i2l, 1) := dk_133 (dk_at dksX0_isName_0 1 rfl rfl)
theorem dX0_isName_2 : decode cX0_isName 2 = .ok (.lconst 0, 1) := dk_9 (dk_at dksX0_isName_0 2 rfl rfl)
theorem dX0_isName_3 : decode cX0_isName 3 = .ok (.ldc2_w 137, 3) := dk_20 0 137 (dk_at dksX0_isName_0 3 rfl rfl)
theorem dX0_isName_6 : decode cX0_isName 6 = .ok (.invokestatic 112, 3) := dk_184 0 112 (dk_at dksX0_isName_0 6 rfl rfl)
theorem dX0_isName_9 : decode cX0_isName 9 = .ok (.ireturn, 1) := dk_172 (dk_at dksX0_isName_0 9 rfl rfl)
abbrev cX0_meet : ByteArray := prog_1_method_24_code
def yX0_meet : MethodName := ⟨RX0, "meet", "(II)I"⟩
def dkwX0_meet_7 : List UInt8 := [181, 0, 141, 79, 42, 180, 0, 141, 4, 100, 172]
abbrev dktX0_meet_7 : List UInt8 := dkwX0_meet_7 ++ []
def dkwX0_meet_6 : List UInt8 := [29, 4, 100, 46, 79, 132, 3, 255, 167, 255, 215, 42, 180, 0, 63, 29, 42, 89, 180, 0, 141, 90, 4, 96]
abbrev dktX0_meet_6 : List UInt8 := dkwX0_meet_6 ++ dktX0_meet_7
def dkwX0_meet_5 : List UInt8 := [180, 0, 63, 29, 4, 100, 46, 50, 180, 0, 201, 28, 164, 0, 23, 42, 180, 0, 63, 29, 42, 180, 0, 63]
abbrev dktX0_meet_5 : List UInt8 := dkwX0_meet_5 ++ dktX0_meet_6
def dkwX0_meet_4 : List UInt8 := [16, 100, 112, 28, 183, 0, 198, 83, 42, 180, 0, 141, 62, 29, 158, 0, 43, 42, 180, 0, 59, 42]
abbrev dktX0_meet_4 : List UInt8 := dkwX0_meet_4 ++ dktX0_meet_5
def dkwX0_meet_3 : List UInt8 := [160, 0, 6, 16, 253, 172, 42, 180, 0, 59, 42, 180, 0, 141, 187, 0, 57, 89, 27, 16, 100, 108, 27]
abbrev dktX0_meet_3 : List UInt8 := dkwX0_meet_3 ++ dktX0_meet_4
def dkwX0_meet_2 : List UInt8 := [16, 100, 108, 27, 16, 100, 112, 28, 182, 0, 194, 154, 0, 5, 2, 172, 42, 180, 0, 141, 16, 16]
abbrev dktX0_meet_2 : List UInt8 := dkwX0_meet_2 ++ dktX0_meet_3
def dkwX0_meet_1 : List UInt8 := [153, 0, 37, 27, 16, 100, 108, 27, 16, 100, 112, 159, 0, 26, 28, 184, 0, 144, 153, 0, 19, 42, 27]
abbrev dktX0_meet_1 : List UInt8 := dkwX0_meet_1 ++ dktX0_meet_2
def dkwX0_meet_0 : List UInt8 := [27, 155, 0, 59, 42, 27, 16, 100, 108, 182, 0, 191, 153, 0, 48, 42, 27, 16, 100, 112, 182, 0, 191]
abbrev dktX0_meet_0 : List UInt8 := dkwX0_meet_0 ++ dktX0_meet_1
theorem dksX0_meet_0 : cX0_meet.data.toList.drop 0 = dktX0_meet_0 := by decide +kernel
theorem dksX0_meet_1 : cX0_meet.data.toList.drop 23 = dktX0_meet_1 := dk_seg dksX0_meet_0 23 rfl rfl
theorem dksX0_meet_2 : cX0_meet.data.toList.drop 46 = dktX0_meet_2 := dk_seg dksX0_meet_1 23 rfl rfl
theorem dksX0_meet_3 : cX0_meet.data.toList.drop 68 = dktX0_meet_3 := dk_seg dksX0_meet_2 22 rfl rfl
theorem dksX0_meet_4 : cX0_meet.data.toList.drop 91 = dktX0_meet_4 := dk_seg dksX0_meet_3 23 rfl rfl
theorem dksX0_meet_5 : cX0_meet.data.toList.drop 113 = dktX0_meet_5 := dk_seg dksX0_meet_4 22 rfl rfl
theorem dksX0_meet_6 : cX0_meet.data.toList.drop 137 = dktX0_meet_6 := dk_seg dksX0_meet_5 24 rfl rfl
theorem dksX0_meet_7 : cX0_meet.data.toList.drop 161 = dktX0_meet_7 := dk_seg dksX0_meet_6 24 rfl rfl
theorem dX0_meet_0 : decode cX0_meet 0 = .ok (.iload_n 1, 1) := dk_27 (dk_at dksX0_meet_0 0 rfl rfl)
theorem dX0_meet_1 : decode cX0_meet 1 = .ok (.ifCond .lt 59, 3) := dk_155 0 59 (dk_at dksX0_meet_0 1 rfl rfl)
theorem dX0_meet_4 : decode cX0_meet 4 = .ok (.aload_n 0, 1) := dk_42 (dk_at dksX0_meet_0 4 rfl rfl)
theorem dX0_meet_5 : decode cX0_meet 5 = .ok (.iload_n 1, 1) := dk_27 (dk_at dksX0_meet_0 5 rfl rfl)
theorem dX0_meet_6 : decode cX0_meet 6 = .ok (.bipush 100, 2) := dk_16 100 (dk_at dksX0_meet_0 6 rfl rfl)
theorem dX0_meet_8 : decode cX0_meet 8 = .ok (.idiv, 1) := dk_108 (dk_at dksX0_meet_0 8 rfl rfl)
theorem dX0_meet_9 : decode cX0_meet 9 = .ok (.invokevirtual 191, 3) := dk_182 0 191 (dk_at dksX0_meet_0 9 rfl rfl)
theorem dX0_meet_12 : decode cX0_meet 12 = .ok (.ifCond .eq 48, 3) := dk_153 0 48 (dk_at dksX0_meet_0 12 rfl rfl)
theorem dX0_meet_15 : decode cX0_meet 15 = .ok (.aload_n 0, 1) := dk_42 (dk_at dksX0_meet_0 15 rfl rfl)
theorem dX0_meet_16 : decode cX0_meet 16 = .ok (.iload_n 1, 1) := dk_27 (dk_at dksX0_meet_0 16 rfl rfl)
theorem dX0_meet_17 : decode cX0_meet 17 = .ok (.bipush 100, 2) := dk_16 100 (dk_at dksX0_meet_0 17 rfl rfl)
theorem dX0_meet_19 : decode cX0_meet 19 = .ok (.irem, 1) := dk_112 (dk_at dksX0_meet_0 19 rfl rfl)
theorem dX0_meet_20 : decode cX0_meet 20 = .ok (.invokevirtual 191, 3) := dk_182 0 191 (dk_at dksX0_meet_0 20 rfl rfl)
theorem dX0_meet_23 : decode cX0_meet 23 = .ok (.ifCond .eq 37, 3) := dk_153 0 37 (dk_at dksX0_meet_1 0 rfl rfl)
theorem dX0_meet_26 : decode cX0_meet 26 = .ok (.iload_n 1, 1) := dk_27 (dk_at dksX0_meet_1 3 rfl rfl)
theorem dX0_meet_27 : decode cX0_meet 27 = .ok (.bipush 100, 2) := dk_16 100 (dk_at dksX0_meet_1 4 rfl rfl)
theorem dX0_meet_29 : decode cX0_meet 29 = .ok (.idiv, 1) := dk_108 (dk_at dksX0_meet_1 6 rfl rfl)
theorem dX0_meet_30 : decode cX0_meet 30 = .ok (.iload_n 1, 1) := dk_27 (dk_at dksX0_meet_1 7 rfl rfl)
theorem dX0_meet_31 : decode cX0_meet 31 = .ok (.bipush 100, 2) := dk_16 100 (dk_at dksX0_meet_1 8 rfl rfl)
theorem dX0_meet_33 : decode cX0_meet 33 = .ok (.irem, 1) := dk_112 (dk_at dksX0_meet_1 10 rfl rfl)
theorem dX0_meet_34 : decode cX0_meet 34 = .ok (.if_icmp .eq 26, 3) := dk_159 0 26 (dk_at dksX0_meet_1 11 rfl rfl)
theorem dX0_meet_37 : decode cX0_meet 37 = .ok (.iload_n 2, 1) := dk_28 (dk_at dksX0_meet_1 14 rfl rfl)
theorem dX0_meet_38 : decode cX0_meet 38 = .ok (.invokestatic 144, 3) := dk_184 0 144 (dk_at dksX0_meet_1 15 rfl rfl)
theorem dX0_meet_41 : decode cX0_meet 41 = .ok (.ifCond .eq 19, 3) := dk_153 0 19 (dk_at dksX0_meet_1 18 rfl rfl)
theorem dX0_meet_44 : decode cX0_meet 44 = .ok (.aload_n 0, 1) := dk_42 (dk_at dksX0_meet_1 21 rfl rfl)
theorem dX0_meet_45 : decode cX0_meet 45 = .ok (.iload_n 1, 1) := dk_27 (dk_at dksX0_meet_1 22 rfl rfl)
theorem dX0_meet_46 : decode cX0_meet 46 = .ok (.bipush 100, 2) := dk_16 100 (dk_at dksX0_meet_2 0 rfl rfl)
theorem dX0_meet_48 : decode cX0_meet 48 = .ok (.idiv, 1) := dk_108 (dk_at dksX0_meet_2 2 rfl rfl)
theorem dX0_meet_49 : decode cX0_meet 49 = .ok (.iload_n 1, 1) := dk_27 (dk_at dksX0_meet_2 3 rfl rfl)
theorem dX0_meet_50 : decode cX0_meet 50 = .ok (.bipush 100, 2) := dk_16 100 (dk_at dksX0_meet_2 4 rfl rfl)
theorem dX0_meet_52 : decode cX0_meet 52 = .ok (.irem, 1) := dk_112 (dk_at dksX0_meet_2 6 rfl rfl)
theorem dX0_meet_53 : decode cX0_meet 53 = .ok (.iload_n 2, 1) := dk_28 (dk_at dksX0_meet_2 7 rfl rfl)
theorem dX0_meet_54 : decode cX0_meet 54 = .ok (.invokevirtual 194, 3) := dk_182 0 194 (dk_at dksX0_meet_2 8 rfl rfl)
theorem dX0_meet_57 : decode cX0_meet 57 = .ok (.ifCond .ne 5, 3) := dk_154 0 5 (dk_at dksX0_meet_2 11 rfl rfl)
theorem dX0_meet_60 : decode cX0_meet 60 = .ok (.iconst (-1), 1) := dk_2 (dk_at dksX0_meet_2 14 rfl rfl)
theorem dX0_meet_61 : decode cX0_meet 61 = .ok (.ireturn, 1) := dk_172 (dk_at dksX0_meet_2 15 rfl rfl)
theorem dX0_meet_62 : decode cX0_meet 62 = .ok (.aload_n 0, 1) := dk_42 (dk_at dksX0_meet_2 16 rfl rfl)
theorem dX0_meet_63 : decode cX0_meet 63 = .ok (.getfield 141, 3) := dk_180 0 141 (dk_at dksX0_meet_2 17 rfl rfl)
theorem dX0_meet_66 : decode cX0_meet 66 = .ok (.bipush 16, 2) := dk_16 16 (dk_at dksX0_meet_2 20 rfl rfl)
theorem dX0_meet_68 : decode cX0_meet 68 = .ok (.if_icmp .ne 6, 3) := dk_160 0 6 (dk_at dksX0_meet_3 0 rfl rfl)
theorem dX0_meet_71 : decode cX0_meet 71 = .ok (.bipush (-3), 2) := dk_16 253 (dk_at dksX0_meet_3 3 rfl rfl)
theorem dX0_meet_73 : decode cX0_meet 73 = .ok (.ireturn, 1) := dk_172 (dk_at dksX0_meet_3 5 rfl rfl)
theorem dX0_meet_74 : decode cX0_meet 74 = .ok (.aload_n 0, 1) := dk_42 (dk_at dksX0_meet_3 6 rfl rfl)
theorem dX0_meet_75 : decode cX0_meet 75 = .ok (.getfield 59, 3) := dk_180 0 59 (dk_at dksX0_meet_3 7 rfl rfl)
theorem dX0_meet_78 : decode cX0_meet 78 = .ok (.aload_n 0, 1) := dk_42 (dk_at dksX0_meet_3 10 rfl rfl)
theorem dX0_meet_79 : decode cX0_meet 79 = .ok (.getfield 141, 3) := dk_180 0 141 (dk_at dksX0_meet_3 11 rfl rfl)
theorem dX0_meet_82 : decode cX0_meet 82 = .ok (.new 57, 3) := dk_187 0 57 (dk_at dksX0_meet_3 14 rfl rfl)
theorem dX0_meet_85 : decode cX0_meet 85 = .ok (.dup, 1) := dk_89 (dk_at dksX0_meet_3 17 rfl rfl)
theorem dX0_meet_86 : decode cX0_meet 86 = .ok (.iload_n 1, 1) := dk_27 (dk_at dksX0_meet_3 18 rfl rfl)
theorem dX0_meet_87 : decode cX0_meet 87 = .ok (.bipush 100, 2) := dk_16 100 (dk_at dksX0_meet_3 19 rfl rfl)
theorem dX0_meet_89 : decode cX0_meet 89 = .ok (.idiv, 1) := dk_108 (dk_at dksX0_meet_3 21 rfl rfl)
theorem dX0_meet_90 : decode cX0_meet 90 = .ok (.iload_n 1, 1) := dk_27 (dk_at dksX0_meet_3 22 rfl rfl)
theorem dX0_meet_91 : decode cX0_meet 91 = .ok (.bipush 100, 2) := dk_16 100 (dk_at dksX0_meet_4 0 rfl rfl)
theorem dX0_meet_93 : decode cX0_meet 93 = .ok (.irem, 1) := dk_112 (dk_at dksX0_meet_4 2 rfl rfl)
theorem dX0_meet_94 : decode cX0_meet 94 = .ok (.iload_n 2, 1) := dk_28 (dk_at dksX0_meet_4 3 rfl rfl)
theorem dX0_meet_95 : decode cX0_meet 95 = .ok (.invokespecial 198, 3) := dk_183 0 198 (dk_at dksX0_meet_4 4 rfl rfl)
theorem dX0_meet_98 : decode cX0_meet 98 = .ok (.aastore, 1) := dk_83 (dk_at dksX0_meet_4 7 rfl rfl)
theorem dX0_meet_99 : decode cX0_meet 99 = .ok (.aload_n 0, 1) := dk_42 (dk_at dksX0_meet_4 8 rfl rfl)
theorem dX0_meet_100 : decode cX0_meet 100 = .ok (.getfield 141, 3) := dk_180 0 141 (dk_at dksX0_meet_4 9 rfl rfl)
theorem dX0_meet_103 : decode cX0_meet 103 = .ok (.istore_n 3, 1) := dk_62 (dk_at dksX0_meet_4 12 rfl rfl)
theorem dX0_meet_104 : decode cX0_meet 104 = .ok (.iload_n 3, 1) := dk_29 (dk_at dksX0_meet_4 13 rfl rfl)
theorem dX0_meet_105 : decode cX0_meet 105 = .ok (.ifCond .le 43, 3) := dk_158 0 43 (dk_at dksX0_meet_4 14 rfl rfl)
theorem dX0_meet_108 : decode cX0_meet 108 = .ok (.aload_n 0, 1) := dk_42 (dk_at dksX0_meet_4 17 rfl rfl)
theorem dX0_meet_109 : decode cX0_meet 109 = .ok (.getfield 59, 3) := dk_180 0 59 (dk_at dksX0_meet_4 18 rfl rfl)
theorem dX0_meet_112 : decode cX0_meet 112 = .ok (.aload_n 0, 1) := dk_42 (dk_at dksX0_meet_4 21 rfl rfl)
theorem dX0_meet_113 : decode cX0_meet 113 = .ok (.getfield 63, 3) := dk_180 0 63 (dk_at dksX0_meet_5 0 rfl rfl)
theorem dX0_meet_116 : decode cX0_meet 116 = .ok (.iload_n 3, 1) := dk_29 (dk_at dksX0_meet_5 3 rfl rfl)
theorem dX0_meet_117 : decode cX0_meet 117 = .ok (.iconst 1, 1) := dk_4 (dk_at dksX0_meet_5 4 rfl rfl)
theorem dX0_meet_118 : decode cX0_meet 118 = .ok (.isub, 1) := dk_100 (dk_at dksX0_meet_5 5 rfl rfl)
theorem dX0_meet_119 : decode cX0_meet 119 = .ok (.iaload, 1) := dk_46 (dk_at dksX0_meet_5 6 rfl rfl)
theorem dX0_meet_120 : decode cX0_meet 120 = .ok (.aaload, 1) := dk_50 (dk_at dksX0_meet_5 7 rfl rfl)
theorem dX0_meet_121 : decode cX0_meet 121 = .ok (.getfield 201, 3) := dk_180 0 201 (dk_at dksX0_meet_5 8 rfl rfl)
theorem dX0_meet_124 : decode cX0_meet 124 = .ok (.iload_n 2, 1) := dk_28 (dk_at dksX0_meet_5 11 rfl rfl)
theorem dX0_meet_125 : decode cX0_meet 125 = .ok (.if_icmp .le 23, 3) := dk_164 0 23 (dk_at dksX0_meet_5 12 rfl rfl)
theorem dX0_meet_128 : decode cX0_meet 128 = .ok (.aload_n 0, 1) := dk_42 (dk_at dksX0_meet_5 15 rfl rfl)
theorem dX0_meet_129 : decode cX0_meet 129 = .ok (.getfield 63, 3) := dk_180 0 63 (dk_at dksX0_meet_5 16 rfl rfl)
theorem dX0_meet_132 : decode cX0_meet 132 = .ok (.iload_n 3, 1) := dk_29 (dk_at dksX0_meet_5 19 rfl rfl)
theorem dX0_meet_133 : decode cX0_meet 133 = .ok (.aload_n 0, 1) := dk_42 (dk_at dksX0_meet_5 20 rfl rfl)
theorem dX0_meet_134 : decode cX0_meet 134 = .ok (.getfield 63, 3) := dk_180 0 63 (dk_at dksX0_meet_5 21 rfl rfl)
theorem dX0_meet_137 : decode cX0_meet 137 = .ok (.iload_n 3, 1) := dk_29 (dk_at dksX0_meet_6 0 rfl rfl)
theorem dX0_meet_138 : decode cX0_meet 138 = .ok (.iconst 1, 1) := dk_4 (dk_at dksX0_meet_6 1 rfl rfl)
theorem dX0_meet_139 : decode cX0_meet 139 = .ok (.isub, 1) := dk_100 (dk_at dksX0_meet_6 2 rfl rfl)
theorem dX0_meet_140 : decode cX0_meet 140 = .ok (.iaload, 1) := dk_46 (dk_at dksX0_meet_6 3 rfl rfl)
theorem dX0_meet_141 : decode cX0_meet 141 = .ok (.iastore, 1) := dk_79 (dk_at dksX0_meet_6 4 rfl rfl)
theorem dX0_meet_142 : decode cX0_meet 142 = .ok (.iinc 3 (-1), 3) := dk_132 3 255 (dk_at dksX0_meet_6 5 rfl rfl)
theorem dX0_meet_145 : decode cX0_meet 145 = .ok (.goto (-41), 3) := dk_167 255 215 (dk_at dksX0_meet_6 8 rfl rfl)
theorem dX0_meet_148 : decode cX0_meet 148 = .ok (.aload_n 0, 1) := dk_42 (dk_at dksX0_meet_6 11 rfl rfl)
theorem dX0_meet_149 : decode cX0_meet 149 = .ok (.getfield 63, 3) := dk_180 0 63 (dk_at dksX0_meet_6 12 rfl rfl)
theorem dX0_meet_152 : decode cX0_meet 152 = .ok (.iload_n 3, 1) := dk_29 (dk_at dksX0_meet_6 15 rfl rfl)
theorem dX0_meet_153 : decode cX0_meet 153 = .ok (.aload_n 0, 1) := dk_42 (dk_at dksX0_meet_6 16 rfl rfl)
theorem dX0_meet_154 : decode cX0_meet 154 = .ok (.dup, 1) := dk_89 (dk_at dksX0_meet_6 17 rfl rfl)
theorem dX0_meet_155 : decode cX0_meet 155 = .ok (.getfield 141, 3) := dk_180 0 141 (dk_at dksX0_meet_6 18 rfl rfl)
theorem dX0_meet_158 : decode cX0_meet 158 = .ok (.dup_x1, 1) := dk_90 (dk_at dksX0_meet_6 21 rfl rfl)
theorem dX0_meet_159 : decode cX0_meet 159 = .ok (.iconst 1, 1) := dk_4 (dk_at dksX0_meet_6 22 rfl rfl)
theorem dX0_meet_160 : decode cX0_meet 160 = .ok (.iadd, 1) := dk_96 (dk_at dksX0_meet_6 23 rfl rfl)
theorem dX0_meet_161 : decode cX0_meet 161 = .ok (.putfield 141, 3) := dk_181 0 141 (dk_at dksX0_meet_7 0 rfl rfl)
theorem dX0_meet_164 : decode cX0_meet 164 = .ok (.iastore, 1) := dk_79 (dk_at dksX0_meet_7 3 rfl rfl)
theorem dX0_meet_165 : decode cX0_meet 165 = .ok (.aload_n 0, 1) := dk_42 (dk_at dksX0_meet_7 4 rfl rfl)
theorem dX0_meet_166 : decode cX0_meet 166 = .ok (.getfield 141, 3) := dk_180 0 141 (dk_at dksX0_meet_7 5 rfl rfl)
theorem dX0_meet_169 : decode cX0_meet 169 = .ok (.iconst 1, 1) := dk_4 (dk_at dksX0_meet_7 8 rfl rfl)
theorem dX0_meet_170 : decode cX0_meet 170 = .ok (.isub, 1) := dk_100 (dk_at dksX0_meet_7 9 rfl rfl)
theorem dX0_meet_171 : decode cX0_meet 171 = .ok (.ireturn, 1) := dk_172 (dk_at dksX0_meet_7 10 rfl rfl)
abbrev cX0_isPerson : ByteArray := prog_1_method_14_code
def yX0_isPerson : MethodName := ⟨RX0, "isPerson", "(I)Z"⟩
def dkwX0_isPerson_0 : List UInt8 := [27, 133, 9, 42, 180, 0, 134, 4, 100, 133, 184, 0, 112, 172]
abbrev dktX0_isPerson_0 : List UInt8 := dkwX0_isPerson_0 ++ []
theorem dksX0_isPerson_0 : cX0_isPerson.data.toList.drop 0 = dktX0_isPerson_0 := by decide +kernel
theorem dX0_isPerson_0 : decode cX0_isPerson 0 = .ok (.iload_n 1, 1) := dk_27 (dk_at dksX0_isPerson_0 0 rfl rfl)
theorem dX0_isPerson_1 : decode cX0_isPerson 1 = .ok (.i2l, 1) := dk_133 (dk_at dksX0_isPerson_0 1 rfl rfl)
theorem dX0_isPerson_2 : decode cX0_isPerson 2 = .ok (.lconst 0, 1) := dk_9 (dk_at dksX0_isPerson_0 2 rfl rfl)
theorem dX0_isPerson_3 : decode cX0_isPerson 3 = .ok (.aload_n 0, 1) := dk_42 (dk_at dksX0_isPerson_0 3 rfl rfl)
theorem dX0_isPerson_4 : decode cX0_isPerson 4 = .ok (.getfield 134, 3) := dk_180 0 134 (dk_at dksX0_isPerson_0 4 rfl rfl)
theorem dX0_isPerson_7 : decode cX0_isPerson 7 = .ok (.iconst 1, 1) := dk_4 (dk_at dksX0_isPerson_0 7 rfl rfl)
theorem dX0_isPerson_8 : decode cX0_isPerson 8 = .ok (.isub, 1) := dk_100 (dk_at dksX0_isPerson_0 8 rfl rfl)
theorem dX0_isPerson_9 : decode cX0_isPerson 9 = .ok (.i2l, 1) := dk_133 (dk_at dksX0_isPerson_0 9 rfl rfl)
theorem dX0_isPerson_10 : decode cX0_isPerson 10 = .ok (.invokestatic 112, 3) := dk_184 0 112 (dk_at dksX0_isPerson_0 10 rfl rfl)
theorem dX0_isPerson_13 : decode cX0_isPerson 13 = .ok (.ireturn, 1) := dk_172 (dk_at dksX0_isPerson_0 13 rfl rfl)
abbrev cX0_doLive : ByteArray := prog_1_method_23_code
def yX0_doLive : MethodName := ⟨RX0, "doLive", "(III)Z"⟩
def dkwX0_doLive_1 : List UInt8 := [153, 0, 7, 4, 167, 0, 4, 3, 172]
abbrev dktX0_doLive_1 : List UInt8 := dkwX0_doLive_1 ++ []
def dkwX0_doLive_0 : List UInt8 := [42, 180, 0, 50, 27, 50, 29, 182, 0, 188, 153, 0, 20, 42, 180, 0, 50, 28, 50, 29, 182, 0, 188]
abbrev dktX0_doLive_0 : List UInt8 := dkwX0_doLive_0 ++ dktX0_doLive_1
theorem dksX0_doLive_0 : cX0_doLive.data.toList.drop 0 = dktX0_doLive_0 := by decide +kernel
theorem dksX0_doLive_1 : cX0_doLive.data.toList.drop 23 = dktX0_doLive_1 := dk_seg dksX0_doLive_0 23 rfl rfl
theorem dX0_doLive_0 : decode cX0_doLive 0 = .ok (.aload_n 0, 1) := dk_42 (dk_at dksX0_doLive_0 0 rfl rfl)
theorem dX0_doLive_1 : decode cX0_doLive 1 = .ok (.getfield 50, 3) := dk_180 0 50 (dk_at dksX0_doLive_0 1 rfl rfl)
theorem dX0_doLive_4 : decode cX0_doLive 4 = .ok (.iload_n 1, 1) := dk_27 (dk_at dksX0_doLive_0 4 rfl rfl)
theorem dX0_doLive_5 : decode cX0_doLive 5 = .ok (.aaload, 1) := dk_50 (dk_at dksX0_doLive_0 5 rfl rfl)
theorem dX0_doLive_6 : decode cX0_doLive 6 = .ok (.iload_n 3, 1) := dk_29 (dk_at dksX0_doLive_0 6 rfl rfl)
theorem dX0_doLive_7 : decode cX0_doLive 7 = .ok (.invokevirtual 188, 3) := dk_182 0 188 (dk_at dksX0_doLive_0 7 rfl rfl)
theorem dX0_doLive_10 : decode cX0_doLive 10 = .ok (.ifCond .eq 20, 3) := dk_153 0 20 (dk_at dksX0_doLive_0 10 rfl rfl)
theorem dX0_doLive_13 : decode cX0_doLive 13 = .ok (.aload_n 0, 1) := dk_42 (dk_at dksX0_doLive_0 13 rfl rfl)
theorem dX0_doLive_14 : decode cX0_doLive 14 = .ok (.getfield 50, 3) := dk_180 0 50 (dk_at dksX0_doLive_0 14 rfl rfl)
theorem dX0_doLive_17 : decode cX0_doLive 17 = .ok (.iload_n 2, 1) := dk_28 (dk_at dksX0_doLive_0 17 rfl rfl)
theorem dX0_doLive_18 : decode cX0_doLive 18 = .ok (.aaload, 1) := dk_50 (dk_at dksX0_doLive_0 18 rfl rfl)
theorem dX0_doLive_19 : decode cX0_doLive 19 = .ok (.iload_n 3, 1) := dk_29 (dk_at dksX0_doLive_0 19 rfl rfl)
theorem dX0_doLive_20 : decode cX0_doLive 20 = .ok (.invokevirtual 188, 3) := dk_182 0 188 (dk_at dksX0_doLive_0 20 rfl rfl)
theorem dX0_doLive_23 : decode cX0_doLive 23 = .ok (.ifCond .eq 7, 3) := dk_153 0 7 (dk_at dksX0_doLive_1 0 rfl rfl)
theorem dX0_doLive_26 : decode cX0_doLive 26 = .ok (.iconst 1, 1) := dk_4 (dk_at dksX0_doLive_1 3 rfl rfl)
theorem dX0_doLive_27 : decode cX0_doLive 27 = .ok (.goto 4, 3) := dk_167 0 4 (dk_at dksX0_doLive_1 4 rfl rfl)
theorem dX0_doLive_30 : decode cX0_doLive 30 = .ok (.iconst 0, 1) := dk_3 (dk_at dksX0_doLive_1 7 rfl rfl)
theorem dX0_doLive_31 : decode cX0_doLive 31 = .ok (.ireturn, 1) := dk_172 (dk_at dksX0_doLive_1 8 rfl rfl)
abbrev cX0_hearing : ByteArray := prog_1_method_26_code
def yX0_hearing : MethodName := ⟨RX0, "hearing", "(I)I"⟩
def dkwX0_hearing_0 : List UInt8 := [27, 133, 9, 10, 184, 0, 112, 154, 0, 5, 2, 172, 42, 180, 0, 210, 61, 42, 27, 181, 0, 210, 28, 172]
abbrev dktX0_hearing_0 : List UInt8 := dkwX0_hearing_0 ++ []
theorem dksX0_hearing_0 : cX0_hearing.data.toList.drop 0 = dktX0_hearing_0 := by decide +kernel
theorem dX0_hearing_0 : decode cX0_hearing 0 = .ok (.iload_n 1, 1) := dk_27 (dk_at dksX0_hearing_0 0 rfl rfl)
theorem dX0_hearing_1 : decode cX0_hearing 1 = .ok (.i2l, 1) := dk_133 (dk_at dksX0_hearing_0 1 rfl rfl)
theorem dX0_hearing_2 : decode cX0_hearing 2 = .ok (.lconst 0, 1) := dk_9 (dk_at dksX0_hearing_0 2 rfl rfl)
theorem dX0_hearing_3 : decode cX0_hearing 3 = .ok (.lconst 1, 1) := dk_10 (dk_at dksX0_hearing_0 3 rfl rfl)
theorem dX0_hearing_4 : decode cX0_hearing 4 = .ok (.invokestatic 112, 3) := dk_184 0 112 (dk_at dksX0_hearing_0 4 rfl rfl)
theorem dX0_hearing_7 : decode cX0_hearing 7 = .ok (.ifCond .ne 5, 3) := dk_154 0 5 (dk_at dksX0_hearing_0 7 rfl rfl)
theorem dX0_hearing_10 : decode cX0_hearing 10 = .ok (.iconst (-1), 1) := dk_2 (dk_at dksX0_hearing_0 10 rfl rfl)
theorem dX0_hearing_11 : decode cX0_hearing 11 = .ok (.ireturn, 1) := dk_172 (dk_at dksX0_hearing_0 11 rfl rfl)
theorem dX0_hearing_12 : decode cX0_hearing 12 = .ok (.aload_n 0, 1) := dk_42 (dk_at dksX0_hearing_0 12 rfl rfl)
theorem dX0_hearing_13 : decode cX0_hearing 13 = .ok (.getfield 210, 3) := dk_180 0 210 (dk_at dksX0_hearing_0 13 rfl rfl)
theorem dX0_hearing_16 : decode cX0_hearing 16 = .ok (.istore_n 2, 1) := dk_61 (dk_at dksX0_hearing_0 16 rfl rfl)
theorem dX0_hearing_17 : decode cX0_hearing 17 = .ok (.aload_n 0, 1) := dk_42 (dk_at dksX0_hearing_0 17 rfl rfl)
theorem dX0_hearing_18 : decode cX0_hearing 18 = .ok (.iload_n 1, 1) := dk_27 (dk_at dksX0_hearing_0 18 rfl rfl)
theorem dX0_hearing_19 : decode cX0_hearing 19 = .ok (.putfield 210, 3) := dk_181 0 210 (dk_at dksX0_hearing_0 19 rfl rfl)
theorem dX0_hearing_22 : decode cX0_hearing 22 = .ok (.iload_n 2, 1) := dk_28 (dk_at dksX0_hearing_0 22 rfl rfl)
theorem dX0_hearing_23 : decode cX0_hearing 23 = .ok (.ireturn, 1) := dk_172 (dk_at dksX0_hearing_0 23 rfl rfl)
abbrev cX0_name : ByteArray := prog_1_method_27_code
def yX0_name : MethodName := ⟨RX0, "name", "(II)I"⟩
def dkwX0_name_1 : List UInt8 := [180, 0, 50, 27, 50, 180, 0, 185, 62, 42, 180, 0, 50, 27, 50, 28, 181, 0, 185, 29, 172]
abbrev dktX0_name_1 : List UInt8 := dkwX0_name_1 ++ []
def dkwX0_name_0 : List UInt8 := [42, 27, 182, 0, 191, 153, 0, 15, 28, 2, 159, 0, 13, 28, 184, 0, 182, 154, 0, 6, 18, 213, 172, 42]
abbrev dktX0_name_0 : List UInt8 := dkwX0_name_0 ++ dktX0_name_1
theorem dksX0_name_0 : cX0_name.data.toList.drop 0 = dktX0_name_0 := by decide +kernel
theorem dksX0_name_1 : cX0_name.data.toList.drop 24 = dktX0_name_1 := dk_seg dksX0_name_0 24 rfl rfl
theorem dX0_name_0 : decode cX0_name 0 = .ok (.aload_n 0, 1) := dk_42 (dk_at dksX0_name_0 0 rfl rfl)
theorem dX0_name_1 : decode cX0_name 1 = .ok (.iload_n 1, 1) := dk_27 (dk_at dksX0_name_0 1 rfl rfl)
theorem dX0_name_2 : decode cX0_name 2 = .ok (.invokevirtual 191, 3) := dk_182 0 191 (dk_at dksX0_name_0 2 rfl rfl)
theorem dX0_name_5 : decode cX0_name 5 = .ok (.ifCond .eq 15, 3) := dk_153 0 15 (dk_at dksX0_name_0 5 rfl rfl)
theorem dX0_name_8 : decode cX0_name 8 = .ok (.iload_n 2, 1) := dk_28 (dk_at dksX0_name_0 8 rfl rfl)
theorem dX0_name_9 : decode cX0_name 9 = .ok (.iconst (-1), 1) := dk_2 (dk_at dksX0_name_0 9 rfl rfl)
theorem dX0_name_10 : decode cX0_name 10 = .ok (.if_icmp .eq 13, 3) := dk_159 0 13 (dk_at dksX0_name_0 10 rfl rfl)
theorem dX0_name_13 : decode cX0_name 13 = .ok (.iload_n 2, 1) := dk_28 (dk_at dksX0_name_0 13 rfl rfl)
theorem dX0_name_14 : decode cX0_name 14 = .ok (.invokestatic 182, 3) := dk_184 0 182 (dk_at dksX0_name_0 14 rfl rfl)
theorem dX0_name_17 : decode cX0_name 17 = .ok (.ifCond .ne 6, 3) := dk_154 0 6 (dk_at dksX0_name_0 17 rfl rfl)
theorem dX0_name_20 : decode cX0_name 20 = .ok (.ldc 213, 2) := dk_18 213 (dk_at dksX0_name_0 20 rfl rfl)
theorem dX0_name_22 : decode cX0_name 22 = .ok (.ireturn, 1) := dk_172 (dk_at dksX0_name_0 22 rfl rfl)
theorem dX0_name_23 : decode cX0_name 23 = .ok (.aload_n 0, 1) := dk_42 (dk_at dksX0_name_0 23 rfl rfl)
theorem dX0_name_24 : decode cX0_name 24 = .ok (.getfield 50, 3) := dk_180 0 50 (dk_at dksX0_name_1 0 rfl rfl)
theorem dX0_name_27 : decode cX0_name 27 = .ok (.iload_n 1, 1) := dk_27 (dk_at dksX0_name_1 3 rfl rfl)
theorem dX0_name_28 : decode cX0_name 28 = .ok (.aaload, 1) := dk_50 (dk_at dksX0_name_1 4 rfl rfl)
theorem dX0_name_29 : decode cX0_name 29 = .ok (.getfield 185, 3) := dk_180 0 185 (dk_at dksX0_name_1 5 rfl rfl)
theorem dX0_name_32 : decode cX0_name 32 = .ok (.istore_n 3, 1) := dk_62 (dk_at dksX0_name_1 8 rfl rfl)
theorem dX0_name_33 : decode cX0_name 33 = .ok (.aload_n 0, 1) := dk_42 (dk_at dksX0_name_1 9 rfl rfl)
theorem dX0_name_34 : decode cX0_name 34 = .ok (.getfield 50, 3) := dk_180 0 50 (dk_at dksX0_name_1 10 rfl rfl)
theorem dX0_name_37 : decode cX0_name 37 = .ok (.iload_n 1, 1) := dk_27 (dk_at dksX0_name_1 13 rfl rfl)
theorem dX0_name_38 : decode cX0_name 38 = .ok (.aaload, 1) := dk_50 (dk_at dksX0_name_1 14 rfl rfl)
theorem dX0_name_39 : decode cX0_name 39 = .ok (.iload_n 2, 1) := dk_28 (dk_at dksX0_name_1 15 rfl rfl)
theorem dX0_name_40 : decode cX0_name 40 = .ok (.putfield 185, 3) := dk_181 0 185 (dk_at dksX0_name_1 16 rfl rfl)
theorem dX0_name_43 : decode cX0_name 43 = .ok (.iload_n 3, 1) := dk_29 (dk_at dksX0_name_1 19 rfl rfl)
theorem dX0_name_44 : decode cX0_name 44 = .ok (.ireturn, 1) := dk_172 (dk_at dksX0_name_1 20 rfl rfl)
abbrev cX0_fame : ByteArray := prog_1_method_28_code
def yX0_fame : MethodName := ⟨RX0, "fame", "(II)I"⟩
def dkwX0_fame_1 : List UInt8 := [46, 62, 42, 180, 0, 70, 27, 28, 79, 29, 172]
abbrev dktX0_fame_1 : List UInt8 := dkwX0_fame_1 ++ []
def dkwX0_fame_0 : List UInt8 := [27, 184, 0, 182, 153, 0, 13, 28, 133, 9, 10, 184, 0, 112, 154, 0, 5, 2, 172, 42, 180, 0, 70, 27]
abbrev dktX0_fame_0 : List UInt8 := dkwX0_fame_0 ++ dktX0_fame_1
theorem dksX0_fame_0 : cX0_fame.data.toList.drop 0 = dktX0_fame_0 := by decide +kernel
theorem dksX0_fame_1 : cX0_fame.data.toList.drop 24 = dktX0_fame_1 := dk_seg dksX0_fame_0 24 rfl rfl
theorem dX0_fame_0 : decode cX0_fame 0 = .ok (.iload_n 1, 1) := dk_27 (dk_at dksX0_fame_0 0 rfl rfl)
theorem dX0_fame_1 : decode cX0_fame 1 = .ok (.invokestatic 182, 3) := dk_184 0 182 (dk_at dksX0_fame_0 1 rfl rfl)
theorem dX0_fame_4 : decode cX0_fame 4 = .ok (.ifCond .eq 13, 3) := dk_153 0 13 (dk_at dksX0_fame_0 4 rfl rfl)
theorem dX0_fame_7 : decode cX0_fame 7 = .ok (.iload_n 2, 1) := dk_28 (dk_at dksX0_fame_0 7 rfl rfl)
theorem dX0_fame_8 : decode cX0_fame 8 = .ok (.i2l, 1) := dk_133 (dk_at dksX0_fame_0 8 rfl rfl)
theorem dX0_fame_9 : decode cX0_fame 9 = .ok (.lconst 0, 1) := dk_9 (dk_at dksX0_fame_0 9 rfl rfl)
theorem dX0_fame_10 : decode cX0_fame 10 = .ok (.lconst 1, 1) := dk_10 (dk_at dksX0_fame_0 10 rfl rfl)
theorem dX0_fame_11 : decode cX0_fame 11 = .ok (.invokestatic 112, 3) := dk_184 0 112 (dk_at dksX0_fame_0 11 rfl rfl)
theorem dX0_fame_14 : decode cX0_fame 14 = .ok (.ifCond .ne 5, 3) := dk_154 0 5 (dk_at dksX0_fame_0 14 rfl rfl)
theorem dX0_fame_17 : decode cX0_fame 17 = .ok (.iconst (-1), 1) := dk_2 (dk_at dksX0_fame_0 17 rfl rfl)
theorem dX0_fame_18 : decode cX0_fame 18 = .ok (.ireturn, 1) := dk_172 (dk_at dksX0_fame_0 18 rfl rfl)
theorem dX0_fame_19 : decode cX0_fame 19 = .ok (.aload_n 0, 1) := dk_42 (dk_at dksX0_fame_0 19 rfl rfl)
theorem dX0_fame_20 : decode cX0_fame 20 = .ok (.getfield 70, 3) := dk_180 0 70 (dk_at dksX0_fame_0 20 rfl rfl)
theorem dX0_fame_23 : decode cX0_fame 23 = .ok (.iload_n 1, 1) := dk_27 (dk_at dksX0_fame_0 23 rfl rfl)
theorem dX0_fame_24 : decode cX0_fame 24 = .ok (.iaload, 1) := dk_46 (dk_at dksX0_fame_1 0 rfl rfl)
theorem dX0_fame_25 : decode cX0_fame 25 = .ok (.istore_n 3, 1) := dk_62 (dk_at dksX0_fame_1 1 rfl rfl)
theorem dX0_fame_26 : decode cX0_fame 26 = .ok (.aload_n 0, 1) := dk_42 (dk_at dksX0_fame_1 2 rfl rfl)
theorem dX0_fame_27 : decode cX0_fame 27 = .ok (.getfield 70, 3) := dk_180 0 70 (dk_at dksX0_fame_1 3 rfl rfl)
theorem dX0_fame_30 : decode cX0_fame 30 = .ok (.iload_n 1, 1) := dk_27 (dk_at dksX0_fame_1 6 rfl rfl)
theorem dX0_fame_31 : decode cX0_fame 31 = .ok (.iload_n 2, 1) := dk_28 (dk_at dksX0_fame_1 7 rfl rfl)
theorem dX0_fame_32 : decode cX0_fame 32 = .ok (.iastore, 1) := dk_79 (dk_at dksX0_fame_1 8 rfl rfl)
theorem dX0_fame_33 : decode cX0_fame 33 = .ok (.iload_n 3, 1) := dk_29 (dk_at dksX0_fame_1 9 rfl rfl)
theorem dX0_fame_34 : decode cX0_fame 34 = .ok (.ireturn, 1) := dk_172 (dk_at dksX0_fame_1 10 rfl rfl)
abbrev cX0_mend : ByteArray := prog_1_method_29_code
def yX0_mend : MethodName := ⟨RX0, "mend", "(III)I"⟩
def dkwX0_mend_4 : List UInt8 := [172]
abbrev dktX0_mend_4 : List UInt8 := dkwX0_mend_4 ++ []
def dkwX0_mend_3 : List UInt8 := [20, 0, 221, 184, 0, 112, 153, 0, 17, 42, 42, 180, 0, 66, 27, 50, 29, 182, 0, 217, 167, 0, 4, 2]
abbrev dktX0_mend_3 : List UInt8 := dkwX0_mend_3 ++ dktX0_mend_4
def dkwX0_mend_2 : List UInt8 := [182, 0, 217, 167, 0, 4, 2, 172, 28, 4, 160, 0, 36, 27, 184, 0, 182, 153, 0, 29, 29, 133, 9]
abbrev dktX0_mend_2 : List UInt8 := dkwX0_mend_2 ++ dktX0_mend_3
def dkwX0_mend_1 : List UInt8 := [96, 133, 20, 0, 147, 184, 0, 112, 153, 0, 20, 42, 42, 180, 0, 50, 27, 50, 180, 0, 214, 29]
abbrev dktX0_mend_1 : List UInt8 := dkwX0_mend_1 ++ dktX0_mend_2
def dkwX0_mend_0 : List UInt8 := [28, 154, 0, 53, 42, 27, 182, 0, 191, 153, 0, 43, 29, 133, 42, 180, 0, 50, 27, 50, 180, 0, 149, 4]
abbrev dktX0_mend_0 : List UInt8 := dkwX0_mend_0 ++ dktX0_mend_1
theorem dksX0_mend_0 : cX0_mend.data.toList.drop 0 = dktX0_mend_0 := by decide +kernel
theorem dksX0_mend_1 : cX0_mend.data.toList.drop 24 = dktX0_mend_1 := dk_seg dksX0_mend_0 24 rfl rfl
theorem dksX0_mend_2 : cX0_mend.data.toList.drop 46 = dktX0_mend_2 := dk_seg dksX0_mend_1 22 rfl rfl
theorem dksX0_mend_3 : cX0_mend.data.toList.drop 69 = dktX0_mend_3 := dk_seg dksX0_mend_2 23 rfl rfl
theorem dksX0_mend_4 : cX0_mend.data.toList.drop 93 = dktX0_mend_4 := dk_seg dksX0_mend_3 24 rfl rfl
theorem dX0_mend_0 : decode cX0_mend 0 = .ok (.iload_n 2, 1) := dk_28 (dk_at dksX0_mend_0 0 rfl rfl)
theorem dX0_mend_1 : decode cX0_mend 1 = .ok (.ifCond .ne 53, 3) := dk_154 0 53 (dk_at dksX0_mend_0 1 rfl rfl)
theorem dX0_mend_4 : decode cX0_mend 4 = .ok (.aload_n 0, 1) := dk_42 (dk_at dksX0_mend_0 4 rfl rfl)
theorem dX0_mend_5 : decode cX0_mend 5 = .ok (.iload_n 1, 1) := dk_27 (dk_at dksX0_mend_0 5 rfl rfl)
theorem dX0_mend_6 : decode cX0_mend 6 = .ok (.invokevirtual 191, 3) := dk_182 0 191 (dk_at dksX0_mend_0 6 rfl rfl)
theorem dX0_mend_9 : decode cX0_mend 9 = .ok (.ifCond .eq 43, 3) := dk_153 0 43 (dk_at dksX0_mend_0 9 rfl rfl)
theorem dX0_mend_12 : decode cX0_mend 12 = .ok (.iload_n 3, 1) := dk_29 (dk_at dksX0_mend_0 12 rfl rfl)
theorem dX0_mend_13 : decode cX0_mend 13 = .ok (.i2l, 1) := dk_133 (dk_at dksX0_mend_0 13 rfl rfl)
theorem dX0_mend_14 : decode cX0_mend 14 = .ok (.aload_n 0, 1) := dk_42 (dk_at dksX0_mend_0 14 rfl rfl)
theorem dX0_mend_15 : decode cX0_mend 15 = .ok (.getfield 50, 3) := dk_180 0 50 (dk_at dksX0_mend_0 15 rfl rfl)
theorem dX0_mend_18 : decode cX0_mend 18 = .ok (.iload_n 1, 1) := dk_27 (dk_at dksX0_mend_0 18 rfl rfl)
theorem dX0_mend_19 : decode cX0_mend 19 = .ok (.aaload, 1) := dk_50 (dk_at dksX0_mend_0 19 rfl rfl)
theorem dX0_mend_20 : decode cX0_mend 20 = .ok (.getfield 149, 3) := dk_180 0 149 (dk_at dksX0_mend_0 20 rfl rfl)
theorem dX0_mend_23 : decode cX0_mend 23 = .ok (.iconst 1, 1) := dk_4 (dk_at dksX0_mend_0 23 rfl rfl)
theorem dX0_mend_24 : decode cX0_mend 24 = .ok (.iadd, 1) := dk_96 (dk_at dksX0_mend_1 0 rfl rfl)
theorem dX0_mend_25 : decode cX0_mend 25 = .ok (.i2l, 1) := dk_133 (dk_at dksX0_mend_1 1 rfl rfl)
theorem dX0_mend_26 : decode cX0_mend 26 = .ok (.ldc2_w 147, 3) := dk_20 0 147 (dk_at dksX0_mend_1 2 rfl rfl)
theorem dX0_mend_29 : decode cX0_mend 29 = .ok (.invokestatic 112, 3) := dk_184 0 112 (dk_at dksX0_mend_1 5 rfl rfl)
theorem dX0_mend_32 : decode cX0_mend 32 = .ok (.ifCond .eq 20, 3) := dk_153 0 20 (dk_at dksX0_mend_1 8 rfl rfl)
theorem dX0_mend_35 : decode cX0_mend 35 = .ok (.aload_n 0, 1) := dk_42 (dk_at dksX0_mend_1 11 rfl rfl)
theorem dX0_mend_36 : decode cX0_mend 36 = .ok (.aload_n 0, 1) := dk_42 (dk_at dksX0_mend_1 12 rfl rfl)
theorem dX0_mend_37 : decode cX0_mend 37 = .ok (.getfield 50, 3) := dk_180 0 50 (dk_at dksX0_mend_1 13 rfl rfl)
theorem dX0_mend_40 : decode cX0_mend 40 = .ok (.iload_n 1, 1) := dk_27 (dk_at dksX0_mend_1 16 rfl rfl)
theorem dX0_mend_41 : decode cX0_mend 41 = .ok (.aaload, 1) := dk_50 (dk_at dksX0_mend_1 17 rfl rfl)
theorem dX0_mend_42 : decode cX0_mend 42 = .ok (.getfield 214, 3) := dk_180 0 214 (dk_at dksX0_mend_1 18 rfl rfl)
theorem dX0_mend_45 : decode cX0_mend 45 = .ok (.iload_n 3, 1) := dk_29 (dk_at dksX0_mend_1 21 rfl rfl)
theorem dX0_mend_46 : decode cX0_mend 46 = .ok (.invokevirtual 217, 3) := dk_182 0 217 (dk_at dksX0_mend_2 0 rfl rfl)
theorem dX0_mend_49 : decode cX0_mend 49 = .ok (.goto 4, 3) := dk_167 0 4 (dk_at dksX0_mend_2 3 rfl rfl)
theorem dX0_mend_52 : decode cX0_mend 52 = .ok (.iconst (-1), 1) := dk_2 (dk_at dksX0_mend_2 6 rfl rfl)
theorem dX0_mend_53 : decode cX0_mend 53 = .ok (.ireturn, 1) := dk_172 (dk_at dksX0_mend_2 7 rfl rfl)
theorem dX0_mend_54 : decode cX0_mend 54 = .ok (.iload_n 2, 1) := dk_28 (dk_at dksX0_mend_2 8 rfl rfl)
theorem dX0_mend_55 : decode cX0_mend 55 = .ok (.iconst 1, 1) := dk_4 (dk_at dksX0_mend_2 9 rfl rfl)
theorem dX0_mend_56 : decode cX0_mend 56 = .ok (.if_icmp .ne 36, 3) := dk_160 0 36 (dk_at dksX0_mend_2 10 rfl rfl)
theorem dX0_mend_59 : decode cX0_mend 59 = .ok (.iload_n 1, 1) := dk_27 (dk_at dksX0_mend_2 13 rfl rfl)
theorem dX0_mend_60 : decode cX0_mend 60 = .ok (.invokestatic 182, 3) := dk_184 0 182 (dk_at dksX0_mend_2 14 rfl rfl)
theorem dX0_mend_63 : decode cX0_mend 63 = .ok (.ifCond .eq 29, 3) := dk_153 0 29 (dk_at dksX0_mend_2 17 rfl rfl)
theorem dX0_mend_66 : decode cX0_mend 66 = .ok (.iload_n 3, 1) := dk_29 (dk_at dksX0_mend_2 20 rfl rfl)
theorem dX0_mend_67 : decode cX0_mend 67 = .ok (.i2l, 1) := dk_133 (dk_at dksX0_mend_2 21 rfl rfl)
theorem dX0_mend_68 : decode cX0_mend 68 = .ok (.lconst 0, 1) := dk_9 (dk_at dksX0_mend_2 22 rfl rfl)
theorem dX0_mend_69 : decode cX0_mend 69 = .ok (.ldc2_w 221, 3) := dk_20 0 221 (dk_at dksX0_mend_3 0 rfl rfl)
theorem dX0_mend_72 : decode cX0_mend 72 = .ok (.invokestatic 112, 3) := dk_184 0 112 (dk_at dksX0_mend_3 3 rfl rfl)
theorem dX0_mend_75 : decode cX0_mend 75 = .ok (.ifCond .eq 17, 3) := dk_153 0 17 (dk_at dksX0_mend_3 6 rfl rfl)
theorem dX0_mend_78 : decode cX0_mend 78 = .ok (.aload_n 0, 1) := dk_42 (dk_at dksX0_mend_3 9 rfl rfl)
theorem dX0_mend_79 : decode cX0_mend 79 = .ok (.aload_n 0, 1) := dk_42 (dk_at dksX0_mend_3 10 rfl rfl)
theorem dX0_mend_80 : decode cX0_mend 80 = .ok (.getfield 66, 3) := dk_180 0 66 (dk_at dksX0_mend_3 11 rfl rfl)
theorem dX0_mend_83 : decode cX0_mend 83 = .ok (.iload_n 1, 1) := dk_27 (dk_at dksX0_mend_3 14 rfl rfl)
theorem dX0_mend_84 : decode cX0_mend 84 = .ok (.aaload, 1) := dk_50 (dk_at dksX0_mend_3 15 rfl rfl)
theorem dX0_mend_85 : decode cX0_mend 85 = .ok (.iload_n 3, 1) := dk_29 (dk_at dksX0_mend_3 16 rfl rfl)
theorem dX0_mend_86 : decode cX0_mend 86 = .ok (.invokevirtual 217, 3) := dk_182 0 217 (dk_at dksX0_mend_3 17 rfl rfl)
theorem dX0_mend_89 : decode cX0_mend 89 = .ok (.goto 4, 3) := dk_167 0 4 (dk_at dksX0_mend_3 20 rfl rfl)
theorem dX0_mend_92 : decode cX0_mend 92 = .ok (.iconst (-1), 1) := dk_2 (dk_at dksX0_mend_3 23 rfl rfl)
theorem dX0_mend_93 : decode cX0_mend 93 = .ok (.ireturn, 1) := dk_172 (dk_at dksX0_mend_4 0 rfl rfl)
abbrev cX0_become : ByteArray := prog_1_method_5_code
def yX0_become : MethodName := ⟨RX0, "become", "(LNameRests$Held;I)I"⟩
def dkwX0_become_5 : List UInt8 := [180, 0, 7, 4, 96, 90, 181, 0, 7, 181, 0, 28, 29, 172]
abbrev dktX0_become_5 : List UInt8 := dkwX0_become_5 ++ []
def dkwX0_become_4 : List UInt8 := [181, 0, 16, 25, 4, 29, 181, 0, 22, 25, 4, 28, 181, 0, 25, 43, 28, 181, 0, 1, 42, 42, 89]
abbrev dktX0_become_4 : List UInt8 := dkwX0_become_4 ++ dktX0_become_5
def dkwX0_become_3 : List UInt8 := [42, 89, 180, 0, 7, 4, 100, 181, 0, 7, 42, 180, 0, 12, 42, 180, 0, 7, 50, 58, 4, 25, 4, 43]
abbrev dktX0_become_3 : List UInt8 := dkwX0_become_3 ++ dktX0_become_4
def dkwX0_become_2 : List UInt8 := [100, 42, 180, 0, 12, 21, 5, 50, 83, 132, 5, 1, 167, 255, 230, 42, 180, 0, 12, 16, 39, 25, 4, 83]
abbrev dktX0_become_2 : List UInt8 := dkwX0_become_2 ++ dktX0_become_3
def dkwX0_become_1 : List UInt8 := [180, 0, 12, 3, 50, 58, 4, 4, 54, 5, 21, 5, 16, 40, 162, 0, 25, 42, 180, 0, 12, 21, 5, 4]
abbrev dktX0_become_1 : List UInt8 := dkwX0_become_1 ++ dktX0_become_2
def dkwX0_become_0 : List UInt8 := [43, 180, 0, 1, 62, 29, 28, 160, 0, 5, 29, 172, 42, 180, 0, 7, 16, 40, 160, 0, 62, 42]
abbrev dktX0_become_0 : List UInt8 := dkwX0_become_0 ++ dktX0_become_1
theorem dksX0_become_0 : cX0_become.data.toList.drop 0 = dktX0_become_0 := by decide +kernel
theorem dksX0_become_1 : cX0_become.data.toList.drop 22 = dktX0_become_1 := dk_seg dksX0_become_0 22 rfl rfl
theorem dksX0_become_2 : cX0_become.data.toList.drop 46 = dktX0_become_2 := dk_seg dksX0_become_1 24 rfl rfl
theorem dksX0_become_3 : cX0_become.data.toList.drop 70 = dktX0_become_3 := dk_seg dksX0_become_2 24 rfl rfl
theorem dksX0_become_4 : cX0_become.data.toList.drop 94 = dktX0_become_4 := dk_seg dksX0_become_3 24 rfl rfl
theorem dksX0_become_5 : cX0_become.data.toList.drop 117 = dktX0_become_5 := dk_seg dksX0_become_4 23 rfl rfl
theorem dX0_become_0 : decode cX0_become 0 = .ok (.aload_n 1, 1) := dk_43 (dk_at dksX0_become_0 0 rfl rfl)
theorem dX0_become_1 : decode cX0_become 1 = .ok (.getfield 1, 3) := dk_180 0 1 (dk_at dksX0_become_0 1 rfl rfl)
theorem dX0_become_4 : decode cX0_become 4 = .ok (.istore_n 3, 1) := dk_62 (dk_at dksX0_become_0 4 rfl rfl)
theorem dX0_become_5 : decode cX0_become 5 = .ok (.iload_n 3, 1) := dk_29 (dk_at dksX0_become_0 5 rfl rfl)
theorem dX0_become_6 : decode cX0_become 6 = .ok (.iload_n 2, 1) := dk_28 (dk_at dksX0_become_0 6 rfl rfl)
theorem dX0_become_7 : decode cX0_become 7 = .ok (.if_icmp .ne 5, 3) := dk_160 0 5 (dk_at dksX0_become_0 7 rfl rfl)
theorem dX0_become_10 : decode cX0_become 10 = .ok (.iload_n 3, 1) := dk_29 (dk_at dksX0_become_0 10 rfl rfl)
theorem dX0_become_11 : decode cX0_become 11 = .ok (.ireturn, 1) := dk_172 (dk_at dksX0_become_0 11 rfl rfl)
theorem dX0_become_12 : decode cX0_become 12 = .ok (.aload_n 0, 1) := dk_42 (dk_at dksX0_become_0 12 rfl rfl)
theorem dX0_become_13 : decode cX0_become 13 = .ok (.getfield 7, 3) := dk_180 0 7 (dk_at dksX0_become_0 13 rfl rfl)
theorem dX0_become_16 : decode cX0_become 16 = .ok (.bipush 40, 2) := dk_16 40 (dk_at dksX0_become_0 16 rfl rfl)
theorem dX0_become_18 : decode cX0_become 18 = .ok (.if_icmp .ne 62, 3) := dk_160 0 62 (dk_at dksX0_become_0 18 rfl rfl)
theorem dX0_become_21 : decode cX0_become 21 = .ok (.aload_n 0, 1) := dk_42 (dk_at dksX0_become_0 21 rfl rfl)
theorem dX0_become_22 : decode cX0_become 22 = .ok (.getfield 12, 3) := dk_180 0 12 (dk_at dksX0_become_1 0 rfl rfl)
theorem dX0_become_25 : decode cX0_become 25 = .ok (.iconst 0, 1) := dk_3 (dk_at dksX0_become_1 3 rfl rfl)
theorem dX0_become_26 : decode cX0_become 26 = .ok (.aaload, 1) := dk_50 (dk_at dksX0_become_1 4 rfl rfl)
theorem dX0_become_27 : decode cX0_become 27 = .ok (.astore 4, 2) := dk_58 4 (dk_at dksX0_become_1 5 rfl rfl)
theorem dX0_become_29 : decode cX0_become 29 = .ok (.iconst 1, 1) := dk_4 (dk_at dksX0_become_1 7 rfl rfl)
theorem dX0_become_30 : decode cX0_become 30 = .ok (.istore 5, 2) := dk_54 5 (dk_at dksX0_become_1 8 rfl rfl)
theorem dX0_become_32 : decode cX0_become 32 = .ok (.iload 5, 2) := dk_21 5 (dk_at dksX0_become_1 10 rfl rfl)
theorem dX0_become_34 : decode cX0_become 34 = .ok (.bipush 40, 2) := dk_16 40 (dk_at dksX0_become_1 12 rfl rfl)
theorem dX0_become_36 : decode cX0_become 36 = .ok (.if_icmp .ge 25, 3) := dk_162 0 25 (dk_at dksX0_become_1 14 rfl rfl)
theorem dX0_become_39 : decode cX0_become 39 = .ok (.aload_n 0, 1) := dk_42 (dk_at dksX0_become_1 17 rfl rfl)
theorem dX0_become_40 : decode cX0_become 40 = .ok (.getfield 12, 3) := dk_180 0 12 (dk_at dksX0_become_1 18 rfl rfl)
theorem dX0_become_43 : decode cX0_become 43 = .ok (.iload 5, 2) := dk_21 5 (dk_at dksX0_become_1 21 rfl rfl)
theorem dX0_become_45 : decode cX0_become 45 = .ok (.iconst 1, 1) := dk_4 (dk_at dksX0_become_1 23 rfl rfl)
theorem dX0_become_46 : decode cX0_become 46 = .ok (.isub, 1) := dk_100 (dk_at dksX0_become_2 0 rfl rfl)
theorem dX0_become_47 : decode cX0_become 47 = .ok (.aload_n 0, 1) := dk_42 (dk_at dksX0_become_2 1 rfl rfl)
theorem dX0_become_48 : decode cX0_become 48 = .ok (.getfield 12, 3) := dk_180 0 12 (dk_at dksX0_become_2 2 rfl rfl)
theorem dX0_become_51 : decode cX0_become 51 = .ok (.iload 5, 2) := dk_21 5 (dk_at dksX0_become_2 5 rfl rfl)
theorem dX0_become_53 : decode cX0_become 53 = .ok (.aaload, 1) := dk_50 (dk_at dksX0_become_2 7 rfl rfl)
theorem dX0_become_54 : decode cX0_become 54 = .ok (.aastore, 1) := dk_83 (dk_at dksX0_become_2 8 rfl rfl)
theorem dX0_become_55 : decode cX0_become 55 = .ok (.iinc 5 1, 3) := dk_132 5 1 (dk_at dksX0_become_2 9 rfl rfl)
theorem dX0_become_58 : decode cX0_become 58 = .ok (.goto (-26), 3) := dk_167 255 230 (dk_at dksX0_become_2 12 rfl rfl)
theorem dX0_become_61 : decode cX0_become 61 = .ok (.aload_n 0, 1) := dk_42 (dk_at dksX0_become_2 15 rfl rfl)
theorem dX0_become_62 : decode cX0_become 62 = .ok (.getfield 12, 3) := dk_180 0 12 (dk_at dksX0_become_2 16 rfl rfl)
theorem dX0_become_65 : decode cX0_become 65 = .ok (.bipush 39, 2) := dk_16 39 (dk_at dksX0_become_2 19 rfl rfl)
theorem dX0_become_67 : decode cX0_become 67 = .ok (.aload 4, 2) := dk_25 4 (dk_at dksX0_become_2 21 rfl rfl)
theorem dX0_become_69 : decode cX0_become 69 = .ok (.aastore, 1) := dk_83 (dk_at dksX0_become_2 23 rfl rfl)
theorem dX0_become_70 : decode cX0_become 70 = .ok (.aload_n 0, 1) := dk_42 (dk_at dksX0_become_3 0 rfl rfl)
theorem dX0_become_71 : decode cX0_become 71 = .ok (.dup, 1) := dk_89 (dk_at dksX0_become_3 1 rfl rfl)
theorem dX0_become_72 : decode cX0_become 72 = .ok (.getfield 7, 3) := dk_180 0 7 (dk_at dksX0_become_3 2 rfl rfl)
theorem dX0_become_75 : decode cX0_become 75 = .ok (.iconst 1, 1) := dk_4 (dk_at dksX0_become_3 5 rfl rfl)
theorem dX0_become_76 : decode cX0_become 76 = .ok (.isub, 1) := dk_100 (dk_at dksX0_become_3 6 rfl rfl)
theorem dX0_become_77 : decode cX0_become 77 = .ok (.putfield 7, 3) := dk_181 0 7 (dk_at dksX0_become_3 7 rfl rfl)
theorem dX0_become_80 : decode cX0_become 80 = .ok (.aload_n 0, 1) := dk_42 (dk_at dksX0_become_3 10 rfl rfl)
theorem dX0_become_81 : decode cX0_become 81 = .ok (.getfield 12, 3) := dk_180 0 12 (dk_at dksX0_become_3 11 rfl rfl)
theorem dX0_become_84 : decode cX0_become 84 = .ok (.aload_n 0, 1) := dk_42 (dk_at dksX0_become_3 14 rfl rfl)
theorem dX0_become_85 : decode cX0_become 85 = .ok (.getfield 7, 3) := dk_180 0 7 (dk_at dksX0_become_3 15 rfl rfl)
theorem dX0_become_88 : decode cX0_become 88 = .ok (.aaload, 1) := dk_50 (dk_at dksX0_become_3 18 rfl rfl)
theorem dX0_become_89 : decode cX0_become 89 = .ok (.astore 4, 2) := dk_58 4 (dk_at dksX0_become_3 19 rfl rfl)
theorem dX0_become_91 : decode cX0_become 91 = .ok (.aload 4, 2) := dk_25 4 (dk_at dksX0_become_3 21 rfl rfl)
theorem dX0_become_93 : decode cX0_become 93 = .ok (.aload_n 1, 1) := dk_43 (dk_at dksX0_become_3 23 rfl rfl)
theorem dX0_become_94 : decode cX0_become 94 = .ok (.putfield 16, 3) := dk_181 0 16 (dk_at dksX0_become_4 0 rfl rfl)
theorem dX0_become_97 : decode cX0_become 97 = .ok (.aload 4, 2) := dk_25 4 (dk_at dksX0_become_4 3 rfl rfl)
theorem dX0_become_99 : decode cX0_become 99 = .ok (.iload_n 3, 1) := dk_29 (dk_at dksX0_become_4 5 rfl rfl)
theorem dX0_become_100 : decode cX0_become 100 = .ok (.putfield 22, 3) := dk_181 0 22 (dk_at dksX0_become_4 6 rfl rfl)
theorem dX0_become_103 : decode cX0_become 103 = .ok (.aload 4, 2) := dk_25 4 (dk_at dksX0_become_4 9 rfl rfl)
theorem dX0_become_105 : decode cX0_become 105 = .ok (.iload_n 2, 1) := dk_28 (dk_at dksX0_become_4 11 rfl rfl)
theorem dX0_become_106 : decode cX0_become 106 = .ok (.putfield 25, 3) := dk_181 0 25 (dk_at dksX0_become_4 12 rfl rfl)
theorem dX0_become_109 : decode cX0_become 109 = .ok (.aload_n 1, 1) := dk_43 (dk_at dksX0_become_4 15 rfl rfl)
theorem dX0_become_110 : decode cX0_become 110 = .ok (.iload_n 2, 1) := dk_28 (dk_at dksX0_become_4 16 rfl rfl)
theorem dX0_become_111 : decode cX0_become 111 = .ok (.putfield 1, 3) := dk_181 0 1 (dk_at dksX0_become_4 17 rfl rfl)
theorem dX0_become_114 : decode cX0_become 114 = .ok (.aload_n 0, 1) := dk_42 (dk_at dksX0_become_4 20 rfl rfl)
theorem dX0_become_115 : decode cX0_become 115 = .ok (.aload_n 0, 1) := dk_42 (dk_at dksX0_become_4 21 rfl rfl)
theorem dX0_become_116 : decode cX0_become 116 = .ok (.dup, 1) := dk_89 (dk_at dksX0_become_4 22 rfl rfl)
theorem dX0_become_117 : decode cX0_become 117 = .ok (.getfield 7, 3) := dk_180 0 7 (dk_at dksX0_become_5 0 rfl rfl)
theorem dX0_become_120 : decode cX0_become 120 = .ok (.iconst 1, 1) := dk_4 (dk_at dksX0_become_5 3 rfl rfl)
theorem dX0_become_121 : decode cX0_become 121 = .ok (.iadd, 1) := dk_96 (dk_at dksX0_become_5 4 rfl rfl)
theorem dX0_become_122 : decode cX0_become 122 = .ok (.dup_x1, 1) := dk_90 (dk_at dksX0_become_5 5 rfl rfl)
theorem dX0_become_123 : decode cX0_become 123 = .ok (.putfield 7, 3) := dk_181 0 7 (dk_at dksX0_become_5 6 rfl rfl)
theorem dX0_become_126 : decode cX0_become 126 = .ok (.putfield 28, 3) := dk_181 0 28 (dk_at dksX0_become_5 9 rfl rfl)
theorem dX0_become_129 : decode cX0_become 129 = .ok (.iload_n 3, 1) := dk_29 (dk_at dksX0_become_5 12 rfl rfl)
theorem dX0_become_130 : decode cX0_become 130 = .ok (.ireturn, 1) := dk_172 (dk_at dksX0_become_5 13 rfl rfl)
abbrev cX0_of : ByteArray := prog_1_method_33_code
def yX0_of : MethodName := ⟨RX0, "of", "(II)I"⟩
def dkwX0_of_7 : List UInt8 := [50, 180, 0, 201, 167, 0, 11, 42, 27, 182, 0, 247, 184, 0, 223, 172]
abbrev dktX0_of_7 : List UInt8 := dkwX0_of_7 ++ []
def dkwX0_of_6 : List UInt8 := [42, 180, 0, 59, 27, 50, 180, 0, 207, 96, 167, 0, 29, 28, 16, 21, 160, 0, 15, 42, 180, 0, 59, 27]
abbrev dktX0_of_6 : List UInt8 := dkwX0_of_6 ++ dktX0_of_7
def dkwX0_of_5 : List UInt8 := [154, 0, 6, 18, 213, 172, 28, 16, 20, 160, 0, 28, 16, 100, 42, 180, 0, 59, 27, 50, 180, 0, 204, 104]
abbrev dktX0_of_5 : List UInt8 := dkwX0_of_5 ++ dktX0_of_6
def dkwX0_of_4 : List UInt8 := [182, 0, 237, 172, 28, 133, 20, 0, 240, 20, 0, 242, 184, 0, 112, 153, 0, 11, 42, 27, 182, 0, 244]
abbrev dktX0_of_4 : List UInt8 := dkwX0_of_4 ++ dktX0_of_5
def dkwX0_of_3 : List UInt8 := [180, 0, 1, 167, 0, 23, 28, 16, 11, 160, 0, 12, 42, 180, 0, 70, 27, 46, 167, 0, 8, 42, 27]
abbrev dktX0_of_3 : List UInt8 := dkwX0_of_3 ++ dktX0_of_4
def dkwX0_of_2 : List UInt8 := [184, 0, 182, 154, 0, 8, 18, 213, 167, 0, 41, 28, 16, 10, 160, 0, 15, 42, 180, 0, 66, 27, 50]
abbrev dktX0_of_2 : List UInt8 := dkwX0_of_2 ++ dktX0_of_3
def dkwX0_of_1 : List UInt8 := [182, 0, 231, 167, 0, 5, 18, 213, 172, 28, 133, 20, 0, 235, 20, 0, 168, 184, 0, 112, 153, 0, 54, 27]
abbrev dktX0_of_1 : List UInt8 := dkwX0_of_1 ++ dktX0_of_2
def dkwX0_of_0 : List UInt8 := [28, 133, 9, 20, 0, 174, 184, 0, 112, 153, 0, 23, 42, 27, 182, 0, 191, 153, 0, 12, 42, 27, 28]
abbrev dktX0_of_0 : List UInt8 := dkwX0_of_0 ++ dktX0_of_1
theorem dksX0_of_0 : cX0_of.data.toList.drop 0 = dktX0_of_0 := by decide +kernel
theorem dksX0_of_1 : cX0_of.data.toList.drop 23 = dktX0_of_1 := dk_seg dksX0_of_0 23 rfl rfl
theorem dksX0_of_2 : cX0_of.data.toList.drop 47 = dktX0_of_2 := dk_seg dksX0_of_1 24 rfl rfl
theorem dksX0_of_3 : cX0_of.data.toList.drop 70 = dktX0_of_3 := dk_seg dksX0_of_2 23 rfl rfl
theorem dksX0_of_4 : cX0_of.data.toList.drop 93 = dktX0_of_4 := dk_seg dksX0_of_3 23 rfl rfl
theorem dksX0_of_5 : cX0_of.data.toList.drop 116 = dktX0_of_5 := dk_seg dksX0_of_4 23 rfl rfl
theorem dksX0_of_6 : cX0_of.data.toList.drop 140 = dktX0_of_6 := dk_seg dksX0_of_5 24 rfl rfl
theorem dksX0_of_7 : cX0_of.data.toList.drop 164 = dktX0_of_7 := dk_seg dksX0_of_6 24 rfl rfl
theorem dX0_of_0 : decode cX0_of 0 = .ok (.iload_n 2, 1) := dk_28 (dk_at dksX0_of_0 0 rfl rfl)
theorem dX0_of_1 : decode cX0_of 1 = .ok (.i2l, 1) := dk_133 (dk_at dksX0_of_0 1 rfl rfl)
theorem dX0_of_2 : decode cX0_of 2 = .ok (.lconst 0, 1) := dk_9 (dk_at dksX0_of_0 2 rfl rfl)
theorem dX0_of_3 : decode cX0_of 3 = .ok (.ldc2_w 174, 3) := dk_20 0 174 (dk_at dksX0_of_0 3 rfl rfl)
theorem dX0_of_6 : decode cX0_of 6 = .ok (.invokestatic 112, 3) := dk_184 0 112 (dk_at dksX0_of_0 6 rfl rfl)
theorem dX0_of_9 : decode cX0_of 9 = .ok (.ifCond .eq 23, 3) := dk_153 0 23 (dk_at dksX0_of_0 9 rfl rfl)
theorem dX0_of_12 : decode cX0_of 12 = .ok (.aload_n 0, 1) := dk_42 (dk_at dksX0_of_0 12 rfl rfl)
theorem dX0_of_13 : decode cX0_of 13 = .ok (.iload_n 1, 1) := dk_27 (dk_at dksX0_of_0 13 rfl rfl)
theorem dX0_of_14 : decode cX0_of 14 = .ok (.invokevirtual 191, 3) := dk_182 0 191 (dk_at dksX0_of_0 14 rfl rfl)
theorem dX0_of_17 : decode cX0_of 17 = .ok (.ifCond .eq 12, 3) := dk_153 0 12 (dk_at dksX0_of_0 17 rfl rfl)
theorem dX0_of_20 : decode cX0_of 20 = .ok (.aload_n 0, 1) := dk_42 (dk_at dksX0_of_0 20 rfl rfl)
theorem dX0_of_21 : decode cX0_of 21 = .ok (.iload_n 1, 1) := dk_27 (dk_at dksX0_of_0 21 rfl rfl)
theorem dX0_of_22 : decode cX0_of 22 = .ok (.iload_n 2, 1) := dk_28 (dk_at dksX0_of_0 22 rfl rfl)
theorem dX0_of_23 : decode cX0_of 23 = .ok (.invokevirtual 231, 3) := dk_182 0 231 (dk_at dksX0_of_1 0 rfl rfl)
theorem dX0_of_26 : decode cX0_of 26 = .ok (.goto 5, 3) := dk_167 0 5 (dk_at dksX0_of_1 3 rfl rfl)
theorem dX0_of_29 : decode cX0_of 29 = .ok (.ldc 213, 2) := dk_18 213 (dk_at dksX0_of_1 6 rfl rfl)
theorem dX0_of_31 : decode cX0_of 31 = .ok (.ireturn, 1) := dk_172 (dk_at dksX0_of_1 8 rfl rfl)
theorem dX0_of_32 : decode cX0_of 32 = .ok (.iload_n 2, 1) := dk_28 (dk_at dksX0_of_1 9 rfl rfl)
theorem dX0_of_33 : decode cX0_of 33 = .ok (.i2l, 1) := dk_133 (dk_at dksX0_of_1 10 rfl rfl)
theorem dX0_of_34 : decode cX0_of 34 = .ok (.ldc2_w 235, 3) := dk_20 0 235 (dk_at dksX0_of_1 11 rfl rfl)
theorem dX0_of_37 : decode cX0_of 37 = .ok (.ldc2_w 168, 3) := dk_20 0 168 (dk_at dksX0_of_1 14 rfl rfl)
theorem dX0_of_40 : decode cX0_of 40 = .ok (.invokestatic 112, 3) := dk_184 0 112 (dk_at dksX0_of_1 17 rfl rfl)
theorem dX0_of_43 : decode cX0_of 43 = .ok (.ifCond .eq 54, 3) := dk_153 0 54 (dk_at dksX0_of_1 20 rfl rfl)
theorem dX0_of_46 : decode cX0_of 46 = .ok (.iload_n 1, 1) := dk_27 (dk_at dksX0_of_1 23 rfl rfl)
theorem dX0_of_47 : decode cX0_of 47 = .ok (.invokestatic 182, 3) := dk_184 0 182 (dk_at dksX0_of_2 0 rfl rfl)
theorem dX0_of_50 : decode cX0_of 50 = .ok (.ifCond .ne 8, 3) := dk_154 0 8 (dk_at dksX0_of_2 3 rfl rfl)
theorem dX0_of_53 : decode cX0_of 53 = .ok (.ldc 213, 2) := dk_18 213 (dk_at dksX0_of_2 6 rfl rfl)
theorem dX0_of_55 : decode cX0_of 55 = .ok (.goto 41, 3) := dk_167 0 41 (dk_at dksX0_of_2 8 rfl rfl)
theorem dX0_of_58 : decode cX0_of 58 = .ok (.iload_n 2, 1) := dk_28 (dk_at dksX0_of_2 11 rfl rfl)
theorem dX0_of_59 : decode cX0_of 59 = .ok (.bipush 10, 2) := dk_16 10 (dk_at dksX0_of_2 12 rfl rfl)
theorem dX0_of_61 : decode cX0_of 61 = .ok (.if_icmp .ne 15, 3) := dk_160 0 15 (dk_at dksX0_of_2 14 rfl rfl)
theorem dX0_of_64 : decode cX0_of 64 = .ok (.aload_n 0, 1) := dk_42 (dk_at dksX0_of_2 17 rfl rfl)
theorem dX0_of_65 : decode cX0_of 65 = .ok (.getfield 66, 3) := dk_180 0 66 (dk_at dksX0_of_2 18 rfl rfl)
theorem dX0_of_68 : decode cX0_of 68 = .ok (.iload_n 1, 1) := dk_27 (dk_at dksX0_of_2 21 rfl rfl)
theorem dX0_of_69 : decode cX0_of 69 = .ok (.aaload, 1) := dk_50 (dk_at dksX0_of_2 22 rfl rfl)
theorem dX0_of_70 : decode cX0_of 70 = .ok (.getfield 1, 3) := dk_180 0 1 (dk_at dksX0_of_3 0 rfl rfl)
theorem dX0_of_73 : decode cX0_of 73 = .ok (.goto 23, 3) := dk_167 0 23 (dk_at dksX0_of_3 3 rfl rfl)
theorem dX0_of_76 : decode cX0_of 76 = .ok (.iload_n 2, 1) := dk_28 (dk_at dksX0_of_3 6 rfl rfl)
theorem dX0_of_77 : decode cX0_of 77 = .ok (.bipush 11, 2) := dk_16 11 (dk_at dksX0_of_3 7 rfl rfl)
theorem dX0_of_79 : decode cX0_of 79 = .ok (.if_icmp .ne 12, 3) := dk_160 0 12 (dk_at dksX0_of_3 9 rfl rfl)
theorem dX0_of_82 : decode cX0_of 82 = .ok (.aload_n 0, 1) := dk_42 (dk_at dksX0_of_3 12 rfl rfl)
theorem dX0_of_83 : decode cX0_of 83 = .ok (.getfield 70, 3) := dk_180 0 70 (dk_at dksX0_of_3 13 rfl rfl)
theorem dX0_of_86 : decode cX0_of 86 = .ok (.iload_n 1, 1) := dk_27 (dk_at dksX0_of_3 16 rfl rfl)
theorem dX0_of_87 : decode cX0_of 87 = .ok (.iaload, 1) := dk_46 (dk_at dksX0_of_3 17 rfl rfl)
theorem dX0_of_88 : decode cX0_of 88 = .ok (.goto 8, 3) := dk_167 0 8 (dk_at dksX0_of_3 18 rfl rfl)
theorem dX0_of_91 : decode cX0_of 91 = .ok (.aload_n 0, 1) := dk_42 (dk_at dksX0_of_3 21 rfl rfl)
theorem dX0_of_92 : decode cX0_of 92 = .ok (.iload_n 1, 1) := dk_27 (dk_at dksX0_of_3 22 rfl rfl)
theorem dX0_of_93 : decode cX0_of 93 = .ok (.invokevirtual 237, 3) := dk_182 0 237 (dk_at dksX0_of_4 0 rfl rfl)
theorem dX0_of_96 : decode cX0_of 96 = .ok (.ireturn, 1) := dk_172 (dk_at dksX0_of_4 3 rfl rfl)
theorem dX0_of_97 : decode cX0_of 97 = .ok (.iload_n 2, 1) := dk_28 (dk_at dksX0_of_4 4 rfl rfl)
theorem dX0_of_98 : decode cX0_of 98 = .ok (.i2l, 1) := dk_133 (dk_at dksX0_of_4 5 rfl rfl)
theorem dX0_of_99 : decode cX0_of 99 = .ok (.ldc2_w 240, 3) := dk_20 0 240 (dk_at dksX0_of_4 6 rfl rfl)
theorem dX0_of_102 : decode cX0_of 102 = .ok (.ldc2_w 242, 3) := dk_20 0 242 (dk_at dksX0_of_4 9 rfl rfl)
theorem dX0_of_105 : decode cX0_of 105 = .ok (.invokestatic 112, 3) := dk_184 0 112 (dk_at dksX0_of_4 12 rfl rfl)
theorem dX0_of_108 : decode cX0_of 108 = .ok (.ifCond .eq 11, 3) := dk_153 0 11 (dk_at dksX0_of_4 15 rfl rfl)
theorem dX0_of_111 : decode cX0_of 111 = .ok (.aload_n 0, 1) := dk_42 (dk_at dksX0_of_4 18 rfl rfl)
theorem dX0_of_112 : decode cX0_of 112 = .ok (.iload_n 1, 1) := dk_27 (dk_at dksX0_of_4 19 rfl rfl)
theorem dX0_of_113 : decode cX0_of 113 = .ok (.invokevirtual 244, 3) := dk_182 0 244 (dk_at dksX0_of_4 20 rfl rfl)
theorem dX0_of_116 : decode cX0_of 116 = .ok (.ifCond .ne 6, 3) := dk_154 0 6 (dk_at dksX0_of_5 0 rfl rfl)
theorem dX0_of_119 : decode cX0_of 119 = .ok (.ldc 213, 2) := dk_18 213 (dk_at dksX0_of_5 3 rfl rfl)
theorem dX0_of_121 : decode cX0_of 121 = .ok (.ireturn, 1) := dk_172 (dk_at dksX0_of_5 5 rfl rfl)
theorem dX0_of_122 : decode cX0_of 122 = .ok (.iload_n 2, 1) := dk_28 (dk_at dksX0_of_5 6 rfl rfl)
theorem dX0_of_123 : decode cX0_of 123 = .ok (.bipush 20, 2) := dk_16 20 (dk_at dksX0_of_5 7 rfl rfl)
theorem dX0_of_125 : decode cX0_of 125 = .ok (.if_icmp .ne 28, 3) := dk_160 0 28 (dk_at dksX0_of_5 9 rfl rfl)
theorem dX0_of_128 : decode cX0_of 128 = .ok (.bipush 100, 2) := dk_16 100 (dk_at dksX0_of_5 12 rfl rfl)
theorem dX0_of_130 : decode cX0_of 130 = .ok (.aload_n 0, 1) := dk_42 (dk_at dksX0_of_5 14 rfl rfl)
theorem dX0_of_131 : decode cX0_of 131 = .ok (.getfield 59, 3) := dk_180 0 59 (dk_at dksX0_of_5 15 rfl rfl)
theorem dX0_of_134 : decode cX0_of 134 = .ok (.iload_n 1, 1) := dk_27 (dk_at dksX0_of_5 18 rfl rfl)
theorem dX0_of_135 : decode cX0_of 135 = .ok (.aaload, 1) := dk_50 (dk_at dksX0_of_5 19 rfl rfl)
theorem dX0_of_136 : decode cX0_of 136 = .ok (.getfield 204, 3) := dk_180 0 204 (dk_at dksX0_of_5 20 rfl rfl)
theorem dX0_of_139 : decode cX0_of 139 = .ok (.imul, 1) := dk_104 (dk_at dksX0_of_5 23 rfl rfl)
theorem dX0_of_140 : decode cX0_of 140 = .ok (.aload_n 0, 1) := dk_42 (dk_at dksX0_of_6 0 rfl rfl)
theorem dX0_of_141 : decode cX0_of 141 = .ok (.getfield 59, 3) := dk_180 0 59 (dk_at dksX0_of_6 1 rfl rfl)
theorem dX0_of_144 : decode cX0_of 144 = .ok (.iload_n 1, 1) := dk_27 (dk_at dksX0_of_6 4 rfl rfl)
theorem dX0_of_145 : decode cX0_of 145 = .ok (.aaload, 1) := dk_50 (dk_at dksX0_of_6 5 rfl rfl)
theorem dX0_of_146 : decode cX0_of 146 = .ok (.getfield 207, 3) := dk_180 0 207 (dk_at dksX0_of_6 6 rfl rfl)
theorem dX0_of_149 : decode cX0_of 149 = .ok (.iadd, 1) := dk_96 (dk_at dksX0_of_6 9 rfl rfl)
theorem dX0_of_150 : decode cX0_of 150 = .ok (.goto 29, 3) := dk_167 0 29 (dk_at dksX0_of_6 10 rfl rfl)
theorem dX0_of_153 : decode cX0_of 153 = .ok (.iload_n 2, 1) := dk_28 (dk_at dksX0_of_6 13 rfl rfl)
theorem dX0_of_154 : decode cX0_of 154 = .ok (.bipush 21, 2) := dk_16 21 (dk_at dksX0_of_6 14 rfl rfl)
theorem dX0_of_156 : decode cX0_of 156 = .ok (.if_icmp .ne 15, 3) := dk_160 0 15 (dk_at dksX0_of_6 16 rfl rfl)
theorem dX0_of_159 : decode cX0_of 159 = .ok (.aload_n 0, 1) := dk_42 (dk_at dksX0_of_6 19 rfl rfl)
theorem dX0_of_160 : decode cX0_of 160 = .ok (.getfield 59, 3) := dk_180 0 59 (dk_at dksX0_of_6 20 rfl rfl)
theorem dX0_of_163 : decode cX0_of 163 = .ok (.iload_n 1, 1) := dk_27 (dk_at dksX0_of_6 23 rfl rfl)
theorem dX0_of_164 : decode cX0_of 164 = .ok (.aaload, 1) := dk_50 (dk_at dksX0_of_7 0 rfl rfl)
theorem dX0_of_165 : decode cX0_of 165 = .ok (.getfield 201, 3) := dk_180 0 201 (dk_at dksX0_of_7 1 rfl rfl)
theorem dX0_of_168 : decode cX0_of 168 = .ok (.goto 11, 3) := dk_167 0 11 (dk_at dksX0_of_7 4 rfl rfl)
theorem dX0_of_171 : decode cX0_of 171 = .ok (.aload_n 0, 1) := dk_42 (dk_at dksX0_of_7 7 rfl rfl)
theorem dX0_of_172 : decode cX0_of 172 = .ok (.iload_n 1, 1) := dk_27 (dk_at dksX0_of_7 8 rfl rfl)
theorem dX0_of_173 : decode cX0_of 173 = .ok (.invokevirtual 247, 3) := dk_182 0 247 (dk_at dksX0_of_7 9 rfl rfl)
theorem dX0_of_176 : decode cX0_of 176 = .ok (.invokestatic 223, 3) := dk_184 0 223 (dk_at dksX0_of_7 12 rfl rfl)
theorem dX0_of_179 : decode cX0_of 179 = .ok (.ireturn, 1) := dk_172 (dk_at dksX0_of_7 15 rfl rfl)
abbrev cX0_ofPerson : ByteArray := prog_1_method_32_code
def yX0_ofPerson : MethodName := ⟨RX0, "ofPerson", "(II)I"⟩
def dkwX0_ofPerson_3 : List UInt8 := [180, 0, 50, 27, 50, 180, 0, 185, 172, 42, 27, 182, 0, 227, 172]
abbrev dktX0_ofPerson_3 : List UInt8 := dkwX0_ofPerson_3 ++ []
def dkwX0_ofPerson_2 : List UInt8 := [42, 180, 0, 50, 27, 50, 180, 0, 149, 172, 42, 180, 0, 50, 27, 50, 180, 0, 214, 180, 0, 1, 172, 42]
abbrev dktX0_ofPerson_2 : List UInt8 := dkwX0_ofPerson_2 ++ dktX0_ofPerson_3
def dkwX0_ofPerson_1 : List UInt8 := [170, 0, 0, 0, 0, 0, 60, 0, 0, 0, 0, 0, 0, 0, 2, 0, 0, 0, 27, 0, 0, 0, 37, 0, 0, 0, 50]
abbrev dktX0_ofPerson_1 : List UInt8 := dkwX0_ofPerson_1 ++ dktX0_ofPerson_2
def dkwX0_ofPerson_0 : List UInt8 := [28]
abbrev dktX0_ofPerson_0 : List UInt8 := dkwX0_ofPerson_0 ++ dktX0_ofPerson_1
theorem dksX0_ofPerson_0 : cX0_ofPerson.data.toList.drop 0 = dktX0_ofPerson_0 := by decide +kernel
theorem dksX0_ofPerson_1 : cX0_ofPerson.data.toList.drop 1 = dktX0_ofPerson_1 := dk_seg dksX0_ofPerson_0 1 rfl rfl
theorem dksX0_ofPerson_2 : cX0_ofPerson.data.toList.drop 28 = dktX0_ofPerson_2 := dk_seg dksX0_ofPerson_1 27 rfl rfl
theorem dksX0_ofPerson_3 : cX0_ofPerson.data.toList.drop 52 = dktX0_ofPerson_3 := dk_seg dksX0_ofPerson_2 24 rfl rfl
theorem dX0_ofPerson_0 : decode cX0_ofPerson 0 = .ok (.iload_n 2, 1) := dk_28 (dk_at dksX0_ofPerson_0 0 rfl rfl)
theorem dX0_ofPerson_1 : decode cX0_ofPerson 1 = .ok (.tableswitch 60 0 2 #[27, 37, 50], 27) := by decide +kernel
theorem dX0_ofPerson_28 : decode cX0_ofPerson 28 = .ok (.aload_n 0, 1) := dk_42 (dk_at dksX0_ofPerson_2 0 rfl rfl)
theorem dX0_ofPerson_29 : decode cX0_ofPerson 29 = .ok (.getfield 50, 3) := dk_180 0 50 (dk_at dksX0_ofPerson_2 1 rfl rfl)
theorem dX0_ofPerson_32 : decode cX0_ofPerson 32 = .ok (.iload_n 1, 1) := dk_27 (dk_at dksX0_ofPerson_2 4 rfl rfl)
theorem dX0_ofPerson_33 : decode cX0_ofPerson 33 = .ok (.aaload, 1) := dk_50 (dk_at dksX0_ofPerson_2 5 rfl rfl)
theorem dX0_ofPerson_34 : decode cX0_ofPerson 34 = .ok (.getfield 149, 3) := dk_180 0 149 (dk_at dksX0_ofPerson_2 6 rfl rfl)
theorem dX0_ofPerson_37 : decode cX0_ofPerson 37 = .ok (.ireturn, 1) := dk_172 (dk_at dksX0_ofPerson_2 9 rfl rfl)
theorem dX0_ofPerson_38 : decode cX0_ofPerson 38 = .ok (.aload_n 0, 1) := dk_42 (dk_at dksX0_ofPerson_2 10 rfl rfl)
theorem dX0_ofPerson_39 : decode cX0_ofPerson 39 = .ok (.getfield 50, 3) := dk_180 0 50 (dk_at dksX0_ofPerson_2 11 rfl rfl)
theorem dX0_ofPerson_42 : decode cX0_ofPerson 42 = .ok (.iload_n 1, 1) := dk_27 (dk_at dksX0_ofPerson_2 14 rfl rfl)
theorem dX0_ofPerson_43 : decode cX0_ofPerson 43 = .ok (.aaload, 1) := dk_50 (dk_at dksX0_ofPerson_2 15 rfl rfl)
theorem dX0_ofPerson_44 : decode cX0_ofPerson 44 = .ok (.getfield 214, 3) := dk_180 0 214 (dk_at dksX0_ofPerson_2 16 rfl rfl)
theorem dX0_ofPerson_47 : decode cX0_ofPerson 47 = .ok (.getfield 1, 3) := dk_180 0 1 (dk_at dksX0_ofPerson_2 19 rfl rfl)
theorem dX0_ofPerson_50 : decode cX0_ofPerson 50 = .ok (.ireturn, 1) := dk_172 (dk_at dksX0_ofPerson_2 22 rfl rfl)
theorem dX0_ofPerson_51 : decode cX0_ofPerson 51 = .ok (.aload_n 0, 1) := dk_42 (dk_at dksX0_ofPerson_2 23 rfl rfl)
theorem dX0_ofPerson_52 : decode cX0_ofPerson 52 = .ok (.getfield 50, 3) := dk_180 0 50 (dk_at dksX0_ofPerson_3 0 rfl rfl)
theorem dX0_ofPerson_55 : decode cX0_ofPerson 55 = .ok (.iload_n 1, 1) := dk_27 (dk_at dksX0_ofPerson_3 3 rfl rfl)
theorem dX0_ofPerson_56 : decode cX0_ofPerson 56 = .ok (.aaload, 1) := dk_50 (dk_at dksX0_ofPerson_3 4 rfl rfl)
theorem dX0_ofPerson_57 : decode cX0_ofPerson 57 = .ok (.getfield 185, 3) := dk_180 0 185 (dk_at dksX0_ofPerson_3 5 rfl rfl)
theorem dX0_ofPerson_60 : decode cX0_ofPerson 60 = .ok (.ireturn, 1) := dk_172 (dk_at dksX0_ofPerson_3 8 rfl rfl)
theorem dX0_ofPerson_61 : decode cX0_ofPerson 61 = .ok (.aload_n 0, 1) := dk_42 (dk_at dksX0_ofPerson_3 9 rfl rfl)
theorem dX0_ofPerson_62 : decode cX0_ofPerson 62 = .ok (.iload_n 1, 1) := dk_27 (dk_at dksX0_ofPerson_3 10 rfl rfl)
theorem dX0_ofPerson_63 : decode cX0_ofPerson 63 = .ok (.invokevirtual 227, 3) := dk_182 0 227 (dk_at dksX0_ofPerson_3 11 rfl rfl)
theorem dX0_ofPerson_66 : decode cX0_ofPerson 66 = .ok (.ireturn, 1) := dk_172 (dk_at dksX0_ofPerson_3 14 rfl rfl)
abbrev cX0_placeOf : ByteArray := prog_1_method_30_code
def yX0_placeOf : MethodName := ⟨RX0, "placeOf", "(I)I"⟩
def dkwX0_placeOf_0 : List UInt8 := [3, 61, 42, 180, 0, 54, 28, 46, 27, 159, 0, 9, 132, 2, 1, 167, 255, 243, 28, 172]
abbrev dktX0_placeOf_0 : List UInt8 := dkwX0_placeOf_0 ++ []
theorem dksX0_placeOf_0 : cX0_placeOf.data.toList.drop 0 = dktX0_placeOf_0 := by decide +kernel
theorem dX0_placeOf_0 : decode cX0_placeOf 0 = .ok (.iconst 0, 1) := dk_3 (dk_at dksX0_placeOf_0 0 rfl rfl)
theorem dX0_placeOf_1 : decode cX0_placeOf 1 = .ok (.istore_n 2, 1) := dk_61 (dk_at dksX0_placeOf_0 1 rfl rfl)
theorem dX0_placeOf_2 : decode cX0_placeOf 2 = .ok (.aload_n 0, 1) := dk_42 (dk_at dksX0_placeOf_0 2 rfl rfl)
theorem dX0_placeOf_3 : decode cX0_placeOf 3 = .ok (.getfield 54, 3) := dk_180 0 54 (dk_at dksX0_placeOf_0 3 rfl rfl)
theorem dX0_placeOf_6 : decode cX0_placeOf 6 = .ok (.iload_n 2, 1) := dk_28 (dk_at dksX0_placeOf_0 6 rfl rfl)
theorem dX0_placeOf_7 : decode cX0_placeOf 7 = .ok (.iaload, 1) := dk_46 (dk_at dksX0_placeOf_0 7 rfl rfl)
theorem dX0_placeOf_8 : decode cX0_placeOf 8 = .ok (.iload_n 1, 1) := dk_27 (dk_at dksX0_placeOf_0 8 rfl rfl)
theorem dX0_placeOf_9 : decode cX0_placeOf 9 = .ok (.if_icmp .eq 9, 3) := dk_159 0 9 (dk_at dksX0_placeOf_0 9 rfl rfl)
theorem dX0_placeOf_12 : decode cX0_placeOf 12 = .ok (.iinc 2 1, 3) := dk_132 2 1 (dk_at dksX0_placeOf_0 12 rfl rfl)
theorem dX0_placeOf_15 : decode cX0_placeOf 15 = .ok (.goto (-13), 3) := dk_167 255 243 (dk_at dksX0_placeOf_0 15 rfl rfl)
theorem dX0_placeOf_18 : decode cX0_placeOf 18 = .ok (.iload_n 2, 1) := dk_28 (dk_at dksX0_placeOf_0 18 rfl rfl)
theorem dX0_placeOf_19 : decode cX0_placeOf 19 = .ok (.ireturn, 1) := dk_172 (dk_at dksX0_placeOf_0 19 rfl rfl)
abbrev cX0_bearersOf : ByteArray := prog_1_method_31_code
def yX0_bearersOf : MethodName := ⟨RX0, "bearersOf", "(I)I"⟩
def dkwX0_bearersOf_1 : List UInt8 := [160, 0, 7, 4, 167, 0, 4, 3, 184, 0, 223, 29, 120, 128, 61, 132, 3, 1, 167, 255, 219, 28, 172]
abbrev dktX0_bearersOf_1 : List UInt8 := dkwX0_bearersOf_1 ++ []
def dkwX0_bearersOf_0 : List UInt8 := [3, 61, 3, 62, 29, 42, 180, 0, 134, 162, 0, 35, 28, 42, 180, 0, 50, 29, 50, 180, 0, 185, 27]
abbrev dktX0_bearersOf_0 : List UInt8 := dkwX0_bearersOf_0 ++ dktX0_bearersOf_1
theorem dksX0_bearersOf_0 : cX0_bearersOf.data.toList.drop 0 = dktX0_bearersOf_0 := by decide +kernel
theorem dksX0_bearersOf_1 : cX0_bearersOf.data.toList.drop 23 = dktX0_bearersOf_1 := dk_seg dksX0_bearersOf_0 23 rfl rfl
theorem dX0_bearersOf_0 : decode cX0_bearersOf 0 = .ok (.iconst 0, 1) := dk_3 (dk_at dksX0_bearersOf_0 0 rfl rfl)
theorem dX0_bearersOf_1 : decode cX0_bearersOf 1 = .ok (.istore_n 2, 1) := dk_61 (dk_at dksX0_bearersOf_0 1 rfl rfl)
theorem dX0_bearersOf_2 : decode cX0_bearersOf 2 = .ok (.iconst 0, 1) := dk_3 (dk_at dksX0_bearersOf_0 2 rfl rfl)
theorem dX0_bearersOf_3 : decode cX0_bearersOf 3 = .ok (.istore_n 3, 1) := dk_62 (dk_at dksX0_bearersOf_0 3 rfl rfl)
theorem dX0_bearersOf_4 : decode cX0_bearersOf 4 = .ok (.iload_n 3, 1) := dk_29 (dk_at dksX0_bearersOf_0 4 rfl rfl)
theorem dX0_bearersOf_5 : decode cX0_bearersOf 5 = .ok (.aload_n 0, 1) := dk_42 (dk_at dksX0_bearersOf_0 5 rfl rfl)
theorem dX0_bearersOf_6 : decode cX0_bearersOf 6 = .ok (.getfield 134, 3) := dk_180 0 134 (dk_at dksX0_bearersOf_0 6 rfl rfl)
theorem dX0_bearersOf_9 : decode cX0_bearersOf 9 = .ok (.if_icmp .ge 35, 3) := dk_162 0 35 (dk_at dksX0_bearersOf_0 9 rfl rfl)
theorem dX0_bearersOf_12 : decode cX0_bearersOf 12 = .ok (.iload_n 2, 1) := dk_28 (dk_at dksX0_bearersOf_0 12 rfl rfl)
theorem dX0_bearersOf_13 : decode cX0_bearersOf 13 = .ok (.aload_n 0, 1) := dk_42 (dk_at dksX0_bearersOf_0 13 rfl rfl)
theorem dX0_bearersOf_14 : decode cX0_bearersOf 14 = .ok (.getfield 50, 3) := dk_180 0 50 (dk_at dksX0_bearersOf_0 14 rfl rfl)
theorem dX0_bearersOf_17 : decode cX0_bearersOf 17 = .ok (.iload_n 3, 1) := dk_29 (dk_at dksX0_bearersOf_0 17 rfl rfl)
theorem dX0_bearersOf_18 : decode cX0_bearersOf 18 = .ok (.aaload, 1) := dk_50 (dk_at dksX0_bearersOf_0 18 rfl rfl)
theorem dX0_bearersOf_19 : decode cX0_bearersOf 19 = .ok (.getfield 185, 3) := dk_180 0 185 (dk_at dksX0_bearersOf_0 19 rfl rfl)
theorem dX0_bearersOf_22 : decode cX0_bearersOf 22 = .ok (.iload_n 1, 1) := dk_27 (dk_at dksX0_bearersOf_0 22 rfl rfl)
theorem dX0_bearersOf_23 : decode cX0_bearersOf 23 = .ok (.if_icmp .ne 7, 3) := dk_160 0 7 (dk_at dksX0_bearersOf_1 0 rfl rfl)
theorem dX0_bearersOf_26 : decode cX0_bearersOf 26 = .ok (.iconst 1, 1) := dk_4 (dk_at dksX0_bearersOf_1 3 rfl rfl)
theorem dX0_bearersOf_27 : decode cX0_bearersOf 27 = .ok (.goto 4, 3) := dk_167 0 4 (dk_at dksX0_bearersOf_1 4 rfl rfl)
theorem dX0_bearersOf_30 : decode cX0_bearersOf 30 = .ok (.iconst 0, 1) := dk_3 (dk_at dksX0_bearersOf_1 7 rfl rfl)
theorem dX0_bearersOf_31 : decode cX0_bearersOf 31 = .ok (.invokestatic 223, 3) := dk_184 0 223 (dk_at dksX0_bearersOf_1 8 rfl rfl)
theorem dX0_bearersOf_34 : decode cX0_bearersOf 34 = .ok (.iload_n 3, 1) := dk_29 (dk_at dksX0_bearersOf_1 11 rfl rfl)
theorem dX0_bearersOf_35 : decode cX0_bearersOf 35 = .ok (.ishl, 1) := dk_120 (dk_at dksX0_bearersOf_1 12 rfl rfl)
theorem dX0_bearersOf_36 : decode cX0_bearersOf 36 = .ok (.ior, 1) := dk_128 (dk_at dksX0_bearersOf_1 13 rfl rfl)
theorem dX0_bearersOf_37 : decode cX0_bearersOf 37 = .ok (.istore_n 2, 1) := dk_61 (dk_at dksX0_bearersOf_1 14 rfl rfl)
theorem dX0_bearersOf_38 : decode cX0_bearersOf 38 = .ok (.iinc 3 1, 3) := dk_132 3 1 (dk_at dksX0_bearersOf_1 15 rfl rfl)
theorem dX0_bearersOf_41 : decode cX0_bearersOf 41 = .ok (.goto (-37), 3) := dk_167 255 219 (dk_at dksX0_bearersOf_1 18 rfl rfl)
theorem dX0_bearersOf_44 : decode cX0_bearersOf 44 = .ok (.iload_n 2, 1) := dk_28 (dk_at dksX0_bearersOf_1 21 rfl rfl)
theorem dX0_bearersOf_45 : decode cX0_bearersOf 45 = .ok (.ireturn, 1) := dk_172 (dk_at dksX0_bearersOf_1 22 rfl rfl)
abbrev cX0_bit : ByteArray := prog_1_method_2_code
def yX0_bit : MethodName := ⟨RX0, "bit", "(Z)I"⟩
def dkwX0_bit_0 : List UInt8 := [26, 153, 0, 7, 4, 167, 0, 4, 3, 172]
abbrev dktX0_bit_0 : List UInt8 := dkwX0_bit_0 ++ []
theorem dksX0_bit_0 : cX0_bit.data.toList.drop 0 = dktX0_bit_0 := by decide +kernel
theorem dX0_bit_0 : decode cX0_bit 0 = .ok (.iload_n 0, 1) := dk_26 (dk_at dksX0_bit_0 0 rfl rfl)
theorem dX0_bit_1 : decode cX0_bit 1 = .ok (.ifCond .eq 7, 3) := dk_153 0 7 (dk_at dksX0_bit_0 1 rfl rfl)
theorem dX0_bit_4 : decode cX0_bit 4 = .ok (.iconst 1, 1) := dk_4 (dk_at dksX0_bit_0 4 rfl rfl)
theorem dX0_bit_5 : decode cX0_bit 5 = .ok (.goto 4, 3) := dk_167 0 4 (dk_at dksX0_bit_0 5 rfl rfl)
theorem dX0_bit_8 : decode cX0_bit 8 = .ok (.iconst 0, 1) := dk_3 (dk_at dksX0_bit_0 8 rfl rfl)
theorem dX0_bit_9 : decode cX0_bit 9 = .ok (.ireturn, 1) := dk_172 (dk_at dksX0_bit_0 9 rfl rfl)
abbrev cX0_isMeeting : ByteArray := prog_1_method_17_code
def yX0_isMeeting : MethodName := ⟨RX0, "isMeeting", "(I)Z"⟩
def dkwX0_isMeeting_0 : List UInt8 := [27, 133, 9, 42, 180, 0, 141, 4, 100, 133, 184, 0, 112, 172]
abbrev dktX0_isMeeting_0 : List UInt8 := dkwX0_isMeeting_0 ++ []
theorem dksX0_isMeeting_0 : cX0_isMeeting.data.toList.drop 0 = dktX0_isMeeting_0 := by decide +kernel
theorem dX0_isMeeting_0 : decode cX0_isMeeting 0 = .ok (.iload_n 1, 1) := dk_27 (dk_at dksX0_isMeeting_0 0 rfl rfl)
theorem dX0_isMeeting_1 : decode cX0_isMeeting 1 = .ok (.i2l, 1) := dk_133 (dk_at dksX0_isMeeting_0 1 rfl rfl)
theorem dX0_isMeeting_2 : decode cX0_isMeeting 2 = .ok (.lconst 0, 1) := dk_9 (dk_at dksX0_isMeeting_0 2 rfl rfl)
theorem dX0_isMeeting_3 : decode cX0_isMeeting 3 = .ok (.aload_n 0, 1) := dk_42 (dk_at dksX0_isMeeting_0 3 rfl rfl)
theorem dX0_isMeeting_4 : decode cX0_isMeeting 4 = .ok (.getfield 141, 3) := dk_180 0 141 (dk_at dksX0_isMeeting_0 4 rfl rfl)
theorem dX0_isMeeting_7 : decode cX0_isMeeting 7 = .ok (.iconst 1, 1) := dk_4 (dk_at dksX0_isMeeting_0 7 rfl rfl)
theorem dX0_isMeeting_8 : decode cX0_isMeeting 8 = .ok (.isub, 1) := dk_100 (dk_at dksX0_isMeeting_0 8 rfl rfl)
theorem dX0_isMeeting_9 : decode cX0_isMeeting 9 = .ok (.i2l, 1) := dk_133 (dk_at dksX0_isMeeting_0 9 rfl rfl)
theorem dX0_isMeeting_10 : decode cX0_isMeeting 10 = .ok (.invokestatic 112, 3) := dk_184 0 112 (dk_at dksX0_isMeeting_0 10 rfl rfl)
theorem dX0_isMeeting_13 : decode cX0_isMeeting 13 = .ok (.ireturn, 1) := dk_172 (dk_at dksX0_isMeeting_0 13 rfl rfl)
abbrev cX0_doesCount : ByteArray := prog_1_method_25_code
def yX0_doesCount : MethodName := ⟨RX0, "doesCount", "(I)Z"⟩
def dkwX0_doesCount_1 : List UInt8 := [50, 180, 0, 201, 182, 0, 194, 172]
abbrev dktX0_doesCount_1 : List UInt8 := dkwX0_doesCount_1 ++ []
def dkwX0_doesCount_0 : List UInt8 := [42, 42, 180, 0, 59, 27, 50, 180, 0, 204, 42, 180, 0, 59, 27, 50, 180, 0, 207, 42, 180, 0, 59, 27]
abbrev dktX0_doesCount_0 : List UInt8 := dkwX0_doesCount_0 ++ dktX0_doesCount_1
theorem dksX0_doesCount_0 : cX0_doesCount.data.toList.drop 0 = dktX0_doesCount_0 := by decide +kernel
theorem dksX0_doesCount_1 : cX0_doesCount.data.toList.drop 24 = dktX0_doesCount_1 := dk_seg dksX0_doesCount_0 24 rfl rfl
theorem dX0_doesCount_0 : decode cX0_doesCount 0 = .ok (.aload_n 0, 1) := dk_42 (dk_at dksX0_doesCount_0 0 rfl rfl)
theorem dX0_doesCount_1 : decode cX0_doesCount 1 = .ok (.aload_n 0, 1) := dk_42 (dk_at dksX0_doesCount_0 1 rfl rfl)
theorem dX0_doesCount_2 : decode cX0_doesCount 2 = .ok (.getfield 59, 3) := dk_180 0 59 (dk_at dksX0_doesCount_0 2 rfl rfl)
theorem dX0_doesCount_5 : decode cX0_doesCount 5 = .ok (.iload_n 1, 1) := dk_27 (dk_at dksX0_doesCount_0 5 rfl rfl)
theorem dX0_doesCount_6 : decode cX0_doesCount 6 = .ok (.aaload, 1) := dk_50 (dk_at dksX0_doesCount_0 6 rfl rfl)
theorem dX0_doesCount_7 : decode cX0_doesCount 7 = .ok (.getfield 204, 3) := dk_180 0 204 (dk_at dksX0_doesCount_0 7 rfl rfl)
theorem dX0_doesCount_10 : decode cX0_doesCount 10 = .ok (.aload_n 0, 1) := dk_42 (dk_at dksX0_doesCount_0 10 rfl rfl)
theorem dX0_doesCount_11 : decode cX0_doesCount 11 = .ok (.getfield 59, 3) := dk_180 0 59 (dk_at dksX0_doesCount_0 11 rfl rfl)
theorem dX0_doesCount_14 : decode cX0_doesCount 14 = .ok (.iload_n 1, 1) := dk_27 (dk_at dksX0_doesCount_0 14 rfl rfl)
theorem dX0_doesCount_15 : decode cX0_doesCount 15 = .ok (.aaload, 1) := dk_50 (dk_at dksX0_doesCount_0 15 rfl rfl)
theorem dX0_doesCount_16 : decode cX0_doesCount 16 = .ok (.getfield 207, 3) := dk_180 0 207 (dk_at dksX0_doesCount_0 16 rfl rfl)
theorem dX0_doesCount_19 : decode cX0_doesCount 19 = .ok (.aload_n 0, 1) := dk_42 (dk_at dksX0_doesCount_0 19 rfl rfl)
theorem dX0_doesCount_20 : decode cX0_doesCount 20 = .ok (.getfield 59, 3) := dk_180 0 59 (dk_at dksX0_doesCount_0 20 rfl rfl)
theorem dX0_doesCount_23 : decode cX0_doesCount 23 = .ok (.iload_n 1, 1) := dk_27 (dk_at dksX0_doesCount_0 23 rfl rfl)
theorem dX0_doesCount_24 : decode cX0_doesCount 24 = .ok (.aaload, 1) := dk_50 (dk_at dksX0_doesCount_1 0 rfl rfl)
theorem dX0_doesCount_25 : decode cX0_doesCount 25 = .ok (.getfield 201, 3) := dk_180 0 201 (dk_at dksX0_doesCount_1 1 rfl rfl)
theorem dX0_doesCount_28 : decode cX0_doesCount 28 = .ok (.invokevirtual 194, 3) := dk_182 0 194 (dk_at dksX0_doesCount_1 4 rfl rfl)
theorem dX0_doesCount_31 : decode cX0_doesCount 31 = .ok (.ireturn, 1) := dk_172 (dk_at dksX0_doesCount_1 7 rfl rfl)
abbrev cX0_law : ByteArray := prog_1_method_43_code
def yX0_law : MethodName := ⟨RX0, "law", "()I"⟩
def dkwX0_law_1 : List UInt8 := [16, 156, 42, 180, 0, 119, 100, 61, 42, 3, 181, 0, 116, 28, 172, 78, 42, 3, 181, 0, 116, 45, 191]
abbrev dktX0_law_1 : List UInt8 := dkwX0_law_1 ++ []
def dkwX0_law_0 : List UInt8 := [42, 3, 181, 0, 119, 42, 42, 182, 1, 64, 181, 1, 67, 4, 60, 42, 3, 181, 0, 116, 27, 172, 76]
abbrev dktX0_law_0 : List UInt8 := dkwX0_law_0 ++ dktX0_law_1
theorem dksX0_law_0 : cX0_law.data.toList.drop 0 = dktX0_law_0 := by decide +kernel
theorem dksX0_law_1 : cX0_law.data.toList.drop 23 = dktX0_law_1 := dk_seg dksX0_law_0 23 rfl rfl
theorem dX0_law_0 : decode cX0_law 0 = .ok (.aload_n 0, 1) := dk_42 (dk_at dksX0_law_0 0 rfl rfl)
theorem dX0_law_1 : decode cX0_law 1 = .ok (.iconst 0, 1) := dk_3 (dk_at dksX0_law_0 1 rfl rfl)
theorem dX0_law_2 : decode cX0_law 2 = .ok (.putfield 119, 3) := dk_181 0 119 (dk_at dksX0_law_0 2 rfl rfl)
theorem dX0_law_5 : decode cX0_law 5 = .ok (.aload_n 0, 1) := dk_42 (dk_at dksX0_law_0 5 rfl rfl)
theorem dX0_law_6 : decode cX0_law 6 = .ok (.aload_n 0, 1) := dk_42 (dk_at dksX0_law_0 6 rfl rfl)
theorem dX0_law_7 : decode cX0_law 7 = .ok (.invokevirtual 320, 3) := dk_182 1 64 (dk_at dksX0_law_0 7 rfl rfl)
theorem dX0_law_10 : decode cX0_law 10 = .ok (.putfield 323, 3) := dk_181 1 67 (dk_at dksX0_law_0 10 rfl rfl)
theorem dX0_law_13 : decode cX0_law 13 = .ok (.iconst 1, 1) := dk_4 (dk_at dksX0_law_0 13 rfl rfl)
theorem dX0_law_14 : decode cX0_law 14 = .ok (.istore_n 1, 1) := dk_60 (dk_at dksX0_law_0 14 rfl rfl)
theorem dX0_law_15 : decode cX0_law 15 = .ok (.aload_n 0, 1) := dk_42 (dk_at dksX0_law_0 15 rfl rfl)
theorem dX0_law_16 : decode cX0_law 16 = .ok (.iconst 0, 1) := dk_3 (dk_at dksX0_law_0 16 rfl rfl)
theorem dX0_law_17 : decode cX0_law 17 = .ok (.putfield 116, 3) := dk_181 0 116 (dk_at dksX0_law_0 17 rfl rfl)
theorem dX0_law_20 : decode cX0_law 20 = .ok (.iload_n 1, 1) := dk_27 (dk_at dksX0_law_0 20 rfl rfl)
theorem dX0_law_21 : decode cX0_law 21 = .ok (.ireturn, 1) := dk_172 (dk_at dksX0_law_0 21 rfl rfl)
theorem dX0_law_22 : decode cX0_law 22 = .ok (.astore_n 1, 1) := dk_76 (dk_at dksX0_law_0 22 rfl rfl)
theorem dX0_law_23 : decode cX0_law 23 = .ok (.bipush (-100), 2) := dk_16 156 (dk_at dksX0_law_1 0 rfl rfl)
theorem dX0_law_25 : decode cX0_law 25 = .ok (.aload_n 0, 1) := dk_42 (dk_at dksX0_law_1 2 rfl rfl)
theorem dX0_law_26 : decode cX0_law 26 = .ok (.getfield 119, 3) := dk_180 0 119 (dk_at dksX0_law_1 3 rfl rfl)
theorem dX0_law_29 : decode cX0_law 29 = .ok (.isub, 1) := dk_100 (dk_at dksX0_law_1 6 rfl rfl)
theorem dX0_law_30 : decode cX0_law 30 = .ok (.istore_n 2, 1) := dk_61 (dk_at dksX0_law_1 7 rfl rfl)
theorem dX0_law_31 : decode cX0_law 31 = .ok (.aload_n 0, 1) := dk_42 (dk_at dksX0_law_1 8 rfl rfl)
theorem dX0_law_32 : decode cX0_law 32 = .ok (.iconst 0, 1) := dk_3 (dk_at dksX0_law_1 9 rfl rfl)
theorem dX0_law_33 : decode cX0_law 33 = .ok (.putfield 116, 3) := dk_181 0 116 (dk_at dksX0_law_1 10 rfl rfl)
theorem dX0_law_36 : decode cX0_law 36 = .ok (.iload_n 2, 1) := dk_28 (dk_at dksX0_law_1 13 rfl rfl)
theorem dX0_law_37 : decode cX0_law 37 = .ok (.ireturn, 1) := dk_172 (dk_at dksX0_law_1 14 rfl rfl)
theorem dX0_law_38 : decode cX0_law 38 = .ok (.astore_n 3, 1) := dk_78 (dk_at dksX0_law_1 15 rfl rfl)
theorem dX0_law_39 : decode cX0_law 39 = .ok (.aload_n 0, 1) := dk_42 (dk_at dksX0_law_1 16 rfl rfl)
theorem dX0_law_40 : decode cX0_law 40 = .ok (.iconst 0, 1) := dk_3 (dk_at dksX0_law_1 17 rfl rfl)
theorem dX0_law_41 : decode cX0_law 41 = .ok (.putfield 116, 3) := dk_181 0 116 (dk_at dksX0_law_1 18 rfl rfl)
theorem dX0_law_44 : decode cX0_law 44 = .ok (.aload_n 3, 1) := dk_45 (dk_at dksX0_law_1 21 rfl rfl)
theorem dX0_law_45 : decode cX0_law 45 = .ok (.athrow, 1) := dk_191 (dk_at dksX0_law_1 22 rfl rfl)
abbrev cX0_readLaw : ByteArray := prog_1_method_42_code
def yX0_readLaw : MethodName := ⟨RX0, "readLaw", "()LNameRests$Line;"⟩
def dkwX0_readLaw_2 : List UInt8 := [162, 0, 8, 42, 180, 0, 44, 191, 43, 176]
abbrev dktX0_readLaw_2 : List UInt8 := dkwX0_readLaw_2 ++ []
def dkwX0_readLaw_1 : List UInt8 := [182, 1, 56, 181, 1, 60, 44, 180, 1, 60, 77, 167, 255, 234, 42, 180, 0, 119, 42, 180, 0, 116]
abbrev dktX0_readLaw_1 : List UInt8 := dkwX0_readLaw_1 ++ dktX0_readLaw_2
def dkwX0_readLaw_0 : List UInt8 := [42, 3, 181, 1, 11, 42, 182, 1, 56, 76, 43, 77, 42, 16, 59, 182, 0, 126, 153, 0, 19, 44, 42]
abbrev dktX0_readLaw_0 : List UInt8 := dkwX0_readLaw_0 ++ dktX0_readLaw_1
theorem dksX0_readLaw_0 : cX0_readLaw.data.toList.drop 0 = dktX0_readLaw_0 := by decide +kernel
theorem dksX0_readLaw_1 : cX0_readLaw.data.toList.drop 23 = dktX0_readLaw_1 := dk_seg dksX0_readLaw_0 23 rfl rfl
theorem dksX0_readLaw_2 : cX0_readLaw.data.toList.drop 45 = dktX0_readLaw_2 := dk_seg dksX0_readLaw_1 22 rfl rfl
theorem dX0_readLaw_0 : decode cX0_readLaw 0 = .ok (.aload_n 0, 1) := dk_42 (dk_at dksX0_readLaw_0 0 rfl rfl)
theorem dX0_readLaw_1 : decode cX0_readLaw 1 = .ok (.iconst 0, 1) := dk_3 (dk_at dksX0_readLaw_0 1 rfl rfl)
theorem dX0_readLaw_2 : decode cX0_readLaw 2 = .ok (.putfield 267, 3) := dk_181 1 11 (dk_at dksX0_readLaw_0 2 rfl rfl)
theorem dX0_readLaw_5 : decode cX0_readLaw 5 = .ok (.aload_n 0, 1) := dk_42 (dk_at dksX0_readLaw_0 5 rfl rfl)
theorem dX0_readLaw_6 : decode cX0_readLaw 6 = .ok (.invokevirtual 312, 3) := dk_182 1 56 (dk_at dksX0_readLaw_0 6 rfl rfl)
theorem dX0_readLaw_9 : decode cX0_readLaw 9 = .ok (.astore_n 1, 1) := dk_76 (dk_at dksX0_readLaw_0 9 rfl rfl)
theorem dX0_readLaw_10 : decode cX0_readLaw 10 = .ok (.aload_n 1, 1) := dk_43 (dk_at dksX0_readLaw_0 10 rfl rfl)
theorem dX0_readLaw_11 : decode cX0_readLaw 11 = .ok (.astore_n 2, 1) := dk_77 (dk_at dksX0_readLaw_0 11 rfl rfl)
theorem dX0_readLaw_12 : decode cX0_readLaw 12 = .ok (.aload_n 0, 1) := dk_42 (dk_at dksX0_readLaw_0 12 rfl rfl)
theorem dX0_readLaw_13 : decode cX0_readLaw 13 = .ok (.bipush 59, 2) := dk_16 59 (dk_at dksX0_readLaw_0 13 rfl rfl)
theorem dX0_readLaw_15 : decode cX0_readLaw 15 = .ok (.invokevirtual 126, 3) := dk_182 0 126 (dk_at dksX0_readLaw_0 15 rfl rfl)
theorem dX0_readLaw_18 : decode cX0_readLaw 18 = .ok (.ifCond .eq 19, 3) := dk_153 0 19 (dk_at dksX0_readLaw_0 18 rfl rfl)
theorem dX0_readLaw_21 : decode cX0_readLaw 21 = .ok (.aload_n 2, 1) := dk_44 (dk_at dksX0_readLaw_0 21 rfl rfl)
theorem dX0_readLaw_22 : decode cX0_readLaw 22 = .ok (.aload_n 0, 1) := dk_42 (dk_at dksX0_readLaw_0 22 rfl rfl)
theorem dX0_readLaw_23 : decode cX0_readLaw 23 = .ok (.invokevirtual 312, 3) := dk_182 1 56 (dk_at dksX0_readLaw_1 0 rfl rfl)
theorem dX0_readLaw_26 : decode cX0_readLaw 26 = .ok (.putfield 316, 3) := dk_181 1 60 (dk_at dksX0_readLaw_1 3 rfl rfl)
theorem dX0_readLaw_29 : decode cX0_readLaw 29 = .ok (.aload_n 2, 1) := dk_44 (dk_at dksX0_readLaw_1 6 rfl rfl)
theorem dX0_readLaw_30 : decode cX0_readLaw 30 = .ok (.getfield 316, 3) := dk_180 1 60 (dk_at dksX0_readLaw_1 7 rfl rfl)
theorem dX0_readLaw_33 : decode cX0_readLaw 33 = .ok (.astore_n 2, 1) := dk_77 (dk_at dksX0_readLaw_1 10 rfl rfl)
theorem dX0_readLaw_34 : decode cX0_readLaw 34 = .ok (.goto (-22), 3) := dk_167 255 234 (dk_at dksX0_readLaw_1 11 rfl rfl)
theorem dX0_readLaw_37 : decode cX0_readLaw 37 = .ok (.aload_n 0, 1) := dk_42 (dk_at dksX0_readLaw_1 14 rfl rfl)
theorem dX0_readLaw_38 : decode cX0_readLaw 38 = .ok (.getfield 119, 3) := dk_180 0 119 (dk_at dksX0_readLaw_1 15 rfl rfl)
theorem dX0_readLaw_41 : decode cX0_readLaw 41 = .ok (.aload_n 0, 1) := dk_42 (dk_at dksX0_readLaw_1 18 rfl rfl)
theorem dX0_readLaw_42 : decode cX0_readLaw 42 = .ok (.getfield 116, 3) := dk_180 0 116 (dk_at dksX0_readLaw_1 19 rfl rfl)
theorem dX0_readLaw_45 : decode cX0_readLaw 45 = .ok (.if_icmp .ge 8, 3) := dk_162 0 8 (dk_at dksX0_readLaw_2 0 rfl rfl)
theorem dX0_readLaw_48 : decode cX0_readLaw 48 = .ok (.aload_n 0, 1) := dk_42 (dk_at dksX0_readLaw_2 3 rfl rfl)
theorem dX0_readLaw_49 : decode cX0_readLaw 49 = .ok (.getfield 44, 3) := dk_180 0 44 (dk_at dksX0_readLaw_2 4 rfl rfl)
theorem dX0_readLaw_52 : decode cX0_readLaw 52 = .ok (.athrow, 1) := dk_191 (dk_at dksX0_readLaw_2 7 rfl rfl)
theorem dX0_readLaw_53 : decode cX0_readLaw 53 = .ok (.aload_n 1, 1) := dk_43 (dk_at dksX0_readLaw_2 8 rfl rfl)
theorem dX0_readLaw_54 : decode cX0_readLaw 54 = .ok (.areturn, 1) := dk_176 (dk_at dksX0_readLaw_2 9 rfl rfl)
abbrev cX0_readLine : ByteArray := prog_1_method_41_code
def yX0_readLine : MethodName := ⟨RX0, "readLine", "()LNameRests$Line;"⟩
def dkwX0_readLine_1 : List UInt8 := [153, 0, 19, 43, 43, 180, 1, 49, 181, 1, 53, 43, 42, 182, 1, 14, 181, 1, 49, 43, 176]
abbrev dktX0_readLine_1 : List UInt8 := dkwX0_readLine_1 ++ []
def dkwX0_readLine_0 : List UInt8 := [187, 1, 46, 89, 183, 1, 48, 76, 43, 42, 182, 1, 14, 181, 1, 49, 42, 16, 63, 182, 0, 126]
abbrev dktX0_readLine_0 : List UInt8 := dkwX0_readLine_0 ++ dktX0_readLine_1
theorem dksX0_readLine_0 : cX0_readLine.data.toList.drop 0 = dktX0_readLine_0 := by decide +kernel
theorem dksX0_readLine_1 : cX0_readLine.data.toList.drop 22 = dktX0_readLine_1 := dk_seg dksX0_readLine_0 22 rfl rfl
theorem dX0_readLine_0 : decode cX0_readLine 0 = .ok (.new 302, 3) := dk_187 1 46 (dk_at dksX0_readLine_0 0 rfl rfl)
theorem dX0_readLine_3 : decode cX0_readLine 3 = .ok (.dup, 1) := dk_89 (dk_at dksX0_readLine_0 3 rfl rfl)
theorem dX0_readLine_4 : decode cX0_readLine 4 = .ok (.invokespecial 304, 3) := dk_183 1 48 (dk_at dksX0_readLine_0 4 rfl rfl)
theorem dX0_readLine_7 : decode cX0_readLine 7 = .ok (.astore_n 1, 1) := dk_76 (dk_at dksX0_readLine_0 7 rfl rfl)
theorem dX0_readLine_8 : decode cX0_readLine 8 = .ok (.aload_n 1, 1) := dk_43 (dk_at dksX0_readLine_0 8 rfl rfl)
theorem dX0_readLine_9 : decode cX0_readLine 9 = .ok (.aload_n 0, 1) := dk_42 (dk_at dksX0_readLine_0 9 rfl rfl)
theorem dX0_readLine_10 : decode cX0_readLine 10 = .ok (.invokevirtual 270, 3) := dk_182 1 14 (dk_at dksX0_readLine_0 10 rfl rfl)
theorem dX0_readLine_13 : decode cX0_readLine 13 = .ok (.putfield 305, 3) := dk_181 1 49 (dk_at dksX0_readLine_0 13 rfl rfl)
theorem dX0_readLine_16 : decode cX0_readLine 16 = .ok (.aload_n 0, 1) := dk_42 (dk_at dksX0_readLine_0 16 rfl rfl)
theorem dX0_readLine_17 : decode cX0_readLine 17 = .ok (.bipush 63, 2) := dk_16 63 (dk_at dksX0_readLine_0 17 rfl rfl)
theorem dX0_readLine_19 : decode cX0_readLine 19 = .ok (.invokevirtual 126, 3) := dk_182 0 126 (dk_at dksX0_readLine_0 19 rfl rfl)
theorem dX0_readLine_22 : decode cX0_readLine 22 = .ok (.ifCond .eq 19, 3) := dk_153 0 19 (dk_at dksX0_readLine_1 0 rfl rfl)
theorem dX0_readLine_25 : decode cX0_readLine 25 = .ok (.aload_n 1, 1) := dk_43 (dk_at dksX0_readLine_1 3 rfl rfl)
theorem dX0_readLine_26 : decode cX0_readLine 26 = .ok (.aload_n 1, 1) := dk_43 (dk_at dksX0_readLine_1 4 rfl rfl)
theorem dX0_readLine_27 : decode cX0_readLine 27 = .ok (.getfield 305, 3) := dk_180 1 49 (dk_at dksX0_readLine_1 5 rfl rfl)
theorem dX0_readLine_30 : decode cX0_readLine 30 = .ok (.putfield 309, 3) := dk_181 1 53 (dk_at dksX0_readLine_1 8 rfl rfl)
theorem dX0_readLine_33 : decode cX0_readLine 33 = .ok (.aload_n 1, 1) := dk_43 (dk_at dksX0_readLine_1 11 rfl rfl)
theorem dX0_readLine_34 : decode cX0_readLine 34 = .ok (.aload_n 0, 1) := dk_42 (dk_at dksX0_readLine_1 12 rfl rfl)
theorem dX0_readLine_35 : decode cX0_readLine 35 = .ok (.invokevirtual 270, 3) := dk_182 1 14 (dk_at dksX0_readLine_1 13 rfl rfl)
theorem dX0_readLine_38 : decode cX0_readLine 38 = .ok (.putfield 305, 3) := dk_181 1 49 (dk_at dksX0_readLine_1 16 rfl rfl)
theorem dX0_readLine_41 : decode cX0_readLine 41 = .ok (.aload_n 1, 1) := dk_43 (dk_at dksX0_readLine_1 19 rfl rfl)
theorem dX0_readLine_42 : decode cX0_readLine 42 = .ok (.areturn, 1) := dk_176 (dk_at dksX0_readLine_1 20 rfl rfl)
abbrev cX0_readEither : ByteArray := prog_1_method_40_code
def yX0_readEither : MethodName := ⟨RX0, "readEither", "()LNameRests$Term;"⟩
def dkwX0_readEither_1 : List UInt8 := [182, 1, 43, 183, 1, 31, 76, 167, 255, 232, 43, 176]
abbrev dktX0_readEither_1 : List UInt8 := dkwX0_readEither_1 ++ []
def dkwX0_readEither_0 : List UInt8 := [42, 182, 1, 43, 76, 42, 16, 124, 182, 0, 126, 153, 0, 21, 187, 1, 29, 89, 16, 124, 43, 42]
abbrev dktX0_readEither_0 : List UInt8 := dkwX0_readEither_0 ++ dktX0_readEither_1
theorem dksX0_readEither_0 : cX0_readEither.data.toList.drop 0 = dktX0_readEither_0 := by decide +kernel
theorem dksX0_readEither_1 : cX0_readEither.data.toList.drop 22 = dktX0_readEither_1 := dk_seg dksX0_readEither_0 22 rfl rfl
theorem dX0_readEither_0 : decode cX0_readEither 0 = .ok (.aload_n 0, 1) := dk_42 (dk_at dksX0_readEither_0 0 rfl rfl)
theorem dX0_readEither_1 : decode cX0_readEither 1 = .ok (.invokevirtual 299, 3) := dk_182 1 43 (dk_at dksX0_readEither_0 1 rfl rfl)
theorem dX0_readEither_4 : decode cX0_readEither 4 = .ok (.astore_n 1, 1) := dk_76 (dk_at dksX0_readEither_0 4 rfl rfl)
theorem dX0_readEither_5 : decode cX0_readEither 5 = .ok (.aload_n 0, 1) := dk_42 (dk_at dksX0_readEither_0 5 rfl rfl)
theorem dX0_readEither_6 : decode cX0_readEither 6 = .ok (.bipush 124, 2) := dk_16 124 (dk_at dksX0_readEither_0 6 rfl rfl)
theorem dX0_readEither_8 : decode cX0_readEither 8 = .ok (.invokevirtual 126, 3) := dk_182 0 126 (dk_at dksX0_readEither_0 8 rfl rfl)
theorem dX0_readEither_11 : decode cX0_readEither 11 = .ok (.ifCond .eq 21, 3) := dk_153 0 21 (dk_at dksX0_readEither_0 11 rfl rfl)
theorem dX0_readEither_14 : decode cX0_readEither 14 = .ok (.new 285, 3) := dk_187 1 29 (dk_at dksX0_readEither_0 14 rfl rfl)
theorem dX0_readEither_17 : decode cX0_readEither 17 = .ok (.dup, 1) := dk_89 (dk_at dksX0_readEither_0 17 rfl rfl)
theorem dX0_readEither_18 : decode cX0_readEither 18 = .ok (.bipush 124, 2) := dk_16 124 (dk_at dksX0_readEither_0 18 rfl rfl)
theorem dX0_readEither_20 : decode cX0_readEither 20 = .ok (.aload_n 1, 1) := dk_43 (dk_at dksX0_readEither_0 20 rfl rfl)
theorem dX0_readEither_21 : decode cX0_readEither 21 = .ok (.aload_n 0, 1) := dk_42 (dk_at dksX0_readEither_0 21 rfl rfl)
theorem dX0_readEither_22 : decode cX0_readEither 22 = .ok (.invokevirtual 299, 3) := dk_182 1 43 (dk_at dksX0_readEither_1 0 rfl rfl)
theorem dX0_readEither_25 : decode cX0_readEither 25 = .ok (.invokespecial 287, 3) := dk_183 1 31 (dk_at dksX0_readEither_1 3 rfl rfl)
theorem dX0_readEither_28 : decode cX0_readEither 28 = .ok (.astore_n 1, 1) := dk_76 (dk_at dksX0_readEither_1 6 rfl rfl)
theorem dX0_readEither_29 : decode cX0_readEither 29 = .ok (.goto (-24), 3) := dk_167 255 232 (dk_at dksX0_readEither_1 7 rfl rfl)
theorem dX0_readEither_32 : decode cX0_readEither 32 = .ok (.aload_n 1, 1) := dk_43 (dk_at dksX0_readEither_1 10 rfl rfl)
theorem dX0_readEither_33 : decode cX0_readEither 33 = .ok (.areturn, 1) := dk_176 (dk_at dksX0_readEither_1 11 rfl rfl)
abbrev cX0_readAll : ByteArray := prog_1_method_39_code
def yX0_readAll : MethodName := ⟨RX0, "readAll", "()LNameRests$Term;"⟩
def dkwX0_readAll_1 : List UInt8 := [182, 1, 40, 183, 1, 31, 76, 167, 255, 232, 43, 176]
abbrev dktX0_readAll_1 : List UInt8 := dkwX0_readAll_1 ++ []
def dkwX0_readAll_0 : List UInt8 := [42, 182, 1, 40, 76, 42, 16, 38, 182, 0, 126, 153, 0, 21, 187, 1, 29, 89, 16, 38, 43, 42]
abbrev dktX0_readAll_0 : List UInt8 := dkwX0_readAll_0 ++ dktX0_readAll_1
theorem dksX0_readAll_0 : cX0_readAll.data.toList.drop 0 = dktX0_readAll_0 := by decide +kernel
theorem dksX0_readAll_1 : cX0_readAll.data.toList.drop 22 = dktX0_readAll_1 := dk_seg dksX0_readAll_0 22 rfl rfl
theorem dX0_readAll_0 : decode cX0_readAll 0 = .ok (.aload_n 0, 1) := dk_42 (dk_at dksX0_readAll_0 0 rfl rfl)
theorem dX0_readAll_1 : decode cX0_readAll 1 = .ok (.invokevirtual 296, 3) := dk_182 1 40 (dk_at dksX0_readAll_0 1 rfl rfl)
theorem dX0_readAll_4 : decode cX0_readAll 4 = .ok (.astore_n 1, 1) := dk_76 (dk_at dksX0_readAll_0 4 rfl rfl)
theorem dX0_readAll_5 : decode cX0_readAll 5 = .ok (.aload_n 0, 1) := dk_42 (dk_at dksX0_readAll_0 5 rfl rfl)
theorem dX0_readAll_6 : decode cX0_readAll 6 = .ok (.bipush 38, 2) := dk_16 38 (dk_at dksX0_readAll_0 6 rfl rfl)
theorem dX0_readAll_8 : decode cX0_readAll 8 = .ok (.invokevirtual 126, 3) := dk_182 0 126 (dk_at dksX0_readAll_0 8 rfl rfl)
theorem dX0_readAll_11 : decode cX0_readAll 11 = .ok (.ifCond .eq 21, 3) := dk_153 0 21 (dk_at dksX0_readAll_0 11 rfl rfl)
theorem dX0_readAll_14 : decode cX0_readAll 14 = .ok (.new 285, 3) := dk_187 1 29 (dk_at dksX0_readAll_0 14 rfl rfl)
theorem dX0_readAll_17 : decode cX0_readAll 17 = .ok (.dup, 1) := dk_89 (dk_at dksX0_readAll_0 17 rfl rfl)
theorem dX0_readAll_18 : decode cX0_readAll 18 = .ok (.bipush 38, 2) := dk_16 38 (dk_at dksX0_readAll_0 18 rfl rfl)
theorem dX0_readAll_20 : decode cX0_readAll 20 = .ok (.aload_n 1, 1) := dk_43 (dk_at dksX0_readAll_0 20 rfl rfl)
theorem dX0_readAll_21 : decode cX0_readAll 21 = .ok (.aload_n 0, 1) := dk_42 (dk_at dksX0_readAll_0 21 rfl rfl)
theorem dX0_readAll_22 : decode cX0_readAll 22 = .ok (.invokevirtual 296, 3) := dk_182 1 40 (dk_at dksX0_readAll_1 0 rfl rfl)
theorem dX0_readAll_25 : decode cX0_readAll 25 = .ok (.invokespecial 287, 3) := dk_183 1 31 (dk_at dksX0_readAll_1 3 rfl rfl)
theorem dX0_readAll_28 : decode cX0_readAll 28 = .ok (.astore_n 1, 1) := dk_76 (dk_at dksX0_readAll_1 6 rfl rfl)
theorem dX0_readAll_29 : decode cX0_readAll 29 = .ok (.goto (-24), 3) := dk_167 255 232 (dk_at dksX0_readAll_1 7 rfl rfl)
theorem dX0_readAll_32 : decode cX0_readAll 32 = .ok (.aload_n 1, 1) := dk_43 (dk_at dksX0_readAll_1 10 rfl rfl)
theorem dX0_readAll_33 : decode cX0_readAll 33 = .ok (.areturn, 1) := dk_176 (dk_at dksX0_readAll_1 11 rfl rfl)
abbrev cX0_readLike : ByteArray := prog_1_method_38_code
def yX0_readLike : MethodName := ⟨RX0, "readLike", "()LNameRests$Term;"⟩
def dkwX0_readLike_2 : List UInt8 := [181, 0, 119, 46, 61, 187, 1, 29, 89, 28, 43, 42, 182, 1, 37, 183, 1, 31, 176]
abbrev dktX0_readLike_2 : List UInt8 := dkwX0_readLike_2 ++ []
def dkwX0_readLike_1 : List UInt8 := [182, 0, 122, 16, 62, 159, 0, 5, 43, 176, 42, 180, 0, 37, 42, 89, 180, 0, 119, 90, 4, 96]
abbrev dktX0_readLike_1 : List UInt8 := dkwX0_readLike_1 ++ dktX0_readLike_2
def dkwX0_readLike_0 : List UInt8 := [42, 182, 1, 37, 76, 42, 182, 0, 122, 16, 60, 159, 0, 23, 42, 182, 0, 122, 16, 61, 159, 0, 14, 42]
abbrev dktX0_readLike_0 : List UInt8 := dkwX0_readLike_0 ++ dktX0_readLike_1
theorem dksX0_readLike_0 : cX0_readLike.data.toList.drop 0 = dktX0_readLike_0 := by decide +kernel
theorem dksX0_readLike_1 : cX0_readLike.data.toList.drop 24 = dktX0_readLike_1 := dk_seg dksX0_readLike_0 24 rfl rfl
theorem dksX0_readLike_2 : cX0_readLike.data.toList.drop 46 = dktX0_readLike_2 := dk_seg dksX0_readLike_1 22 rfl rfl
theorem dX0_readLike_0 : decode cX0_readLike 0 = .ok (.aload_n 0, 1) := dk_42 (dk_at dksX0_readLike_0 0 rfl rfl)
theorem dX0_readLike_1 : decode cX0_readLike 1 = .ok (.invokevirtual 293, 3) := dk_182 1 37 (dk_at dksX0_readLike_0 1 rfl rfl)
theorem dX0_readLike_4 : decode cX0_readLike 4 = .ok (.astore_n 1, 1) := dk_76 (dk_at dksX0_readLike_0 4 rfl rfl)
theorem dX0_readLike_5 : decode cX0_readLike 5 = .ok (.aload_n 0, 1) := dk_42 (dk_at dksX0_readLike_0 5 rfl rfl)
theorem dX0_readLike_6 : decode cX0_readLike 6 = .ok (.invokevirtual 122, 3) := dk_182 0 122 (dk_at dksX0_readLike_0 6 rfl rfl)
theorem dX0_readLike_9 : decode cX0_readLike 9 = .ok (.bipush 60, 2) := dk_16 60 (dk_at dksX0_readLike_0 9 rfl rfl)
theorem dX0_readLike_11 : decode cX0_readLike 11 = .ok (.if_icmp .eq 23, 3) := dk_159 0 23 (dk_at dksX0_readLike_0 11 rfl rfl)
theorem dX0_readLike_14 : decode cX0_readLike 14 = .ok (.aload_n 0, 1) := dk_42 (dk_at dksX0_readLike_0 14 rfl rfl)
theorem dX0_readLike_15 : decode cX0_readLike 15 = .ok (.invokevirtual 122, 3) := dk_182 0 122 (dk_at dksX0_readLike_0 15 rfl rfl)
theorem dX0_readLike_18 : decode cX0_readLike 18 = .ok (.bipush 61, 2) := dk_16 61 (dk_at dksX0_readLike_0 18 rfl rfl)
theorem dX0_readLike_20 : decode cX0_readLike 20 = .ok (.if_icmp .eq 14, 3) := dk_159 0 14 (dk_at dksX0_readLike_0 20 rfl rfl)
theorem dX0_readLike_23 : decode cX0_readLike 23 = .ok (.aload_n 0, 1) := dk_42 (dk_at dksX0_readLike_0 23 rfl rfl)
theorem dX0_readLike_24 : decode cX0_readLike 24 = .ok (.invokevirtual 122, 3) := dk_182 0 122 (dk_at dksX0_readLike_1 0 rfl rfl)
theorem dX0_readLike_27 : decode cX0_readLike 27 = .ok (.bipush 62, 2) := dk_16 62 (dk_at dksX0_readLike_1 3 rfl rfl)
theorem dX0_readLike_29 : decode cX0_readLike 29 = .ok (.if_icmp .eq 5, 3) := dk_159 0 5 (dk_at dksX0_readLike_1 5 rfl rfl)
theorem dX0_readLike_32 : decode cX0_readLike 32 = .ok (.aload_n 1, 1) := dk_43 (dk_at dksX0_readLike_1 8 rfl rfl)
theorem dX0_readLike_33 : decode cX0_readLike 33 = .ok (.areturn, 1) := dk_176 (dk_at dksX0_readLike_1 9 rfl rfl)
theorem dX0_readLike_34 : decode cX0_readLike 34 = .ok (.aload_n 0, 1) := dk_42 (dk_at dksX0_readLike_1 10 rfl rfl)
theorem dX0_readLike_35 : decode cX0_readLike 35 = .ok (.getfield 37, 3) := dk_180 0 37 (dk_at dksX0_readLike_1 11 rfl rfl)
theorem dX0_readLike_38 : decode cX0_readLike 38 = .ok (.aload_n 0, 1) := dk_42 (dk_at dksX0_readLike_1 14 rfl rfl)
theorem dX0_readLike_39 : decode cX0_readLike 39 = .ok (.dup, 1) := dk_89 (dk_at dksX0_readLike_1 15 rfl rfl)
theorem dX0_readLike_40 : decode cX0_readLike 40 = .ok (.getfield 119, 3) := dk_180 0 119 (dk_at dksX0_readLike_1 16 rfl rfl)
theorem dX0_readLike_43 : decode cX0_readLike 43 = .ok (.dup_x1, 1) := dk_90 (dk_at dksX0_readLike_1 19 rfl rfl)
theorem dX0_readLike_44 : decode cX0_readLike 44 = .ok (.iconst 1, 1) := dk_4 (dk_at dksX0_readLike_1 20 rfl rfl)
theorem dX0_readLike_45 : decode cX0_readLike 45 = .ok (.iadd, 1) := dk_96 (dk_at dksX0_readLike_1 21 rfl rfl)
theorem dX0_readLike_46 : decode cX0_readLike 46 = .ok (.putfield 119, 3) := dk_181 0 119 (dk_at dksX0_readLike_2 0 rfl rfl)
theorem dX0_readLike_49 : decode cX0_readLike 49 = .ok (.iaload, 1) := dk_46 (dk_at dksX0_readLike_2 3 rfl rfl)
theorem dX0_readLike_50 : decode cX0_readLike 50 = .ok (.istore_n 2, 1) := dk_61 (dk_at dksX0_readLike_2 4 rfl rfl)
theorem dX0_readLike_51 : decode cX0_readLike 51 = .ok (.new 285, 3) := dk_187 1 29 (dk_at dksX0_readLike_2 5 rfl rfl)
theorem dX0_readLike_54 : decode cX0_readLike 54 = .ok (.dup, 1) := dk_89 (dk_at dksX0_readLike_2 8 rfl rfl)
theorem dX0_readLike_55 : decode cX0_readLike 55 = .ok (.iload_n 2, 1) := dk_28 (dk_at dksX0_readLike_2 9 rfl rfl)
theorem dX0_readLike_56 : decode cX0_readLike 56 = .ok (.aload_n 1, 1) := dk_43 (dk_at dksX0_readLike_2 10 rfl rfl)
theorem dX0_readLike_57 : decode cX0_readLike 57 = .ok (.aload_n 0, 1) := dk_42 (dk_at dksX0_readLike_2 11 rfl rfl)
theorem dX0_readLike_58 : decode cX0_readLike 58 = .ok (.invokevirtual 293, 3) := dk_182 1 37 (dk_at dksX0_readLike_2 12 rfl rfl)
theorem dX0_readLike_61 : decode cX0_readLike 61 = .ok (.invokespecial 287, 3) := dk_183 1 31 (dk_at dksX0_readLike_2 15 rfl rfl)
theorem dX0_readLike_64 : decode cX0_readLike 64 = .ok (.areturn, 1) := dk_176 (dk_at dksX0_readLike_2 18 rfl rfl)
abbrev cX0_readPlus : ByteArray := prog_1_method_37_code
def yX0_readPlus : MethodName := ⟨RX0, "readPlus", "()LNameRests$Term;"⟩
def dkwX0_readPlus_2 : List UInt8 := [182, 1, 34, 183, 1, 31, 76, 167, 255, 207, 43, 176]
abbrev dktX0_readPlus_2 : List UInt8 := dkwX0_readPlus_2 ++ []
def dkwX0_readPlus_1 : List UInt8 := [180, 0, 37, 42, 89, 180, 0, 119, 90, 4, 96, 181, 0, 119, 46, 61, 187, 1, 29, 89, 28, 43, 42]
abbrev dktX0_readPlus_1 : List UInt8 := dkwX0_readPlus_1 ++ dktX0_readPlus_2
def dkwX0_readPlus_0 : List UInt8 := [42, 182, 1, 34, 76, 42, 182, 0, 122, 16, 43, 159, 0, 12, 42, 182, 0, 122, 16, 45, 160, 0, 37, 42]
abbrev dktX0_readPlus_0 : List UInt8 := dkwX0_readPlus_0 ++ dktX0_readPlus_1
theorem dksX0_readPlus_0 : cX0_readPlus.data.toList.drop 0 = dktX0_readPlus_0 := by decide +kernel
theorem dksX0_readPlus_1 : cX0_readPlus.data.toList.drop 24 = dktX0_readPlus_1 := dk_seg dksX0_readPlus_0 24 rfl rfl
theorem dksX0_readPlus_2 : cX0_readPlus.data.toList.drop 47 = dktX0_readPlus_2 := dk_seg dksX0_readPlus_1 23 rfl rfl
theorem dX0_readPlus_0 : decode cX0_readPlus 0 = .ok (.aload_n 0, 1) := dk_42 (dk_at dksX0_readPlus_0 0 rfl rfl)
theorem dX0_readPlus_1 : decode cX0_readPlus 1 = .ok (.invokevirtual 290, 3) := dk_182 1 34 (dk_at dksX0_readPlus_0 1 rfl rfl)
theorem dX0_readPlus_4 : decode cX0_readPlus 4 = .ok (.astore_n 1, 1) := dk_76 (dk_at dksX0_readPlus_0 4 rfl rfl)
theorem dX0_readPlus_5 : decode cX0_readPlus 5 = .ok (.aload_n 0, 1) := dk_42 (dk_at dksX0_readPlus_0 5 rfl rfl)
theorem dX0_readPlus_6 : decode cX0_readPlus 6 = .ok (.invokevirtual 122, 3) := dk_182 0 122 (dk_at dksX0_readPlus_0 6 rfl rfl)
theorem dX0_readPlus_9 : decode cX0_readPlus 9 = .ok (.bipush 43, 2) := dk_16 43 (dk_at dksX0_readPlus_0 9 rfl rfl)
theorem dX0_readPlus_11 : decode cX0_readPlus 11 = .ok (.if_icmp .eq 12, 3) := dk_159 0 12 (dk_at dksX0_readPlus_0 11 rfl rfl)
theorem dX0_readPlus_14 : decode cX0_readPlus 14 = .ok (.aload_n 0, 1) := dk_42 (dk_at dksX0_readPlus_0 14 rfl rfl)
theorem dX0_readPlus_15 : decode cX0_readPlus 15 = .ok (.invokevirtual 122, 3) := dk_182 0 122 (dk_at dksX0_readPlus_0 15 rfl rfl)
theorem dX0_readPlus_18 : decode cX0_readPlus 18 = .ok (.bipush 45, 2) := dk_16 45 (dk_at dksX0_readPlus_0 18 rfl rfl)
theorem dX0_readPlus_20 : decode cX0_readPlus 20 = .ok (.if_icmp .ne 37, 3) := dk_160 0 37 (dk_at dksX0_readPlus_0 20 rfl rfl)
theorem dX0_readPlus_23 : decode cX0_readPlus 23 = .ok (.aload_n 0, 1) := dk_42 (dk_at dksX0_readPlus_0 23 rfl rfl)
theorem dX0_readPlus_24 : decode cX0_readPlus 24 = .ok (.getfield 37, 3) := dk_180 0 37 (dk_at dksX0_readPlus_1 0 rfl rfl)
theorem dX0_readPlus_27 : decode cX0_readPlus 27 = .ok (.aload_n 0, 1) := dk_42 (dk_at dksX0_readPlus_1 3 rfl rfl)
theorem dX0_readPlus_28 : decode cX0_readPlus 28 = .ok (.dup, 1) := dk_89 (dk_at dksX0_readPlus_1 4 rfl rfl)
theorem dX0_readPlus_29 : decode cX0_readPlus 29 = .ok (.getfield 119, 3) := dk_180 0 119 (dk_at dksX0_readPlus_1 5 rfl rfl)
theorem dX0_readPlus_32 : decode cX0_readPlus 32 = .ok (.dup_x1, 1) := dk_90 (dk_at dksX0_readPlus_1 8 rfl rfl)
theorem dX0_readPlus_33 : decode cX0_readPlus 33 = .ok (.iconst 1, 1) := dk_4 (dk_at dksX0_readPlus_1 9 rfl rfl)
theorem dX0_readPlus_34 : decode cX0_readPlus 34 = .ok (.iadd, 1) := dk_96 (dk_at dksX0_readPlus_1 10 rfl rfl)
theorem dX0_readPlus_35 : decode cX0_readPlus 35 = .ok (.putfield 119, 3) := dk_181 0 119 (dk_at dksX0_readPlus_1 11 rfl rfl)
theorem dX0_readPlus_38 : decode cX0_readPlus 38 = .ok (.iaload, 1) := dk_46 (dk_at dksX0_readPlus_1 14 rfl rfl)
theorem dX0_readPlus_39 : decode cX0_readPlus 39 = .ok (.istore_n 2, 1) := dk_61 (dk_at dksX0_readPlus_1 15 rfl rfl)
theorem dX0_readPlus_40 : decode cX0_readPlus 40 = .ok (.new 285, 3) := dk_187 1 29 (dk_at dksX0_readPlus_1 16 rfl rfl)
theorem dX0_readPlus_43 : decode cX0_readPlus 43 = .ok (.dup, 1) := dk_89 (dk_at dksX0_readPlus_1 19 rfl rfl)
theorem dX0_readPlus_44 : decode cX0_readPlus 44 = .ok (.iload_n 2, 1) := dk_28 (dk_at dksX0_readPlus_1 20 rfl rfl)
theorem dX0_readPlus_45 : decode cX0_readPlus 45 = .ok (.aload_n 1, 1) := dk_43 (dk_at dksX0_readPlus_1 21 rfl rfl)
theorem dX0_readPlus_46 : decode cX0_readPlus 46 = .ok (.aload_n 0, 1) := dk_42 (dk_at dksX0_readPlus_1 22 rfl rfl)
theorem dX0_readPlus_47 : decode cX0_readPlus 47 = .ok (.invokevirtual 290, 3) := dk_182 1 34 (dk_at dksX0_readPlus_2 0 rfl rfl)
theorem dX0_readPlus_50 : decode cX0_readPlus 50 = .ok (.invokespecial 287, 3) := dk_183 1 31 (dk_at dksX0_readPlus_2 3 rfl rfl)
theorem dX0_readPlus_53 : decode cX0_readPlus 53 = .ok (.astore_n 1, 1) := dk_76 (dk_at dksX0_readPlus_2 6 rfl rfl)
theorem dX0_readPlus_54 : decode cX0_readPlus 54 = .ok (.goto (-49), 3) := dk_167 255 207 (dk_at dksX0_readPlus_2 7 rfl rfl)
theorem dX0_readPlus_57 : decode cX0_readPlus 57 = .ok (.aload_n 1, 1) := dk_43 (dk_at dksX0_readPlus_2 10 rfl rfl)
theorem dX0_readPlus_58 : decode cX0_readPlus 58 = .ok (.areturn, 1) := dk_176 (dk_at dksX0_readPlus_2 11 rfl rfl)
abbrev cX0_readTimes : ByteArray := prog_1_method_36_code
def yX0_readTimes : MethodName := ⟨RX0, "readTimes", "()LNameRests$Term;"⟩
def dkwX0_readTimes_2 : List UInt8 := [61, 187, 1, 29, 89, 28, 43, 42, 182, 1, 20, 183, 1, 31, 76, 167, 255, 198, 43, 176]
abbrev dktX0_readTimes_2 : List UInt8 := dkwX0_readTimes_2 ++ []
def dkwX0_readTimes_1 : List UInt8 := [182, 0, 122, 16, 37, 160, 0, 37, 42, 180, 0, 37, 42, 89, 180, 0, 119, 90, 4, 96, 181, 0, 119, 46]
abbrev dktX0_readTimes_1 : List UInt8 := dkwX0_readTimes_1 ++ dktX0_readTimes_2
def dkwX0_readTimes_0 : List UInt8 := [42, 182, 1, 20, 76, 42, 182, 0, 122, 16, 42, 159, 0, 21, 42, 182, 0, 122, 16, 47, 159, 0, 12, 42]
abbrev dktX0_readTimes_0 : List UInt8 := dkwX0_readTimes_0 ++ dktX0_readTimes_1
theorem dksX0_readTimes_0 : cX0_readTimes.data.toList.drop 0 = dktX0_readTimes_0 := by decide +kernel
theorem dksX0_readTimes_1 : cX0_readTimes.data.toList.drop 24 = dktX0_readTimes_1 := dk_seg dksX0_readTimes_0 24 rfl rfl
theorem dksX0_readTimes_2 : cX0_readTimes.data.toList.drop 48 = dktX0_readTimes_2 := dk_seg dksX0_readTimes_1 24 rfl rfl
theorem dX0_readTimes_0 : decode cX0_readTimes 0 = .ok (.aload_n 0, 1) := dk_42 (dk_at dksX0_readTimes_0 0 rfl rfl)
theorem dX0_readTimes_1 : decode cX0_readTimes 1 = .ok (.invokevirtual 276, 3) := dk_182 1 20 (dk_at dksX0_readTimes_0 1 rfl rfl)
theorem dX0_readTimes_4 : decode cX0_readTimes 4 = .ok (.astore_n 1, 1) := dk_76 (dk_at dksX0_readTimes_0 4 rfl rfl)
theorem dX0_readTimes_5 : decode cX0_readTimes 5 = .ok (.aload_n 0, 1) := dk_42 (dk_at dksX0_readTimes_0 5 rfl rfl)
theorem dX0_readTimes_6 : decode cX0_readTimes 6 = .ok (.invokevirtual 122, 3) := dk_182 0 122 (dk_at dksX0_readTimes_0 6 rfl rfl)
theorem dX0_readTimes_9 : decode cX0_readTimes 9 = .ok (.bipush 42, 2) := dk_16 42 (dk_at dksX0_readTimes_0 9 rfl rfl)
theorem dX0_readTimes_11 : decode cX0_readTimes 11 = .ok (.if_icmp .eq 21, 3) := dk_159 0 21 (dk_at dksX0_readTimes_0 11 rfl rfl)
theorem dX0_readTimes_14 : decode cX0_readTimes 14 = .ok (.aload_n 0, 1) := dk_42 (dk_at dksX0_readTimes_0 14 rfl rfl)
theorem dX0_readTimes_15 : decode cX0_readTimes 15 = .ok (.invokevirtual 122, 3) := dk_182 0 122 (dk_at dksX0_readTimes_0 15 rfl rfl)
theorem dX0_readTimes_18 : decode cX0_readTimes 18 = .ok (.bipush 47, 2) := dk_16 47 (dk_at dksX0_readTimes_0 18 rfl rfl)
theorem dX0_readTimes_20 : decode cX0_readTimes 20 = .ok (.if_icmp .eq 12, 3) := dk_159 0 12 (dk_at dksX0_readTimes_0 20 rfl rfl)
theorem dX0_readTimes_23 : decode cX0_readTimes 23 = .ok (.aload_n 0, 1) := dk_42 (dk_at dksX0_readTimes_0 23 rfl rfl)
theorem dX0_readTimes_24 : decode cX0_readTimes 24 = .ok (.invokevirtual 122, 3) := dk_182 0 122 (dk_at dksX0_readTimes_1 0 rfl rfl)
theorem dX0_readTimes_27 : decode cX0_readTimes 27 = .ok (.bipush 37, 2) := dk_16 37 (dk_at dksX0_readTimes_1 3 rfl rfl)
theorem dX0_readTimes_29 : decode cX0_readTimes 29 = .ok (.if_icmp .ne 37, 3) := dk_160 0 37 (dk_at dksX0_readTimes_1 5 rfl rfl)
theorem dX0_readTimes_32 : decode cX0_readTimes 32 = .ok (.aload_n 0, 1) := dk_42 (dk_at dksX0_readTimes_1 8 rfl rfl)
theorem dX0_readTimes_33 : decode cX0_readTimes 33 = .ok (.getfield 37, 3) := dk_180 0 37 (dk_at dksX0_readTimes_1 9 rfl rfl)
theorem dX0_readTimes_36 : decode cX0_readTimes 36 = .ok (.aload_n 0, 1) := dk_42 (dk_at dksX0_readTimes_1 12 rfl rfl)
theorem dX0_readTimes_37 : decode cX0_readTimes 37 = .ok (.dup, 1) := dk_89 (dk_at dksX0_readTimes_1 13 rfl rfl)
theorem dX0_readTimes_38 : decode cX0_readTimes 38 = .ok (.getfield 119, 3) := dk_180 0 119 (dk_at dksX0_readTimes_1 14 rfl rfl)
theorem dX0_readTimes_41 : decode cX0_readTimes 41 = .ok (.dup_x1, 1) := dk_90 (dk_at dksX0_readTimes_1 17 rfl rfl)
theorem dX0_readTimes_42 : decode cX0_readTimes 42 = .ok (.iconst 1, 1) := dk_4 (dk_at dksX0_readTimes_1 18 rfl rfl)
theorem dX0_readTimes_43 : decode cX0_readTimes 43 = .ok (.iadd, 1) := dk_96 (dk_at dksX0_readTimes_1 19 rfl rfl)
theorem dX0_readTimes_44 : decode cX0_readTimes 44 = .ok (.putfield 119, 3) := dk_181 0 119 (dk_at dksX0_readTimes_1 20 rfl rfl)
theorem dX0_readTimes_47 : decode cX0_readTimes 47 = .ok (.iaload, 1) := dk_46 (dk_at dksX0_readTimes_1 23 rfl rfl)
theorem dX0_readTimes_48 : decode cX0_readTimes 48 = .ok (.istore_n 2, 1) := dk_61 (dk_at dksX0_readTimes_2 0 rfl rfl)
theorem dX0_readTimes_49 : decode cX0_readTimes 49 = .ok (.new 285, 3) := dk_187 1 29 (dk_at dksX0_readTimes_2 1 rfl rfl)
theorem dX0_readTimes_52 : decode cX0_readTimes 52 = .ok (.dup, 1) := dk_89 (dk_at dksX0_readTimes_2 4 rfl rfl)
theorem dX0_readTimes_53 : decode cX0_readTimes 53 = .ok (.iload_n 2, 1) := dk_28 (dk_at dksX0_readTimes_2 5 rfl rfl)
theorem dX0_readTimes_54 : decode cX0_readTimes 54 = .ok (.aload_n 1, 1) := dk_43 (dk_at dksX0_readTimes_2 6 rfl rfl)
theorem dX0_readTimes_55 : decode cX0_readTimes 55 = .ok (.aload_n 0, 1) := dk_42 (dk_at dksX0_readTimes_2 7 rfl rfl)
theorem dX0_readTimes_56 : decode cX0_readTimes 56 = .ok (.invokevirtual 276, 3) := dk_182 1 20 (dk_at dksX0_readTimes_2 8 rfl rfl)
theorem dX0_readTimes_59 : decode cX0_readTimes 59 = .ok (.invokespecial 287, 3) := dk_183 1 31 (dk_at dksX0_readTimes_2 11 rfl rfl)
theorem dX0_readTimes_62 : decode cX0_readTimes 62 = .ok (.astore_n 1, 1) := dk_76 (dk_at dksX0_readTimes_2 14 rfl rfl)
theorem dX0_readTimes_63 : decode cX0_readTimes 63 = .ok (.goto (-58), 3) := dk_167 255 198 (dk_at dksX0_readTimes_2 15 rfl rfl)
theorem dX0_readTimes_66 : decode cX0_readTimes 66 = .ok (.aload_n 1, 1) := dk_43 (dk_at dksX0_readTimes_2 18 rfl rfl)
theorem dX0_readTimes_67 : decode cX0_readTimes 67 = .ok (.areturn, 1) := dk_176 (dk_at dksX0_readTimes_2 19 rfl rfl)
abbrev cX0_readOne : ByteArray := prog_1_method_35_code
def yX0_readOne : MethodName := ⟨RX0, "readOne", "()LNameRests$Term;"⟩
def dkwX0_readOne_8 : List UInt8 := [16, 40, 160, 0, 9, 42, 16, 41, 182, 1, 26, 42, 89, 180, 1, 11, 4, 100, 181, 1, 11, 45, 176]
abbrev dktX0_readOne_8 : List UInt8 := dkwX0_readOne_8 ++ []
def dkwX0_readOne_7 : List UInt8 := [160, 0, 10, 42, 182, 1, 14, 167, 0, 15, 187, 1, 18, 89, 28, 42, 182, 1, 20, 183, 1, 23, 78, 28]
abbrev dktX0_readOne_7 : List UInt8 := dkwX0_readOne_7 ++ dktX0_readOne_8
def dkwX0_readOne_6 : List UInt8 := [89, 180, 0, 119, 4, 96, 181, 0, 119, 42, 89, 180, 1, 11, 4, 96, 181, 1, 11, 28, 16, 40]
abbrev dktX0_readOne_6 : List UInt8 := dkwX0_readOne_6 ++ dktX0_readOne_7
def dkwX0_readOne_5 : List UInt8 := [159, 0, 9, 28, 16, 40, 160, 0, 12, 42, 180, 1, 11, 16, 6, 160, 0, 8, 42, 180, 0, 44, 191, 42]
abbrev dktX0_readOne_5 : List UInt8 := dkwX0_readOne_5 ++ dktX0_readOne_6
def dkwX0_readOne_4 : List UInt8 := [187, 1, 6, 89, 42, 27, 183, 1, 8, 176, 42, 182, 0, 122, 61, 28, 16, 33, 159, 0, 15, 28, 16, 45]
abbrev dktX0_readOne_4 : List UInt8 := dkwX0_readOne_4 ++ dktX0_readOne_5
def dkwX0_readOne_3 : List UInt8 := [182, 0, 122, 184, 1, 3, 60, 27, 2, 159, 0, 23, 42, 89, 180, 0, 119, 4, 96, 181, 0, 119]
abbrev dktX0_readOne_3 : List UInt8 := dkwX0_readOne_3 ++ dktX0_readOne_4
def dkwX0_readOne_2 : List UInt8 := [181, 0, 119, 46, 96, 16, 48, 100, 60, 167, 255, 214, 187, 0, 254, 89, 27, 183, 1, 0, 176, 42]
abbrev dktX0_readOne_2 : List UInt8 := dkwX0_readOne_2 ++ dktX0_readOne_3
def dkwX0_readOne_1 : List UInt8 := [42, 182, 0, 250, 153, 0, 31, 16, 10, 27, 104, 42, 180, 0, 37, 42, 89, 180, 0, 119, 90, 4, 96]
abbrev dktX0_readOne_1 : List UInt8 := dkwX0_readOne_1 ++ dktX0_readOne_2
def dkwX0_readOne_0 : List UInt8 := [42, 182, 0, 250, 153, 0, 64, 3, 60, 42, 180, 0, 119, 61, 42, 180, 0, 119, 28, 7, 96, 162, 0, 38]
abbrev dktX0_readOne_0 : List UInt8 := dkwX0_readOne_0 ++ dktX0_readOne_1
theorem dksX0_readOne_0 : cX0_readOne.data.toList.drop 0 = dktX0_readOne_0 := by decide +kernel
theorem dksX0_readOne_1 : cX0_readOne.data.toList.drop 24 = dktX0_readOne_1 := dk_seg dksX0_readOne_0 24 rfl rfl
theorem dksX0_readOne_2 : cX0_readOne.data.toList.drop 47 = dktX0_readOne_2 := dk_seg dksX0_readOne_1 23 rfl rfl
theorem dksX0_readOne_3 : cX0_readOne.data.toList.drop 69 = dktX0_readOne_3 := dk_seg dksX0_readOne_2 22 rfl rfl
theorem dksX0_readOne_4 : cX0_readOne.data.toList.drop 91 = dktX0_readOne_4 := dk_seg dksX0_readOne_3 22 rfl rfl
theorem dksX0_readOne_5 : cX0_readOne.data.toList.drop 115 = dktX0_readOne_5 := dk_seg dksX0_readOne_4 24 rfl rfl
theorem dksX0_readOne_6 : cX0_readOne.data.toList.drop 139 = dktX0_readOne_6 := dk_seg dksX0_readOne_5 24 rfl rfl
theorem dksX0_readOne_7 : cX0_readOne.data.toList.drop 161 = dktX0_readOne_7 := dk_seg dksX0_readOne_6 22 rfl rfl
theorem dksX0_readOne_8 : cX0_readOne.data.toList.drop 185 = dktX0_readOne_8 := dk_seg dksX0_readOne_7 24 rfl rfl
theorem dX0_readOne_0 : decode cX0_readOne 0 = .ok (.aload_n 0, 1) := dk_42 (dk_at dksX0_readOne_0 0 rfl rfl)
theorem dX0_readOne_1 : decode cX0_readOne 1 = .ok (.invokevirtual 250, 3) := dk_182 0 250 (dk_at dksX0_readOne_0 1 rfl rfl)
theorem dX0_readOne_4 : decode cX0_readOne 4 = .ok (.ifCond .eq 64, 3) := dk_153 0 64 (dk_at dksX0_readOne_0 4 rfl rfl)
theorem dX0_readOne_7 : decode cX0_readOne 7 = .ok (.iconst 0, 1) := dk_3 (dk_at dksX0_readOne_0 7 rfl rfl)
theorem dX0_readOne_8 : decode cX0_readOne 8 = .ok (.istore_n 1, 1) := dk_60 (dk_at dksX0_readOne_0 8 rfl rfl)
theorem dX0_readOne_9 : decode cX0_readOne 9 = .ok (.aload_n 0, 1) := dk_42 (dk_at dksX0_readOne_0 9 rfl rfl)
theorem dX0_readOne_10 : decode cX0_readOne 10 = .ok (.getfield 119, 3) := dk_180 0 119 (dk_at dksX0_readOne_0 10 rfl rfl)
theorem dX0_readOne_13 : decode cX0_readOne 13 = .ok (.istore_n 2, 1) := dk_61 (dk_at dksX0_readOne_0 13 rfl rfl)
theorem dX0_readOne_14 : decode cX0_readOne 14 = .ok (.aload_n 0, 1) := dk_42 (dk_at dksX0_readOne_0 14 rfl rfl)
theorem dX0_readOne_15 : decode cX0_readOne 15 = .ok (.getfield 119, 3) := dk_180 0 119 (dk_at dksX0_readOne_0 15 rfl rfl)
theorem dX0_readOne_18 : decode cX0_readOne 18 = .ok (.iload_n 2, 1) := dk_28 (dk_at dksX0_readOne_0 18 rfl rfl)
theorem dX0_readOne_19 : decode cX0_readOne 19 = .ok (.iconst 4, 1) := dk_7 (dk_at dksX0_readOne_0 19 rfl rfl)
theorem dX0_readOne_20 : decode cX0_readOne 20 = .ok (.iadd, 1) := dk_96 (dk_at dksX0_readOne_0 20 rfl rfl)
theorem dX0_readOne_21 : decode cX0_readOne 21 = .ok (.if_icmp .ge 38, 3) := dk_162 0 38 (dk_at dksX0_readOne_0 21 rfl rfl)
theorem dX0_readOne_24 : decode cX0_readOne 24 = .ok (.aload_n 0, 1) := dk_42 (dk_at dksX0_readOne_1 0 rfl rfl)
theorem dX0_readOne_25 : decode cX0_readOne 25 = .ok (.invokevirtual 250, 3) := dk_182 0 250 (dk_at dksX0_readOne_1 1 rfl rfl)
theorem dX0_readOne_28 : decode cX0_readOne 28 = .ok (.ifCond .eq 31, 3) := dk_153 0 31 (dk_at dksX0_readOne_1 4 rfl rfl)
theorem dX0_readOne_31 : decode cX0_readOne 31 = .ok (.bipush 10, 2) := dk_16 10 (dk_at dksX0_readOne_1 7 rfl rfl)
theorem dX0_readOne_33 : decode cX0_readOne 33 = .ok (.iload_n 1, 1) := dk_27 (dk_at dksX0_readOne_1 9 rfl rfl)
theorem dX0_readOne_34 : decode cX0_readOne 34 = .ok (.imul, 1) := dk_104 (dk_at dksX0_readOne_1 10 rfl rfl)
theorem dX0_readOne_35 : decode cX0_readOne 35 = .ok (.aload_n 0, 1) := dk_42 (dk_at dksX0_readOne_1 11 rfl rfl)
theorem dX0_readOne_36 : decode cX0_readOne 36 = .ok (.getfield 37, 3) := dk_180 0 37 (dk_at dksX0_readOne_1 12 rfl rfl)
theorem dX0_readOne_39 : decode cX0_readOne 39 = .ok (.aload_n 0, 1) := dk_42 (dk_at dksX0_readOne_1 15 rfl rfl)
theorem dX0_readOne_40 : decode cX0_readOne 40 = .ok (.dup, 1) := dk_89 (dk_at dksX0_readOne_1 16 rfl rfl)
theorem dX0_readOne_41 : decode cX0_readOne 41 = .ok (.getfield 119, 3) := dk_180 0 119 (dk_at dksX0_readOne_1 17 rfl rfl)
theorem dX0_readOne_44 : decode cX0_readOne 44 = .ok (.dup_x1, 1) := dk_90 (dk_at dksX0_readOne_1 20 rfl rfl)
theorem dX0_readOne_45 : decode cX0_readOne 45 = .ok (.iconst 1, 1) := dk_4 (dk_at dksX0_readOne_1 21 rfl rfl)
theorem dX0_readOne_46 : decode cX0_readOne 46 = .ok (.iadd, 1) := dk_96 (dk_at dksX0_readOne_1 22 rfl rfl)
theorem dX0_readOne_47 : decode cX0_readOne 47 = .ok (.putfield 119, 3) := dk_181 0 119 (dk_at dksX0_readOne_2 0 rfl rfl)
theorem dX0_readOne_50 : decode cX0_readOne 50 = .ok (.iaload, 1) := dk_46 (dk_at dksX0_readOne_2 3 rfl rfl)
theorem dX0_readOne_51 : decode cX0_readOne 51 = .ok (.iadd, 1) := dk_96 (dk_at dksX0_readOne_2 4 rfl rfl)
theorem dX0_readOne_52 : decode cX0_readOne 52 = .ok (.bipush 48, 2) := dk_16 48 (dk_at dksX0_readOne_2 5 rfl rfl)
theorem dX0_readOne_54 : decode cX0_readOne 54 = .ok (.isub, 1) := dk_100 (dk_at dksX0_readOne_2 7 rfl rfl)
theorem dX0_readOne_55 : decode cX0_readOne 55 = .ok (.istore_n 1, 1) := dk_60 (dk_at dksX0_readOne_2 8 rfl rfl)
theorem dX0_readOne_56 : decode cX0_readOne 56 = .ok (.goto (-42), 3) := dk_167 255 214 (dk_at dksX0_readOne_2 9 rfl rfl)
theorem dX0_readOne_59 : decode cX0_readOne 59 = .ok (.new 254, 3) := dk_187 0 254 (dk_at dksX0_readOne_2 12 rfl rfl)
theorem dX0_readOne_62 : decode cX0_readOne 62 = .ok (.dup, 1) := dk_89 (dk_at dksX0_readOne_2 15 rfl rfl)
theorem dX0_readOne_63 : decode cX0_readOne 63 = .ok (.iload_n 1, 1) := dk_27 (dk_at dksX0_readOne_2 16 rfl rfl)
theorem dX0_readOne_64 : decode cX0_readOne 64 = .ok (.invokespecial 256, 3) := dk_183 1 0 (dk_at dksX0_readOne_2 17 rfl rfl)
theorem dX0_readOne_67 : decode cX0_readOne 67 = .ok (.areturn, 1) := dk_176 (dk_at dksX0_readOne_2 20 rfl rfl)
theorem dX0_readOne_68 : decode cX0_readOne 68 = .ok (.aload_n 0, 1) := dk_42 (dk_at dksX0_readOne_2 21 rfl rfl)
theorem dX0_readOne_69 : decode cX0_readOne 69 = .ok (.invokevirtual 122, 3) := dk_182 0 122 (dk_at dksX0_readOne_3 0 rfl rfl)
theorem dX0_readOne_72 : decode cX0_readOne 72 = .ok (.invokestatic 259, 3) := dk_184 1 3 (dk_at dksX0_readOne_3 3 rfl rfl)
theorem dX0_readOne_75 : decode cX0_readOne 75 = .ok (.istore_n 1, 1) := dk_60 (dk_at dksX0_readOne_3 6 rfl rfl)
theorem dX0_readOne_76 : decode cX0_readOne 76 = .ok (.iload_n 1, 1) := dk_27 (dk_at dksX0_readOne_3 7 rfl rfl)
theorem dX0_readOne_77 : decode cX0_readOne 77 = .ok (.iconst (-1), 1) := dk_2 (dk_at dksX0_readOne_3 8 rfl rfl)
theorem dX0_readOne_78 : decode cX0_readOne 78 = .ok (.if_icmp .eq 23, 3) := dk_159 0 23 (dk_at dksX0_readOne_3 9 rfl rfl)
theorem dX0_readOne_81 : decode cX0_readOne 81 = .ok (.aload_n 0, 1) := dk_42 (dk_at dksX0_readOne_3 12 rfl rfl)
theorem dX0_readOne_82 : decode cX0_readOne 82 = .ok (.dup, 1) := dk_89 (dk_at dksX0_readOne_3 13 rfl rfl)
theorem dX0_readOne_83 : decode cX0_readOne 83 = .ok (.getfield 119, 3) := dk_180 0 119 (dk_at dksX0_readOne_3 14 rfl rfl)
theorem dX0_readOne_86 : decode cX0_readOne 86 = .ok (.iconst 1, 1) := dk_4 (dk_at dksX0_readOne_3 17 rfl rfl)
theorem dX0_readOne_87 : decode cX0_readOne 87 = .ok (.iadd, 1) := dk_96 (dk_at dksX0_readOne_3 18 rfl rfl)
theorem dX0_readOne_88 : decode cX0_readOne 88 = .ok (.putfield 119, 3) := dk_181 0 119 (dk_at dksX0_readOne_3 19 rfl rfl)
theorem dX0_readOne_91 : decode cX0_readOne 91 = .ok (.new 262, 3) := dk_187 1 6 (dk_at dksX0_readOne_4 0 rfl rfl)
theorem dX0_readOne_94 : decode cX0_readOne 94 = .ok (.dup, 1) := dk_89 (dk_at dksX0_readOne_4 3 rfl rfl)
theorem dX0_readOne_95 : decode cX0_readOne 95 = .ok (.aload_n 0, 1) := dk_42 (dk_at dksX0_readOne_4 4 rfl rfl)
theorem dX0_readOne_96 : decode cX0_readOne 96 = .ok (.iload_n 1, 1) := dk_27 (dk_at dksX0_readOne_4 5 rfl rfl)
theorem dX0_readOne_97 : decode cX0_readOne 97 = .ok (.invokespecial 264, 3) := dk_183 1 8 (dk_at dksX0_readOne_4 6 rfl rfl)
theorem dX0_readOne_100 : decode cX0_readOne 100 = .ok (.areturn, 1) := dk_176 (dk_at dksX0_readOne_4 9 rfl rfl)
theorem dX0_readOne_101 : decode cX0_readOne 101 = .ok (.aload_n 0, 1) := dk_42 (dk_at dksX0_readOne_4 10 rfl rfl)
theorem dX0_readOne_102 : decode cX0_readOne 102 = .ok (.invokevirtual 122, 3) := dk_182 0 122 (dk_at dksX0_readOne_4 11 rfl rfl)
theorem dX0_readOne_105 : decode cX0_readOne 105 = .ok (.istore_n 2, 1) := dk_61 (dk_at dksX0_readOne_4 14 rfl rfl)
theorem dX0_readOne_106 : decode cX0_readOne 106 = .ok (.iload_n 2, 1) := dk_28 (dk_at dksX0_readOne_4 15 rfl rfl)
theorem dX0_readOne_107 : decode cX0_readOne 107 = .ok (.bipush 33, 2) := dk_16 33 (dk_at dksX0_readOne_4 16 rfl rfl)
theorem dX0_readOne_109 : decode cX0_readOne 109 = .ok (.if_icmp .eq 15, 3) := dk_159 0 15 (dk_at dksX0_readOne_4 18 rfl rfl)
theorem dX0_readOne_112 : decode cX0_readOne 112 = .ok (.iload_n 2, 1) := dk_28 (dk_at dksX0_readOne_4 21 rfl rfl)
theorem dX0_readOne_113 : decode cX0_readOne 113 = .ok (.bipush 45, 2) := dk_16 45 (dk_at dksX0_readOne_4 22 rfl rfl)
theorem dX0_readOne_115 : decode cX0_readOne 115 = .ok (.if_icmp .eq 9, 3) := dk_159 0 9 (dk_at dksX0_readOne_5 0 rfl rfl)
theorem dX0_readOne_118 : decode cX0_readOne 118 = .ok (.iload_n 2, 1) := dk_28 (dk_at dksX0_readOne_5 3 rfl rfl)
theorem dX0_readOne_119 : decode cX0_readOne 119 = .ok (.bipush 40, 2) := dk_16 40 (dk_at dksX0_readOne_5 4 rfl rfl)
theorem dX0_readOne_121 : decode cX0_readOne 121 = .ok (.if_icmp .ne 12, 3) := dk_160 0 12 (dk_at dksX0_readOne_5 6 rfl rfl)
theorem dX0_readOne_124 : decode cX0_readOne 124 = .ok (.aload_n 0, 1) := dk_42 (dk_at dksX0_readOne_5 9 rfl rfl)
theorem dX0_readOne_125 : decode cX0_readOne 125 = .ok (.getfield 267, 3) := dk_180 1 11 (dk_at dksX0_readOne_5 10 rfl rfl)
theorem dX0_readOne_128 : decode cX0_readOne 128 = .ok (.bipush 6, 2) := dk_16 6 (dk_at dksX0_readOne_5 13 rfl rfl)
theorem dX0_readOne_130 : decode cX0_readOne 130 = .ok (.if_icmp .ne 8, 3) := dk_160 0 8 (dk_at dksX0_readOne_5 15 rfl rfl)
theorem dX0_readOne_133 : decode cX0_readOne 133 = .ok (.aload_n 0, 1) := dk_42 (dk_at dksX0_readOne_5 18 rfl rfl)
theorem dX0_readOne_134 : decode cX0_readOne 134 = .ok (.getfield 44, 3) := dk_180 0 44 (dk_at dksX0_readOne_5 19 rfl rfl)
theorem dX0_readOne_137 : decode cX0_readOne 137 = .ok (.athrow, 1) := dk_191 (dk_at dksX0_readOne_5 22 rfl rfl)
theorem dX0_readOne_138 : decode cX0_readOne 138 = .ok (.aload_n 0, 1) := dk_42 (dk_at dksX0_readOne_5 23 rfl rfl)
theorem dX0_readOne_139 : decode cX0_readOne 139 = .ok (.dup, 1) := dk_89 (dk_at dksX0_readOne_6 0 rfl rfl)
theorem dX0_readOne_140 : decode cX0_readOne 140 = .ok (.getfield 119, 3) := dk_180 0 119 (dk_at dksX0_readOne_6 1 rfl rfl)
theorem dX0_readOne_143 : decode cX0_readOne 143 = .ok (.iconst 1, 1) := dk_4 (dk_at dksX0_readOne_6 4 rfl rfl)
theorem dX0_readOne_144 : decode cX0_readOne 144 = .ok (.iadd, 1) := dk_96 (dk_at dksX0_readOne_6 5 rfl rfl)
theorem dX0_readOne_145 : decode cX0_readOne 145 = .ok (.putfield 119, 3) := dk_181 0 119 (dk_at dksX0_readOne_6 6 rfl rfl)
theorem dX0_readOne_148 : decode cX0_readOne 148 = .ok (.aload_n 0, 1) := dk_42 (dk_at dksX0_readOne_6 9 rfl rfl)
theorem dX0_readOne_149 : decode cX0_readOne 149 = .ok (.dup, 1) := dk_89 (dk_at dksX0_readOne_6 10 rfl rfl)
theorem dX0_readOne_150 : decode cX0_readOne 150 = .ok (.getfield 267, 3) := dk_180 1 11 (dk_at dksX0_readOne_6 11 rfl rfl)
theorem dX0_readOne_153 : decode cX0_readOne 153 = .ok (.iconst 1, 1) := dk_4 (dk_at dksX0_readOne_6 14 rfl rfl)
theorem dX0_readOne_154 : decode cX0_readOne 154 = .ok (.iadd, 1) := dk_96 (dk_at dksX0_readOne_6 15 rfl rfl)
theorem dX0_readOne_155 : decode cX0_readOne 155 = .ok (.putfield 267, 3) := dk_181 1 11 (dk_at dksX0_readOne_6 16 rfl rfl)
theorem dX0_readOne_158 : decode cX0_readOne 158 = .ok (.iload_n 2, 1) := dk_28 (dk_at dksX0_readOne_6 19 rfl rfl)
theorem dX0_readOne_159 : decode cX0_readOne 159 = .ok (.bipush 40, 2) := dk_16 40 (dk_at dksX0_readOne_6 20 rfl rfl)
theorem dX0_readOne_161 : decode cX0_readOne 161 = .ok (.if_icmp .ne 10, 3) := dk_160 0 10 (dk_at dksX0_readOne_7 0 rfl rfl)
theorem dX0_readOne_164 : decode cX0_readOne 164 = .ok (.aload_n 0, 1) := dk_42 (dk_at dksX0_readOne_7 3 rfl rfl)
theorem dX0_readOne_165 : decode cX0_readOne 165 = .ok (.invokevirtual 270, 3) := dk_182 1 14 (dk_at dksX0_readOne_7 4 rfl rfl)
theorem dX0_readOne_168 : decode cX0_readOne 168 = .ok (.goto 15, 3) := dk_167 0 15 (dk_at dksX0_readOne_7 7 rfl rfl)
theorem dX0_readOne_171 : decode cX0_readOne 171 = .ok (.new 274, 3) := dk_187 1 18 (dk_at dksX0_readOne_7 10 rfl rfl)
theorem dX0_readOne_174 : decode cX0_readOne 174 = .ok (.dup, 1) := dk_89 (dk_at dksX0_readOne_7 13 rfl rfl)
theorem dX0_readOne_175 : decode cX0_readOne 175 = .ok (.iload_n 2, 1) := dk_28 (dk_at dksX0_readOne_7 14 rfl rfl)
theorem dX0_readOne_176 : decode cX0_readOne 176 = .ok (.aload_n 0, 1) := dk_42 (dk_at dksX0_readOne_7 15 rfl rfl)
theorem dX0_readOne_177 : decode cX0_readOne 177 = .ok (.invokevirtual 276, 3) := dk_182 1 20 (dk_at dksX0_readOne_7 16 rfl rfl)
theorem dX0_readOne_180 : decode cX0_readOne 180 = .ok (.invokespecial 279, 3) := dk_183 1 23 (dk_at dksX0_readOne_7 19 rfl rfl)
theorem dX0_readOne_183 : decode cX0_readOne 183 = .ok (.astore_n 3, 1) := dk_78 (dk_at dksX0_readOne_7 22 rfl rfl)
theorem dX0_readOne_184 : decode cX0_readOne 184 = .ok (.iload_n 2, 1) := dk_28 (dk_at dksX0_readOne_7 23 rfl rfl)
theorem dX0_readOne_185 : decode cX0_readOne 185 = .ok (.bipush 40, 2) := dk_16 40 (dk_at dksX0_readOne_8 0 rfl rfl)
theorem dX0_readOne_187 : decode cX0_readOne 187 = .ok (.if_icmp .ne 9, 3) := dk_160 0 9 (dk_at dksX0_readOne_8 2 rfl rfl)
theorem dX0_readOne_190 : decode cX0_readOne 190 = .ok (.aload_n 0, 1) := dk_42 (dk_at dksX0_readOne_8 5 rfl rfl)
theorem dX0_readOne_191 : decode cX0_readOne 191 = .ok (.bipush 41, 2) := dk_16 41 (dk_at dksX0_readOne_8 6 rfl rfl)
theorem dX0_readOne_193 : decode cX0_readOne 193 = .ok (.invokevirtual 282, 3) := dk_182 1 26 (dk_at dksX0_readOne_8 8 rfl rfl)
theorem dX0_readOne_196 : decode cX0_readOne 196 = .ok (.aload_n 0, 1) := dk_42 (dk_at dksX0_readOne_8 11 rfl rfl)
theorem dX0_readOne_197 : decode cX0_readOne 197 = .ok (.dup, 1) := dk_89 (dk_at dksX0_readOne_8 12 rfl rfl)
theorem dX0_readOne_198 : decode cX0_readOne 198 = .ok (.getfield 267, 3) := dk_180 1 11 (dk_at dksX0_readOne_8 13 rfl rfl)
theorem dX0_readOne_201 : decode cX0_readOne 201 = .ok (.iconst 1, 1) := dk_4 (dk_at dksX0_readOne_8 16 rfl rfl)
theorem dX0_readOne_202 : decode cX0_readOne 202 = .ok (.isub, 1) := dk_100 (dk_at dksX0_readOne_8 17 rfl rfl)
theorem dX0_readOne_203 : decode cX0_readOne 203 = .ok (.putfield 267, 3) := dk_181 1 11 (dk_at dksX0_readOne_8 18 rfl rfl)
theorem dX0_readOne_206 : decode cX0_readOne 206 = .ok (.aload_n 3, 1) := dk_45 (dk_at dksX0_readOne_8 21 rfl rfl)
theorem dX0_readOne_207 : decode cX0_readOne 207 = .ok (.areturn, 1) := dk_176 (dk_at dksX0_readOne_8 22 rfl rfl)
abbrev cX0_isDigit : ByteArray := prog_1_method_13_code
def yX0_isDigit : MethodName := ⟨RX0, "isDigit", "()Z"⟩
def dkwX0_isDigit_0 : List UInt8 := [42, 182, 0, 122, 133, 20, 0, 130, 20, 0, 132, 184, 0, 112, 172]
abbrev dktX0_isDigit_0 : List UInt8 := dkwX0_isDigit_0 ++ []
theorem dksX0_isDigit_0 : cX0_isDigit.data.toList.drop 0 = dktX0_isDigit_0 := by decide +kernel
theorem dX0_isDigit_0 : decode cX0_isDigit 0 = .ok (.aload_n 0, 1) := dk_42 (dk_at dksX0_isDigit_0 0 rfl rfl)
theorem dX0_isDigit_1 : decode cX0_isDigit 1 = .ok (.invokevirtual 122, 3) := dk_182 0 122 (dk_at dksX0_isDigit_0 1 rfl rfl)
theorem dX0_isDigit_4 : decode cX0_isDigit 4 = .ok (.i2l, 1) := dk_133 (dk_at dksX0_isDigit_0 4 rfl rfl)
theorem dX0_isDigit_5 : decode cX0_isDigit 5 = .ok (.ldc2_w 130, 3) := dk_20 0 130 (dk_at dksX0_isDigit_0 5 rfl rfl)
theorem dX0_isDigit_8 : decode cX0_isDigit 8 = .ok (.ldc2_w 132, 3) := dk_20 0 132 (dk_at dksX0_isDigit_0 8 rfl rfl)
theorem dX0_isDigit_11 : decode cX0_isDigit 11 = .ok (.invokestatic 112, 3) := dk_184 0 112 (dk_at dksX0_isDigit_0 11 rfl rfl)
theorem dX0_isDigit_14 : decode cX0_isDigit 14 = .ok (.ireturn, 1) := dk_172 (dk_at dksX0_isDigit_0 14 rfl rfl)
abbrev cX0_peek : ByteArray := prog_1_method_10_code
def yX0_peek : MethodName := ⟨RX0, "peek", "()I"⟩
def dkwX0_peek_1 : List UInt8 := [172]
abbrev dktX0_peek_1 : List UInt8 := dkwX0_peek_1 ++ []
def dkwX0_peek_0 : List UInt8 := [42, 180, 0, 119, 42, 180, 0, 116, 162, 0, 15, 42, 180, 0, 37, 42, 180, 0, 119, 46, 167, 0, 4, 2]
abbrev dktX0_peek_0 : List UInt8 := dkwX0_peek_0 ++ dktX0_peek_1
theorem dksX0_peek_0 : cX0_peek.data.toList.drop 0 = dktX0_peek_0 := by decide +kernel
theorem dksX0_peek_1 : cX0_peek.data.toList.drop 24 = dktX0_peek_1 := dk_seg dksX0_peek_0 24 rfl rfl
theorem dX0_peek_0 : decode cX0_peek 0 = .ok (.aload_n 0, 1) := dk_42 (dk_at dksX0_peek_0 0 rfl rfl)
theorem dX0_peek_1 : decode cX0_peek 1 = .ok (.getfield 119, 3) := dk_180 0 119 (dk_at dksX0_peek_0 1 rfl rfl)
theorem dX0_peek_4 : decode cX0_peek 4 = .ok (.aload_n 0, 1) := dk_42 (dk_at dksX0_peek_0 4 rfl rfl)
theorem dX0_peek_5 : decode cX0_peek 5 = .ok (.getfield 116, 3) := dk_180 0 116 (dk_at dksX0_peek_0 5 rfl rfl)
theorem dX0_peek_8 : decode cX0_peek 8 = .ok (.if_icmp .ge 15, 3) := dk_162 0 15 (dk_at dksX0_peek_0 8 rfl rfl)
theorem dX0_peek_11 : decode cX0_peek 11 = .ok (.aload_n 0, 1) := dk_42 (dk_at dksX0_peek_0 11 rfl rfl)
theorem dX0_peek_12 : decode cX0_peek 12 = .ok (.getfield 37, 3) := dk_180 0 37 (dk_at dksX0_peek_0 12 rfl rfl)
theorem dX0_peek_15 : decode cX0_peek 15 = .ok (.aload_n 0, 1) := dk_42 (dk_at dksX0_peek_0 15 rfl rfl)
theorem dX0_peek_16 : decode cX0_peek 16 = .ok (.getfield 119, 3) := dk_180 0 119 (dk_at dksX0_peek_0 16 rfl rfl)
theorem dX0_peek_19 : decode cX0_peek 19 = .ok (.iaload, 1) := dk_46 (dk_at dksX0_peek_0 19 rfl rfl)
theorem dX0_peek_20 : decode cX0_peek 20 = .ok (.goto 4, 3) := dk_167 0 4 (dk_at dksX0_peek_0 20 rfl rfl)
theorem dX0_peek_23 : decode cX0_peek 23 = .ok (.iconst (-1), 1) := dk_2 (dk_at dksX0_peek_0 23 rfl rfl)
theorem dX0_peek_24 : decode cX0_peek 24 = .ok (.ireturn, 1) := dk_172 (dk_at dksX0_peek_1 0 rfl rfl)
abbrev cX0_nameOf : ByteArray := prog_1_method_34_code
def yX0_nameOf : MethodName := ⟨RX0, "nameOf", "(I)I"⟩
def dkwX0_nameOf_2 : List UInt8 := [3, 172, 4, 172, 5, 172, 6, 172, 7, 172, 8, 172, 2, 172]
abbrev dktX0_nameOf_2 : List UInt8 := dkwX0_nameOf_2 ++ []
def dkwX0_nameOf_1 : List UInt8 := [171, 0, 0, 0, 0, 0, 71, 0, 0, 0, 6, 0, 0, 0, 97, 0, 0, 0, 59, 0, 0, 0, 100, 0, 0, 0, 61, 0, 0, 0, 102, 0, 0, 0, 63, 0, 0, 0, 105, 0, 0, 0, 67, 0, 0, 0, 110, 0, 0, 0, 69, 0, 0, 0, 119, 0, 0, 0, 65]
abbrev dktX0_nameOf_1 : List UInt8 := dkwX0_nameOf_1 ++ dktX0_nameOf_2
def dkwX0_nameOf_0 : List UInt8 := [26]
abbrev dktX0_nameOf_0 : List UInt8 := dkwX0_nameOf_0 ++ dktX0_nameOf_1
theorem dksX0_nameOf_0 : cX0_nameOf.data.toList.drop 0 = dktX0_nameOf_0 := by decide +kernel
theorem dksX0_nameOf_1 : cX0_nameOf.data.toList.drop 1 = dktX0_nameOf_1 := dk_seg dksX0_nameOf_0 1 rfl rfl
theorem dksX0_nameOf_2 : cX0_nameOf.data.toList.drop 60 = dktX0_nameOf_2 := dk_seg dksX0_nameOf_1 59 rfl rfl
theorem dX0_nameOf_0 : decode cX0_nameOf 0 = .ok (.iload_n 0, 1) := dk_26 (dk_at dksX0_nameOf_0 0 rfl rfl)
theorem dX0_nameOf_1 : decode cX0_nameOf 1 = .ok (.lookupswitch 71 #[(97, 59), (100, 61), (102, 63), (105, 67), (110, 69), (119, 65)], 59) := by decide +kernel
theorem dX0_nameOf_60 : decode cX0_nameOf 60 = .ok (.iconst 0, 1) := dk_3 (dk_at dksX0_nameOf_2 0 rfl rfl)
theorem dX0_nameOf_61 : decode cX0_nameOf 61 = .ok (.ireturn, 1) := dk_172 (dk_at dksX0_nameOf_2 1 rfl rfl)
theorem dX0_nameOf_62 : decode cX0_nameOf 62 = .ok (.iconst 1, 1) := dk_4 (dk_at dksX0_nameOf_2 2 rfl rfl)
theorem dX0_nameOf_63 : decode cX0_nameOf 63 = .ok (.ireturn, 1) := dk_172 (dk_at dksX0_nameOf_2 3 rfl rfl)
theorem dX0_nameOf_64 : decode cX0_nameOf 64 = .ok (.iconst 2, 1) := dk_5 (dk_at dksX0_nameOf_2 4 rfl rfl)
theorem dX0_nameOf_65 : decode cX0_nameOf 65 = .ok (.ireturn, 1) := dk_172 (dk_at dksX0_nameOf_2 5 rfl rfl)
theorem dX0_nameOf_66 : decode cX0_nameOf 66 = .ok (.iconst 3, 1) := dk_6 (dk_at dksX0_nameOf_2 6 rfl rfl)
theorem dX0_nameOf_67 : decode cX0_nameOf 67 = .ok (.ireturn, 1) := dk_172 (dk_at dksX0_nameOf_2 7 rfl rfl)
theorem dX0_nameOf_68 : decode cX0_nameOf 68 = .ok (.iconst 4, 1) := dk_7 (dk_at dksX0_nameOf_2 8 rfl rfl)
theorem dX0_nameOf_69 : decode cX0_nameOf 69 = .ok (.ireturn, 1) := dk_172 (dk_at dksX0_nameOf_2 9 rfl rfl)
theorem dX0_nameOf_70 : decode cX0_nameOf 70 = .ok (.iconst 5, 1) := dk_8 (dk_at dksX0_nameOf_2 10 rfl rfl)
theorem dX0_nameOf_71 : decode cX0_nameOf 71 = .ok (.ireturn, 1) := dk_172 (dk_at dksX0_nameOf_2 11 rfl rfl)
theorem dX0_nameOf_72 : decode cX0_nameOf 72 = .ok (.iconst (-1), 1) := dk_2 (dk_at dksX0_nameOf_2 12 rfl rfl)
theorem dX0_nameOf_73 : decode cX0_nameOf 73 = .ok (.ireturn, 1) := dk_172 (dk_at dksX0_nameOf_2 13 rfl rfl)
abbrev cX0_expect : ByteArray := prog_1_method_12_code
def yX0_expect : MethodName := ⟨RX0, "expect", "(I)V"⟩
def dkwX0_expect_0 : List UInt8 := [42, 27, 182, 0, 126, 154, 0, 8, 42, 180, 0, 44, 191, 177]
abbrev dktX0_expect_0 : List UInt8 := dkwX0_expect_0 ++ []
theorem dksX0_expect_0 : cX0_expect.data.toList.drop 0 = dktX0_expect_0 := by decide +kernel
theorem dX0_expect_0 : decode cX0_expect 0 = .ok (.aload_n 0, 1) := dk_42 (dk_at dksX0_expect_0 0 rfl rfl)
theorem dX0_expect_1 : decode cX0_expect 1 = .ok (.iload_n 1, 1) := dk_27 (dk_at dksX0_expect_0 1 rfl rfl)
theorem dX0_expect_2 : decode cX0_expect 2 = .ok (.invokevirtual 126, 3) := dk_182 0 126 (dk_at dksX0_expect_0 2 rfl rfl)
theorem dX0_expect_5 : decode cX0_expect 5 = .ok (.ifCond .ne 8, 3) := dk_154 0 8 (dk_at dksX0_expect_0 5 rfl rfl)
theorem dX0_expect_8 : decode cX0_expect 8 = .ok (.aload_n 0, 1) := dk_42 (dk_at dksX0_expect_0 8 rfl rfl)
theorem dX0_expect_9 : decode cX0_expect 9 = .ok (.getfield 44, 3) := dk_180 0 44 (dk_at dksX0_expect_0 9 rfl rfl)
theorem dX0_expect_12 : decode cX0_expect 12 = .ok (.athrow, 1) := dk_191 (dk_at dksX0_expect_0 12 rfl rfl)
theorem dX0_expect_13 : decode cX0_expect 13 = .ok (.return_, 1) := dk_177 (dk_at dksX0_expect_0 13 rfl rfl)
abbrev cX0_take : ByteArray := prog_1_method_11_code
def yX0_take : MethodName := ⟨RX0, "take", "(I)Z"⟩
def dkwX0_take_0 : List UInt8 := [42, 182, 0, 122, 27, 159, 0, 5, 3, 172, 42, 89, 180, 0, 119, 4, 96, 181, 0, 119, 4, 172]
abbrev dktX0_take_0 : List UInt8 := dkwX0_take_0 ++ []
theorem dksX0_take_0 : cX0_take.data.toList.drop 0 = dktX0_take_0 := by decide +kernel
theorem dX0_take_0 : decode cX0_take 0 = .ok (.aload_n 0, 1) := dk_42 (dk_at dksX0_take_0 0 rfl rfl)
theorem dX0_take_1 : decode cX0_take 1 = .ok (.invokevirtual 122, 3) := dk_182 0 122 (dk_at dksX0_take_0 1 rfl rfl)
theorem dX0_take_4 : decode cX0_take 4 = .ok (.iload_n 1, 1) := dk_27 (dk_at dksX0_take_0 4 rfl rfl)
theorem dX0_take_5 : decode cX0_take 5 = .ok (.if_icmp .eq 5, 3) := dk_159 0 5 (dk_at dksX0_take_0 5 rfl rfl)
theorem dX0_take_8 : decode cX0_take 8 = .ok (.iconst 0, 1) := dk_3 (dk_at dksX0_take_0 8 rfl rfl)
theorem dX0_take_9 : decode cX0_take 9 = .ok (.ireturn, 1) := dk_172 (dk_at dksX0_take_0 9 rfl rfl)
theorem dX0_take_10 : decode cX0_take 10 = .ok (.aload_n 0, 1) := dk_42 (dk_at dksX0_take_0 10 rfl rfl)
theorem dX0_take_11 : decode cX0_take 11 = .ok (.dup, 1) := dk_89 (dk_at dksX0_take_0 11 rfl rfl)
theorem dX0_take_12 : decode cX0_take 12 = .ok (.getfield 119, 3) := dk_180 0 119 (dk_at dksX0_take_0 12 rfl rfl)
theorem dX0_take_15 : decode cX0_take 15 = .ok (.iconst 1, 1) := dk_4 (dk_at dksX0_take_0 15 rfl rfl)
theorem dX0_take_16 : decode cX0_take 16 = .ok (.iadd, 1) := dk_96 (dk_at dksX0_take_0 16 rfl rfl)
theorem dX0_take_17 : decode cX0_take 17 = .ok (.putfield 119, 3) := dk_181 0 119 (dk_at dksX0_take_0 17 rfl rfl)
theorem dX0_take_20 : decode cX0_take 20 = .ok (.iconst 1, 1) := dk_4 (dk_at dksX0_take_0 20 rfl rfl)
theorem dX0_take_21 : decode cX0_take 21 = .ok (.ireturn, 1) := dk_172 (dk_at dksX0_take_0 21 rfl rfl)
abbrev cX0_knows : ByteArray := prog_1_method_47_code
def yX0_knows : MethodName := ⟨RX0, "knows", "(II)I"⟩
def dkwX0_knows_1 : List UInt8 := [180, 0, 83, 27, 46, 172]
abbrev dktX0_knows_1 : List UInt8 := dkwX0_knows_1 ++ []
def dkwX0_knows_0 : List UInt8 := [42, 27, 182, 0, 191, 153, 0, 10, 28, 184, 0, 144, 154, 0, 5, 2, 172, 42, 28, 3, 182, 1, 86, 42]
abbrev dktX0_knows_0 : List UInt8 := dkwX0_knows_0 ++ dktX0_knows_1
theorem dksX0_knows_0 : cX0_knows.data.toList.drop 0 = dktX0_knows_0 := by decide +kernel
theorem dksX0_knows_1 : cX0_knows.data.toList.drop 24 = dktX0_knows_1 := dk_seg dksX0_knows_0 24 rfl rfl
theorem dX0_knows_0 : decode cX0_knows 0 = .ok (.aload_n 0, 1) := dk_42 (dk_at dksX0_knows_0 0 rfl rfl)
theorem dX0_knows_1 : decode cX0_knows 1 = .ok (.iload_n 1, 1) := dk_27 (dk_at dksX0_knows_0 1 rfl rfl)
theorem dX0_knows_2 : decode cX0_knows 2 = .ok (.invokevirtual 191, 3) := dk_182 0 191 (dk_at dksX0_knows_0 2 rfl rfl)
theorem dX0_knows_5 : decode cX0_knows 5 = .ok (.ifCond .eq 10, 3) := dk_153 0 10 (dk_at dksX0_knows_0 5 rfl rfl)
theorem dX0_knows_8 : decode cX0_knows 8 = .ok (.iload_n 2, 1) := dk_28 (dk_at dksX0_knows_0 8 rfl rfl)
theorem dX0_knows_9 : decode cX0_knows 9 = .ok (.invokestatic 144, 3) := dk_184 0 144 (dk_at dksX0_knows_0 9 rfl rfl)
theorem dX0_knows_12 : decode cX0_knows 12 = .ok (.ifCond .ne 5, 3) := dk_154 0 5 (dk_at dksX0_knows_0 12 rfl rfl)
theorem dX0_knows_15 : decode cX0_knows 15 = .ok (.iconst (-1), 1) := dk_2 (dk_at dksX0_knows_0 15 rfl rfl)
theorem dX0_knows_16 : decode cX0_knows 16 = .ok (.ireturn, 1) := dk_172 (dk_at dksX0_knows_0 16 rfl rfl)
theorem dX0_knows_17 : decode cX0_knows 17 = .ok (.aload_n 0, 1) := dk_42 (dk_at dksX0_knows_0 17 rfl rfl)
theorem dX0_knows_18 : decode cX0_knows 18 = .ok (.iload_n 2, 1) := dk_28 (dk_at dksX0_knows_0 18 rfl rfl)
theorem dX0_knows_19 : decode cX0_knows 19 = .ok (.iconst 0, 1) := dk_3 (dk_at dksX0_knows_0 19 rfl rfl)
theorem dX0_knows_20 : decode cX0_knows 20 = .ok (.invokevirtual 342, 3) := dk_182 1 86 (dk_at dksX0_knows_0 20 rfl rfl)
theorem dX0_knows_23 : decode cX0_knows 23 = .ok (.aload_n 0, 1) := dk_42 (dk_at dksX0_knows_0 23 rfl rfl)
theorem dX0_knows_24 : decode cX0_knows 24 = .ok (.getfield 83, 3) := dk_180 0 83 (dk_at dksX0_knows_1 0 rfl rfl)
theorem dX0_knows_27 : decode cX0_knows 27 = .ok (.iload_n 1, 1) := dk_27 (dk_at dksX0_knows_1 3 rfl rfl)
theorem dX0_knows_28 : decode cX0_knows 28 = .ok (.iaload, 1) := dk_46 (dk_at dksX0_knows_1 4 rfl rfl)
theorem dX0_knows_29 : decode cX0_knows 29 = .ok (.ireturn, 1) := dk_172 (dk_at dksX0_knows_1 5 rfl rfl)
abbrev cX0_knowUpTo : ByteArray := prog_1_method_46_code
def yX0_knowUpTo : MethodName := ⟨RX0, "knowUpTo", "(II)V"⟩
def dkwX0_knowUpTo_8 : List UInt8 := [167, 255, 101, 177]
abbrev dktX0_knowUpTo_8 : List UInt8 := dkwX0_knowUpTo_8 ++ []
def dkwX0_knowUpTo_7 : List UInt8 := [160, 0, 8, 21, 6, 167, 0, 4, 3, 128, 4, 25, 5, 180, 0, 204, 120, 128, 79, 132, 3, 1]
abbrev dktX0_knowUpTo_7 : List UInt8 := dkwX0_knowUpTo_7 ++ dktX0_knowUpTo_8
def dkwX0_knowUpTo_6 : List UInt8 := [180, 0, 207, 120, 128, 79, 42, 180, 0, 83, 25, 5, 180, 0, 207, 21, 7, 42, 180, 0, 210, 4]
abbrev dktX0_knowUpTo_6 : List UInt8 := dkwX0_knowUpTo_6 ++ dktX0_knowUpTo_7
def dkwX0_knowUpTo_5 : List UInt8 := [180, 0, 204, 21, 6, 42, 180, 0, 210, 4, 160, 0, 8, 21, 7, 167, 0, 4, 3, 128, 4, 25, 5]
abbrev dktX0_knowUpTo_5 : List UInt8 := dkwX0_knowUpTo_5 ++ dktX0_knowUpTo_6
def dkwX0_knowUpTo_4 : List UInt8 := [180, 0, 204, 46, 54, 6, 42, 180, 0, 83, 25, 5, 180, 0, 207, 46, 54, 7, 42, 180, 0, 83, 25, 5]
abbrev dktX0_knowUpTo_4 : List UInt8 := dkwX0_knowUpTo_4 ++ dktX0_knowUpTo_5
def dkwX0_knowUpTo_3 : List UInt8 := [184, 1, 83, 154, 0, 109, 42, 21, 4, 182, 0, 247, 154, 0, 6, 167, 0, 97, 42, 180, 0, 83, 25, 5]
abbrev dktX0_knowUpTo_3 : List UInt8 := dkwX0_knowUpTo_3 ++ dktX0_knowUpTo_4
def dkwX0_knowUpTo_2 : List UInt8 := [180, 0, 59, 21, 4, 50, 58, 5, 25, 5, 180, 0, 201, 27, 164, 0, 6, 167, 0, 124, 28, 21, 4]
abbrev dktX0_knowUpTo_2 : List UInt8 := dkwX0_knowUpTo_2 ++ dktX0_knowUpTo_3
def dkwX0_knowUpTo_1 : List UInt8 := [167, 255, 236, 3, 62, 29, 42, 180, 0, 141, 162, 0, 153, 42, 180, 0, 63, 29, 46, 54, 4, 42]
abbrev dktX0_knowUpTo_1 : List UInt8 := dkwX0_knowUpTo_1 ++ dktX0_knowUpTo_2
def dkwX0_knowUpTo_0 : List UInt8 := [3, 62, 29, 42, 180, 0, 134, 162, 0, 18, 42, 180, 0, 83, 29, 4, 29, 120, 79, 132, 3, 1]
abbrev dktX0_knowUpTo_0 : List UInt8 := dkwX0_knowUpTo_0 ++ dktX0_knowUpTo_1
theorem dksX0_knowUpTo_0 : cX0_knowUpTo.data.toList.drop 0 = dktX0_knowUpTo_0 := by decide +kernel
theorem dksX0_knowUpTo_1 : cX0_knowUpTo.data.toList.drop 22 = dktX0_knowUpTo_1 := dk_seg dksX0_knowUpTo_0 22 rfl rfl
theorem dksX0_knowUpTo_2 : cX0_knowUpTo.data.toList.drop 44 = dktX0_knowUpTo_2 := dk_seg dksX0_knowUpTo_1 22 rfl rfl
theorem dksX0_knowUpTo_3 : cX0_knowUpTo.data.toList.drop 67 = dktX0_knowUpTo_3 := dk_seg dksX0_knowUpTo_2 23 rfl rfl
theorem dksX0_knowUpTo_4 : cX0_knowUpTo.data.toList.drop 91 = dktX0_knowUpTo_4 := dk_seg dksX0_knowUpTo_3 24 rfl rfl
theorem dksX0_knowUpTo_5 : cX0_knowUpTo.data.toList.drop 115 = dktX0_knowUpTo_5 := dk_seg dksX0_knowUpTo_4 24 rfl rfl
theorem dksX0_knowUpTo_6 : cX0_knowUpTo.data.toList.drop 138 = dktX0_knowUpTo_6 := dk_seg dksX0_knowUpTo_5 23 rfl rfl
theorem dksX0_knowUpTo_7 : cX0_knowUpTo.data.toList.drop 160 = dktX0_knowUpTo_7 := dk_seg dksX0_knowUpTo_6 22 rfl rfl
theorem dksX0_knowUpTo_8 : cX0_knowUpTo.data.toList.drop 182 = dktX0_knowUpTo_8 := dk_seg dksX0_knowUpTo_7 22 rfl rfl
theorem dX0_knowUpTo_0 : decode cX0_knowUpTo 0 = .ok (.iconst 0, 1) := dk_3 (dk_at dksX0_knowUpTo_0 0 rfl rfl)
theorem dX0_knowUpTo_1 : decode cX0_knowUpTo 1 = .ok (.istore_n 3, 1) := dk_62 (dk_at dksX0_knowUpTo_0 1 rfl rfl)
theorem dX0_knowUpTo_2 : decode cX0_knowUpTo 2 = .ok (.iload_n 3, 1) := dk_29 (dk_at dksX0_knowUpTo_0 2 rfl rfl)
theorem dX0_knowUpTo_3 : decode cX0_knowUpTo 3 = .ok (.aload_n 0, 1) := dk_42 (dk_at dksX0_knowUpTo_0 3 rfl rfl)
theorem dX0_knowUpTo_4 : decode cX0_knowUpTo 4 = .ok (.getfield 134, 3) := dk_180 0 134 (dk_at dksX0_knowUpTo_0 4 rfl rfl)
theorem dX0_knowUpTo_7 : decode cX0_knowUpTo 7 = .ok (.if_icmp .ge 18, 3) := dk_162 0 18 (dk_at dksX0_knowUpTo_0 7 rfl rfl)
theorem dX0_knowUpTo_10 : decode cX0_knowUpTo 10 = .ok (.aload_n 0, 1) := dk_42 (dk_at dksX0_knowUpTo_0 10 rfl rfl)
theorem dX0_knowUpTo_11 : decode cX0_knowUpTo 11 = .ok (.getfield 83, 3) := dk_180 0 83 (dk_at dksX0_knowUpTo_0 11 rfl rfl)
theorem dX0_knowUpTo_14 : decode cX0_knowUpTo 14 = .ok (.iload_n 3, 1) := dk_29 (dk_at dksX0_knowUpTo_0 14 rfl rfl)
theorem dX0_knowUpTo_15 : decode cX0_knowUpTo 15 = .ok (.iconst 1, 1) := dk_4 (dk_at dksX0_knowUpTo_0 15 rfl rfl)
theorem dX0_knowUpTo_16 : decode cX0_knowUpTo 16 = .ok (.iload_n 3, 1) := dk_29 (dk_at dksX0_knowUpTo_0 16 rfl rfl)
theorem dX0_knowUpTo_17 : decode cX0_knowUpTo 17 = .ok (.ishl, 1) := dk_120 (dk_at dksX0_knowUpTo_0 17 rfl rfl)
theorem dX0_knowUpTo_18 : decode cX0_knowUpTo 18 = .ok (.iastore, 1) := dk_79 (dk_at dksX0_knowUpTo_0 18 rfl rfl)
theorem dX0_knowUpTo_19 : decode cX0_knowUpTo 19 = .ok (.iinc 3 1, 3) := dk_132 3 1 (dk_at dksX0_knowUpTo_0 19 rfl rfl)
theorem dX0_knowUpTo_22 : decode cX0_knowUpTo 22 = .ok (.goto (-20), 3) := dk_167 255 236 (dk_at dksX0_knowUpTo_1 0 rfl rfl)
theorem dX0_knowUpTo_25 : decode cX0_knowUpTo 25 = .ok (.iconst 0, 1) := dk_3 (dk_at dksX0_knowUpTo_1 3 rfl rfl)
theorem dX0_knowUpTo_26 : decode cX0_knowUpTo 26 = .ok (.istore_n 3, 1) := dk_62 (dk_at dksX0_knowUpTo_1 4 rfl rfl)
theorem dX0_knowUpTo_27 : decode cX0_knowUpTo 27 = .ok (.iload_n 3, 1) := dk_29 (dk_at dksX0_knowUpTo_1 5 rfl rfl)
theorem dX0_knowUpTo_28 : decode cX0_knowUpTo 28 = .ok (.aload_n 0, 1) := dk_42 (dk_at dksX0_knowUpTo_1 6 rfl rfl)
theorem dX0_knowUpTo_29 : decode cX0_knowUpTo 29 = .ok (.getfield 141, 3) := dk_180 0 141 (dk_at dksX0_knowUpTo_1 7 rfl rfl)
theorem dX0_knowUpTo_32 : decode cX0_knowUpTo 32 = .ok (.if_icmp .ge 153, 3) := dk_162 0 153 (dk_at dksX0_knowUpTo_1 10 rfl rfl)
theorem dX0_knowUpTo_35 : decode cX0_knowUpTo 35 = .ok (.aload_n 0, 1) := dk_42 (dk_at dksX0_knowUpTo_1 13 rfl rfl)
theorem dX0_knowUpTo_36 : decode cX0_knowUpTo 36 = .ok (.getfield 63, 3) := dk_180 0 63 (dk_at dksX0_knowUpTo_1 14 rfl rfl)
theorem dX0_knowUpTo_39 : decode cX0_knowUpTo 39 = .ok (.iload_n 3, 1) := dk_29 (dk_at dksX0_knowUpTo_1 17 rfl rfl)
theorem dX0_knowUpTo_40 : decode cX0_knowUpTo 40 = .ok (.iaload, 1) := dk_46 (dk_at dksX0_knowUpTo_1 18 rfl rfl)
theorem dX0_knowUpTo_41 : decode cX0_knowUpTo 41 = .ok (.istore 4, 2) := dk_54 4 (dk_at dksX0_knowUpTo_1 19 rfl rfl)
theorem dX0_knowUpTo_43 : decode cX0_knowUpTo 43 = .ok (.aload_n 0, 1) := dk_42 (dk_at dksX0_knowUpTo_1 21 rfl rfl)
theorem dX0_knowUpTo_44 : decode cX0_knowUpTo 44 = .ok (.getfield 59, 3) := dk_180 0 59 (dk_at dksX0_knowUpTo_2 0 rfl rfl)
theorem dX0_knowUpTo_47 : decode cX0_knowUpTo 47 = .ok (.iload 4, 2) := dk_21 4 (dk_at dksX0_knowUpTo_2 3 rfl rfl)
theorem dX0_knowUpTo_49 : decode cX0_knowUpTo 49 = .ok (.aaload, 1) := dk_50 (dk_at dksX0_knowUpTo_2 5 rfl rfl)
theorem dX0_knowUpTo_50 : decode cX0_knowUpTo 50 = .ok (.astore 5, 2) := dk_58 5 (dk_at dksX0_knowUpTo_2 6 rfl rfl)
theorem dX0_knowUpTo_52 : decode cX0_knowUpTo 52 = .ok (.aload 5, 2) := dk_25 5 (dk_at dksX0_knowUpTo_2 8 rfl rfl)
theorem dX0_knowUpTo_54 : decode cX0_knowUpTo 54 = .ok (.getfield 201, 3) := dk_180 0 201 (dk_at dksX0_knowUpTo_2 10 rfl rfl)
theorem dX0_knowUpTo_57 : decode cX0_knowUpTo 57 = .ok (.iload_n 1, 1) := dk_27 (dk_at dksX0_knowUpTo_2 13 rfl rfl)
theorem dX0_knowUpTo_58 : decode cX0_knowUpTo 58 = .ok (.if_icmp .le 6, 3) := dk_164 0 6 (dk_at dksX0_knowUpTo_2 14 rfl rfl)
theorem dX0_knowUpTo_61 : decode cX0_knowUpTo 61 = .ok (.goto 124, 3) := dk_167 0 124 (dk_at dksX0_knowUpTo_2 17 rfl rfl)
theorem dX0_knowUpTo_64 : decode cX0_knowUpTo 64 = .ok (.iload_n 2, 1) := dk_28 (dk_at dksX0_knowUpTo_2 20 rfl rfl)
theorem dX0_knowUpTo_65 : decode cX0_knowUpTo 65 = .ok (.iload 4, 2) := dk_21 4 (dk_at dksX0_knowUpTo_2 21 rfl rfl)
theorem dX0_knowUpTo_67 : decode cX0_knowUpTo 67 = .ok (.invokestatic 339, 3) := dk_184 1 83 (dk_at dksX0_knowUpTo_3 0 rfl rfl)
theorem dX0_knowUpTo_70 : decode cX0_knowUpTo 70 = .ok (.ifCond .ne 109, 3) := dk_154 0 109 (dk_at dksX0_knowUpTo_3 3 rfl rfl)
theorem dX0_knowUpTo_73 : decode cX0_knowUpTo 73 = .ok (.aload_n 0, 1) := dk_42 (dk_at dksX0_knowUpTo_3 6 rfl rfl)
theorem dX0_knowUpTo_74 : decode cX0_knowUpTo 74 = .ok (.iload 4, 2) := dk_21 4 (dk_at dksX0_knowUpTo_3 7 rfl rfl)
theorem dX0_knowUpTo_76 : decode cX0_knowUpTo 76 = .ok (.invokevirtual 247, 3) := dk_182 0 247 (dk_at dksX0_knowUpTo_3 9 rfl rfl)
theorem dX0_knowUpTo_79 : decode cX0_knowUpTo 79 = .ok (.ifCond .ne 6, 3) := dk_154 0 6 (dk_at dksX0_knowUpTo_3 12 rfl rfl)
theorem dX0_knowUpTo_82 : decode cX0_knowUpTo 82 = .ok (.goto 97, 3) := dk_167 0 97 (dk_at dksX0_knowUpTo_3 15 rfl rfl)
theorem dX0_knowUpTo_85 : decode cX0_knowUpTo 85 = .ok (.aload_n 0, 1) := dk_42 (dk_at dksX0_knowUpTo_3 18 rfl rfl)
theorem dX0_knowUpTo_86 : decode cX0_knowUpTo 86 = .ok (.getfield 83, 3) := dk_180 0 83 (dk_at dksX0_knowUpTo_3 19 rfl rfl)
theorem dX0_knowUpTo_89 : decode cX0_knowUpTo 89 = .ok (.aload 5, 2) := dk_25 5 (dk_at dksX0_knowUpTo_3 22 rfl rfl)
theorem dX0_knowUpTo_91 : decode cX0_knowUpTo 91 = .ok (.getfield 204, 3) := dk_180 0 204 (dk_at dksX0_knowUpTo_4 0 rfl rfl)
theorem dX0_knowUpTo_94 : decode cX0_knowUpTo 94 = .ok (.iaload, 1) := dk_46 (dk_at dksX0_knowUpTo_4 3 rfl rfl)
theorem dX0_knowUpTo_95 : decode cX0_knowUpTo 95 = .ok (.istore 6, 2) := dk_54 6 (dk_at dksX0_knowUpTo_4 4 rfl rfl)
theorem dX0_knowUpTo_97 : decode cX0_knowUpTo 97 = .ok (.aload_n 0, 1) := dk_42 (dk_at dksX0_knowUpTo_4 6 rfl rfl)
theorem dX0_knowUpTo_98 : decode cX0_knowUpTo 98 = .ok (.getfield 83, 3) := dk_180 0 83 (dk_at dksX0_knowUpTo_4 7 rfl rfl)
theorem dX0_knowUpTo_101 : decode cX0_knowUpTo 101 = .ok (.aload 5, 2) := dk_25 5 (dk_at dksX0_knowUpTo_4 10 rfl rfl)
theorem dX0_knowUpTo_103 : decode cX0_knowUpTo 103 = .ok (.getfield 207, 3) := dk_180 0 207 (dk_at dksX0_knowUpTo_4 12 rfl rfl)
theorem dX0_knowUpTo_106 : decode cX0_knowUpTo 106 = .ok (.iaload, 1) := dk_46 (dk_at dksX0_knowUpTo_4 15 rfl rfl)
theorem dX0_knowUpTo_107 : decode cX0_knowUpTo 107 = .ok (.istore 7, 2) := dk_54 7 (dk_at dksX0_knowUpTo_4 16 rfl rfl)
theorem dX0_knowUpTo_109 : decode cX0_knowUpTo 109 = .ok (.aload_n 0, 1) := dk_42 (dk_at dksX0_knowUpTo_4 18 rfl rfl)
theorem dX0_knowUpTo_110 : decode cX0_knowUpTo 110 = .ok (.getfield 83, 3) := dk_180 0 83 (dk_at dksX0_knowUpTo_4 19 rfl rfl)
theorem dX0_knowUpTo_113 : decode cX0_knowUpTo 113 = .ok (.aload 5, 2) := dk_25 5 (dk_at dksX0_knowUpTo_4 22 rfl rfl)
theorem dX0_knowUpTo_115 : decode cX0_knowUpTo 115 = .ok (.getfield 204, 3) := dk_180 0 204 (dk_at dksX0_knowUpTo_5 0 rfl rfl)
theorem dX0_knowUpTo_118 : decode cX0_knowUpTo 118 = .ok (.iload 6, 2) := dk_21 6 (dk_at dksX0_knowUpTo_5 3 rfl rfl)
theorem dX0_knowUpTo_120 : decode cX0_knowUpTo 120 = .ok (.aload_n 0, 1) := dk_42 (dk_at dksX0_knowUpTo_5 5 rfl rfl)
theorem dX0_knowUpTo_121 : decode cX0_knowUpTo 121 = .ok (.getfield 210, 3) := dk_180 0 210 (dk_at dksX0_knowUpTo_5 6 rfl rfl)
theorem dX0_knowUpTo_124 : decode cX0_knowUpTo 124 = .ok (.iconst 1, 1) := dk_4 (dk_at dksX0_knowUpTo_5 9 rfl rfl)
theorem dX0_knowUpTo_125 : decode cX0_knowUpTo 125 = .ok (.if_icmp .ne 8, 3) := dk_160 0 8 (dk_at dksX0_knowUpTo_5 10 rfl rfl)
theorem dX0_knowUpTo_128 : decode cX0_knowUpTo 128 = .ok (.iload 7, 2) := dk_21 7 (dk_at dksX0_knowUpTo_5 13 rfl rfl)
theorem dX0_knowUpTo_130 : decode cX0_knowUpTo 130 = .ok (.goto 4, 3) := dk_167 0 4 (dk_at dksX0_knowUpTo_5 15 rfl rfl)
theorem dX0_knowUpTo_133 : decode cX0_knowUpTo 133 = .ok (.iconst 0, 1) := dk_3 (dk_at dksX0_knowUpTo_5 18 rfl rfl)
theorem dX0_knowUpTo_134 : decode cX0_knowUpTo 134 = .ok (.ior, 1) := dk_128 (dk_at dksX0_knowUpTo_5 19 rfl rfl)
theorem dX0_knowUpTo_135 : decode cX0_knowUpTo 135 = .ok (.iconst 1, 1) := dk_4 (dk_at dksX0_knowUpTo_5 20 rfl rfl)
theorem dX0_knowUpTo_136 : decode cX0_knowUpTo 136 = .ok (.aload 5, 2) := dk_25 5 (dk_at dksX0_knowUpTo_5 21 rfl rfl)
theorem dX0_knowUpTo_138 : decode cX0_knowUpTo 138 = .ok (.getfield 207, 3) := dk_180 0 207 (dk_at dksX0_knowUpTo_6 0 rfl rfl)
theorem dX0_knowUpTo_141 : decode cX0_knowUpTo 141 = .ok (.ishl, 1) := dk_120 (dk_at dksX0_knowUpTo_6 3 rfl rfl)
theorem dX0_knowUpTo_142 : decode cX0_knowUpTo 142 = .ok (.ior, 1) := dk_128 (dk_at dksX0_knowUpTo_6 4 rfl rfl)
theorem dX0_knowUpTo_143 : decode cX0_knowUpTo 143 = .ok (.iastore, 1) := dk_79 (dk_at dksX0_knowUpTo_6 5 rfl rfl)
theorem dX0_knowUpTo_144 : decode cX0_knowUpTo 144 = .ok (.aload_n 0, 1) := dk_42 (dk_at dksX0_knowUpTo_6 6 rfl rfl)
theorem dX0_knowUpTo_145 : decode cX0_knowUpTo 145 = .ok (.getfield 83, 3) := dk_180 0 83 (dk_at dksX0_knowUpTo_6 7 rfl rfl)
theorem dX0_knowUpTo_148 : decode cX0_knowUpTo 148 = .ok (.aload 5, 2) := dk_25 5 (dk_at dksX0_knowUpTo_6 10 rfl rfl)
theorem dX0_knowUpTo_150 : decode cX0_knowUpTo 150 = .ok (.getfield 207, 3) := dk_180 0 207 (dk_at dksX0_knowUpTo_6 12 rfl rfl)
theorem dX0_knowUpTo_153 : decode cX0_knowUpTo 153 = .ok (.iload 7, 2) := dk_21 7 (dk_at dksX0_knowUpTo_6 15 rfl rfl)
theorem dX0_knowUpTo_155 : decode cX0_knowUpTo 155 = .ok (.aload_n 0, 1) := dk_42 (dk_at dksX0_knowUpTo_6 17 rfl rfl)
theorem dX0_knowUpTo_156 : decode cX0_knowUpTo 156 = .ok (.getfield 210, 3) := dk_180 0 210 (dk_at dksX0_knowUpTo_6 18 rfl rfl)
theorem dX0_knowUpTo_159 : decode cX0_knowUpTo 159 = .ok (.iconst 1, 1) := dk_4 (dk_at dksX0_knowUpTo_6 21 rfl rfl)
theorem dX0_knowUpTo_160 : decode cX0_knowUpTo 160 = .ok (.if_icmp .ne 8, 3) := dk_160 0 8 (dk_at dksX0_knowUpTo_7 0 rfl rfl)
theorem dX0_knowUpTo_163 : decode cX0_knowUpTo 163 = .ok (.iload 6, 2) := dk_21 6 (dk_at dksX0_knowUpTo_7 3 rfl rfl)
theorem dX0_knowUpTo_165 : decode cX0_knowUpTo 165 = .ok (.goto 4, 3) := dk_167 0 4 (dk_at dksX0_knowUpTo_7 5 rfl rfl)
theorem dX0_knowUpTo_168 : decode cX0_knowUpTo 168 = .ok (.iconst 0, 1) := dk_3 (dk_at dksX0_knowUpTo_7 8 rfl rfl)
theorem dX0_knowUpTo_169 : decode cX0_knowUpTo 169 = .ok (.ior, 1) := dk_128 (dk_at dksX0_knowUpTo_7 9 rfl rfl)
theorem dX0_knowUpTo_170 : decode cX0_knowUpTo 170 = .ok (.iconst 1, 1) := dk_4 (dk_at dksX0_knowUpTo_7 10 rfl rfl)
theorem dX0_knowUpTo_171 : decode cX0_knowUpTo 171 = .ok (.aload 5, 2) := dk_25 5 (dk_at dksX0_knowUpTo_7 11 rfl rfl)
theorem dX0_knowUpTo_173 : decode cX0_knowUpTo 173 = .ok (.getfield 204, 3) := dk_180 0 204 (dk_at dksX0_knowUpTo_7 13 rfl rfl)
theorem dX0_knowUpTo_176 : decode cX0_knowUpTo 176 = .ok (.ishl, 1) := dk_120 (dk_at dksX0_knowUpTo_7 16 rfl rfl)
theorem dX0_knowUpTo_177 : decode cX0_knowUpTo 177 = .ok (.ior, 1) := dk_128 (dk_at dksX0_knowUpTo_7 17 rfl rfl)
theorem dX0_knowUpTo_178 : decode cX0_knowUpTo 178 = .ok (.iastore, 1) := dk_79 (dk_at dksX0_knowUpTo_7 18 rfl rfl)
theorem dX0_knowUpTo_179 : decode cX0_knowUpTo 179 = .ok (.iinc 3 1, 3) := dk_132 3 1 (dk_at dksX0_knowUpTo_7 19 rfl rfl)
theorem dX0_knowUpTo_182 : decode cX0_knowUpTo 182 = .ok (.goto (-155), 3) := dk_167 255 101 (dk_at dksX0_knowUpTo_8 0 rfl rfl)
theorem dX0_knowUpTo_185 : decode cX0_knowUpTo 185 = .ok (.return_, 1) := dk_177 (dk_at dksX0_knowUpTo_8 3 rfl rfl)
abbrev cX0_isIn : ByteArray := prog_1_method_4_code
def yX0_isIn : MethodName := ⟨RX0, "isIn", "(II)Z"⟩
def dkwX0_isIn_0 : List UInt8 := [26, 27, 122, 4, 126, 4, 160, 0, 7, 4, 167, 0, 4, 3, 172]
abbrev dktX0_isIn_0 : List UInt8 := dkwX0_isIn_0 ++ []
theorem dksX0_isIn_0 : cX0_isIn.data.toList.drop 0 = dktX0_isIn_0 := by decide +kernel
theorem dX0_isIn_0 : decode cX0_isIn 0 = .ok (.iload_n 0, 1) := dk_26 (dk_at dksX0_isIn_0 0 rfl rfl)
theorem dX0_isIn_1 : decode cX0_isIn 1 = .ok (.iload_n 1, 1) := dk_27 (dk_at dksX0_isIn_0 1 rfl rfl)
theorem dX0_isIn_2 : decode cX0_isIn 2 = .ok (.ishr, 1) := dk_122 (dk_at dksX0_isIn_0 2 rfl rfl)
theorem dX0_isIn_3 : decode cX0_isIn 3 = .ok (.iconst 1, 1) := dk_4 (dk_at dksX0_isIn_0 3 rfl rfl)
theorem dX0_isIn_4 : decode cX0_isIn 4 = .ok (.iand, 1) := dk_126 (dk_at dksX0_isIn_0 4 rfl rfl)
theorem dX0_isIn_5 : decode cX0_isIn 5 = .ok (.iconst 1, 1) := dk_4 (dk_at dksX0_isIn_0 5 rfl rfl)
theorem dX0_isIn_6 : decode cX0_isIn 6 = .ok (.if_icmp .ne 7, 3) := dk_160 0 7 (dk_at dksX0_isIn_0 6 rfl rfl)
theorem dX0_isIn_9 : decode cX0_isIn 9 = .ok (.iconst 1, 1) := dk_4 (dk_at dksX0_isIn_0 9 rfl rfl)
theorem dX0_isIn_10 : decode cX0_isIn 10 = .ok (.goto 4, 3) := dk_167 0 4 (dk_at dksX0_isIn_0 10 rfl rfl)
theorem dX0_isIn_13 : decode cX0_isIn 13 = .ok (.iconst 0, 1) := dk_3 (dk_at dksX0_isIn_0 13 rfl rfl)
theorem dX0_isIn_14 : decode cX0_isIn 14 = .ok (.ireturn, 1) := dk_172 (dk_at dksX0_isIn_0 14 rfl rfl)
abbrev cX0_held : ByteArray := prog_1_method_54_code
def yX0_held : MethodName := ⟨RX0, "held", "(III)I"⟩
def dkwX0_held_3 : List UInt8 := [182, 1, 99, 172]
abbrev dktX0_held_3 : List UInt8 := dkwX0_held_3 ++ []
def dkwX0_held_2 : List UInt8 := [182, 1, 86, 29, 154, 0, 15, 42, 27, 28, 182, 1, 102, 184, 0, 223, 167, 0, 9, 42, 27, 28]
abbrev dktX0_held_2 : List UInt8 := dkwX0_held_2 ++ dktX0_held_3
def dkwX0_held_1 : List UInt8 := [154, 0, 5, 2, 172, 42, 182, 1, 105, 29, 5, 160, 0, 10, 42, 27, 28, 182, 1, 108, 172, 42, 28, 3]
abbrev dktX0_held_1 : List UInt8 := dkwX0_held_1 ++ dktX0_held_2
def dkwX0_held_0 : List UInt8 := [27, 184, 0, 182, 153, 0, 22, 28, 184, 0, 144, 153, 0, 15, 29, 133, 9, 20, 0, 180, 184, 0, 112]
abbrev dktX0_held_0 : List UInt8 := dkwX0_held_0 ++ dktX0_held_1
theorem dksX0_held_0 : cX0_held.data.toList.drop 0 = dktX0_held_0 := by decide +kernel
theorem dksX0_held_1 : cX0_held.data.toList.drop 23 = dktX0_held_1 := dk_seg dksX0_held_0 23 rfl rfl
theorem dksX0_held_2 : cX0_held.data.toList.drop 47 = dktX0_held_2 := dk_seg dksX0_held_1 24 rfl rfl
theorem dksX0_held_3 : cX0_held.data.toList.drop 69 = dktX0_held_3 := dk_seg dksX0_held_2 22 rfl rfl
theorem dX0_held_0 : decode cX0_held 0 = .ok (.iload_n 1, 1) := dk_27 (dk_at dksX0_held_0 0 rfl rfl)
theorem dX0_held_1 : decode cX0_held 1 = .ok (.invokestatic 182, 3) := dk_184 0 182 (dk_at dksX0_held_0 1 rfl rfl)
theorem dX0_held_4 : decode cX0_held 4 = .ok (.ifCond .eq 22, 3) := dk_153 0 22 (dk_at dksX0_held_0 4 rfl rfl)
theorem dX0_held_7 : decode cX0_held 7 = .ok (.iload_n 2, 1) := dk_28 (dk_at dksX0_held_0 7 rfl rfl)
theorem dX0_held_8 : decode cX0_held 8 = .ok (.invokestatic 144, 3) := dk_184 0 144 (dk_at dksX0_held_0 8 rfl rfl)
theorem dX0_held_11 : decode cX0_held 11 = .ok (.ifCond .eq 15, 3) := dk_153 0 15 (dk_at dksX0_held_0 11 rfl rfl)
theorem dX0_held_14 : decode cX0_held 14 = .ok (.iload_n 3, 1) := dk_29 (dk_at dksX0_held_0 14 rfl rfl)
theorem dX0_held_15 : decode cX0_held 15 = .ok (.i2l, 1) := dk_133 (dk_at dksX0_held_0 15 rfl rfl)
theorem dX0_held_16 : decode cX0_held 16 = .ok (.lconst 0, 1) := dk_9 (dk_at dksX0_held_0 16 rfl rfl)
theorem dX0_held_17 : decode cX0_held 17 = .ok (.ldc2_w 180, 3) := dk_20 0 180 (dk_at dksX0_held_0 17 rfl rfl)
theorem dX0_held_20 : decode cX0_held 20 = .ok (.invokestatic 112, 3) := dk_184 0 112 (dk_at dksX0_held_0 20 rfl rfl)
theorem dX0_held_23 : decode cX0_held 23 = .ok (.ifCond .ne 5, 3) := dk_154 0 5 (dk_at dksX0_held_1 0 rfl rfl)
theorem dX0_held_26 : decode cX0_held 26 = .ok (.iconst (-1), 1) := dk_2 (dk_at dksX0_held_1 3 rfl rfl)
theorem dX0_held_27 : decode cX0_held 27 = .ok (.ireturn, 1) := dk_172 (dk_at dksX0_held_1 4 rfl rfl)
theorem dX0_held_28 : decode cX0_held 28 = .ok (.aload_n 0, 1) := dk_42 (dk_at dksX0_held_1 5 rfl rfl)
theorem dX0_held_29 : decode cX0_held 29 = .ok (.invokevirtual 361, 3) := dk_182 1 105 (dk_at dksX0_held_1 6 rfl rfl)
theorem dX0_held_32 : decode cX0_held 32 = .ok (.iload_n 3, 1) := dk_29 (dk_at dksX0_held_1 9 rfl rfl)
theorem dX0_held_33 : decode cX0_held 33 = .ok (.iconst 2, 1) := dk_5 (dk_at dksX0_held_1 10 rfl rfl)
theorem dX0_held_34 : decode cX0_held 34 = .ok (.if_icmp .ne 10, 3) := dk_160 0 10 (dk_at dksX0_held_1 11 rfl rfl)
theorem dX0_held_37 : decode cX0_held 37 = .ok (.aload_n 0, 1) := dk_42 (dk_at dksX0_held_1 14 rfl rfl)
theorem dX0_held_38 : decode cX0_held 38 = .ok (.iload_n 1, 1) := dk_27 (dk_at dksX0_held_1 15 rfl rfl)
theorem dX0_held_39 : decode cX0_held 39 = .ok (.iload_n 2, 1) := dk_28 (dk_at dksX0_held_1 16 rfl rfl)
theorem dX0_held_40 : decode cX0_held 40 = .ok (.invokevirtual 364, 3) := dk_182 1 108 (dk_at dksX0_held_1 17 rfl rfl)
theorem dX0_held_43 : decode cX0_held 43 = .ok (.ireturn, 1) := dk_172 (dk_at dksX0_held_1 20 rfl rfl)
theorem dX0_held_44 : decode cX0_held 44 = .ok (.aload_n 0, 1) := dk_42 (dk_at dksX0_held_1 21 rfl rfl)
theorem dX0_held_45 : decode cX0_held 45 = .ok (.iload_n 2, 1) := dk_28 (dk_at dksX0_held_1 22 rfl rfl)
theorem dX0_held_46 : decode cX0_held 46 = .ok (.iconst 0, 1) := dk_3 (dk_at dksX0_held_1 23 rfl rfl)
theorem dX0_held_47 : decode cX0_held 47 = .ok (.invokevirtual 342, 3) := dk_182 1 86 (dk_at dksX0_held_2 0 rfl rfl)
theorem dX0_held_50 : decode cX0_held 50 = .ok (.iload_n 3, 1) := dk_29 (dk_at dksX0_held_2 3 rfl rfl)
theorem dX0_held_51 : decode cX0_held 51 = .ok (.ifCond .ne 15, 3) := dk_154 0 15 (dk_at dksX0_held_2 4 rfl rfl)
theorem dX0_held_54 : decode cX0_held 54 = .ok (.aload_n 0, 1) := dk_42 (dk_at dksX0_held_2 7 rfl rfl)
theorem dX0_held_55 : decode cX0_held 55 = .ok (.iload_n 1, 1) := dk_27 (dk_at dksX0_held_2 8 rfl rfl)
theorem dX0_held_56 : decode cX0_held 56 = .ok (.iload_n 2, 1) := dk_28 (dk_at dksX0_held_2 9 rfl rfl)
theorem dX0_held_57 : decode cX0_held 57 = .ok (.invokevirtual 358, 3) := dk_182 1 102 (dk_at dksX0_held_2 10 rfl rfl)
theorem dX0_held_60 : decode cX0_held 60 = .ok (.invokestatic 223, 3) := dk_184 0 223 (dk_at dksX0_held_2 13 rfl rfl)
theorem dX0_held_63 : decode cX0_held 63 = .ok (.goto 9, 3) := dk_167 0 9 (dk_at dksX0_held_2 16 rfl rfl)
theorem dX0_held_66 : decode cX0_held 66 = .ok (.aload_n 0, 1) := dk_42 (dk_at dksX0_held_2 19 rfl rfl)
theorem dX0_held_67 : decode cX0_held 67 = .ok (.iload_n 1, 1) := dk_27 (dk_at dksX0_held_2 20 rfl rfl)
theorem dX0_held_68 : decode cX0_held 68 = .ok (.iload_n 2, 1) := dk_28 (dk_at dksX0_held_2 21 rfl rfl)
theorem dX0_held_69 : decode cX0_held 69 = .ok (.invokevirtual 355, 3) := dk_182 1 99 (dk_at dksX0_held_3 0 rfl rfl)
theorem dX0_held_72 : decode cX0_held 72 = .ok (.ireturn, 1) := dk_172 (dk_at dksX0_held_3 3 rfl rfl)
abbrev cX0_asNamed : ByteArray := prog_1_method_48_code
def yX0_asNamed : MethodName := ⟨RX0, "asNamed", "()V"⟩
def dkwX0_asNamed_1 : List UInt8 := [79, 132, 1, 1, 167, 255, 230, 177]
abbrev dktX0_asNamed_1 : List UInt8 := dkwX0_asNamed_1 ++ []
def dkwX0_asNamed_0 : List UInt8 := [3, 60, 27, 42, 180, 0, 134, 162, 0, 24, 42, 180, 0, 86, 27, 42, 180, 0, 50, 27, 50, 180, 0, 185]
abbrev dktX0_asNamed_0 : List UInt8 := dkwX0_asNamed_0 ++ dktX0_asNamed_1
theorem dksX0_asNamed_0 : cX0_asNamed.data.toList.drop 0 = dktX0_asNamed_0 := by decide +kernel
theorem dksX0_asNamed_1 : cX0_asNamed.data.toList.drop 24 = dktX0_asNamed_1 := dk_seg dksX0_asNamed_0 24 rfl rfl
theorem dX0_asNamed_0 : decode cX0_asNamed 0 = .ok (.iconst 0, 1) := dk_3 (dk_at dksX0_asNamed_0 0 rfl rfl)
theorem dX0_asNamed_1 : decode cX0_asNamed 1 = .ok (.istore_n 1, 1) := dk_60 (dk_at dksX0_asNamed_0 1 rfl rfl)
theorem dX0_asNamed_2 : decode cX0_asNamed 2 = .ok (.iload_n 1, 1) := dk_27 (dk_at dksX0_asNamed_0 2 rfl rfl)
theorem dX0_asNamed_3 : decode cX0_asNamed 3 = .ok (.aload_n 0, 1) := dk_42 (dk_at dksX0_asNamed_0 3 rfl rfl)
theorem dX0_asNamed_4 : decode cX0_asNamed 4 = .ok (.getfield 134, 3) := dk_180 0 134 (dk_at dksX0_asNamed_0 4 rfl rfl)
theorem dX0_asNamed_7 : decode cX0_asNamed 7 = .ok (.if_icmp .ge 24, 3) := dk_162 0 24 (dk_at dksX0_asNamed_0 7 rfl rfl)
theorem dX0_asNamed_10 : decode cX0_asNamed 10 = .ok (.aload_n 0, 1) := dk_42 (dk_at dksX0_asNamed_0 10 rfl rfl)
theorem dX0_asNamed_11 : decode cX0_asNamed 11 = .ok (.getfield 86, 3) := dk_180 0 86 (dk_at dksX0_asNamed_0 11 rfl rfl)
theorem dX0_asNamed_14 : decode cX0_asNamed 14 = .ok (.iload_n 1, 1) := dk_27 (dk_at dksX0_asNamed_0 14 rfl rfl)
theorem dX0_asNamed_15 : decode cX0_asNamed 15 = .ok (.aload_n 0, 1) := dk_42 (dk_at dksX0_asNamed_0 15 rfl rfl)
theorem dX0_asNamed_16 : decode cX0_asNamed 16 = .ok (.getfield 50, 3) := dk_180 0 50 (dk_at dksX0_asNamed_0 16 rfl rfl)
theorem dX0_asNamed_19 : decode cX0_asNamed 19 = .ok (.iload_n 1, 1) := dk_27 (dk_at dksX0_asNamed_0 19 rfl rfl)
theorem dX0_asNamed_20 : decode cX0_asNamed 20 = .ok (.aaload, 1) := dk_50 (dk_at dksX0_asNamed_0 20 rfl rfl)
theorem dX0_asNamed_21 : decode cX0_asNamed 21 = .ok (.getfield 185, 3) := dk_180 0 185 (dk_at dksX0_asNamed_0 21 rfl rfl)
theorem dX0_asNamed_24 : decode cX0_asNamed 24 = .ok (.iastore, 1) := dk_79 (dk_at dksX0_asNamed_1 0 rfl rfl)
theorem dX0_asNamed_25 : decode cX0_asNamed 25 = .ok (.iinc 1 1, 3) := dk_132 1 1 (dk_at dksX0_asNamed_1 1 rfl rfl)
theorem dX0_asNamed_28 : decode cX0_asNamed 28 = .ok (.goto (-26), 3) := dk_167 255 230 (dk_at dksX0_asNamed_1 4 rfl rfl)
theorem dX0_asNamed_31 : decode cX0_asNamed 31 = .ok (.return_, 1) := dk_177 (dk_at dksX0_asNamed_1 7 rfl rfl)
abbrev cX0_tillOf : ByteArray := prog_1_method_53_code
def yX0_tillOf : MethodName := ⟨RX0, "tillOf", "(II)I"⟩
def dkwX0_tillOf_1 : List UInt8 := [172, 132, 3, 1, 167, 255, 230, 16, 254, 172]
abbrev dktX0_tillOf_1 : List UInt8 := dkwX0_tillOf_1 ++ []
def dkwX0_tillOf_0 : List UInt8 := [28, 62, 29, 16, 100, 162, 0, 26, 42, 29, 3, 182, 1, 86, 42, 27, 29, 182, 1, 102, 154, 0, 5, 29]
abbrev dktX0_tillOf_0 : List UInt8 := dkwX0_tillOf_0 ++ dktX0_tillOf_1
theorem dksX0_tillOf_0 : cX0_tillOf.data.toList.drop 0 = dktX0_tillOf_0 := by decide +kernel
theorem dksX0_tillOf_1 : cX0_tillOf.data.toList.drop 24 = dktX0_tillOf_1 := dk_seg dksX0_tillOf_0 24 rfl rfl
theorem dX0_tillOf_0 : decode cX0_tillOf 0 = .ok (.iload_n 2, 1) := dk_28 (dk_at dksX0_tillOf_0 0 rfl rfl)
theorem dX0_tillOf_1 : decode cX0_tillOf 1 = .ok (.istore_n 3, 1) := dk_62 (dk_at dksX0_tillOf_0 1 rfl rfl)
theorem dX0_tillOf_2 : decode cX0_tillOf 2 = .ok (.iload_n 3, 1) := dk_29 (dk_at dksX0_tillOf_0 2 rfl rfl)
theorem dX0_tillOf_3 : decode cX0_tillOf 3 = .ok (.bipush 100, 2) := dk_16 100 (dk_at dksX0_tillOf_0 3 rfl rfl)
theorem dX0_tillOf_5 : decode cX0_tillOf 5 = .ok (.if_icmp .ge 26, 3) := dk_162 0 26 (dk_at dksX0_tillOf_0 5 rfl rfl)
theorem dX0_tillOf_8 : decode cX0_tillOf 8 = .ok (.aload_n 0, 1) := dk_42 (dk_at dksX0_tillOf_0 8 rfl rfl)
theorem dX0_tillOf_9 : decode cX0_tillOf 9 = .ok (.iload_n 3, 1) := dk_29 (dk_at dksX0_tillOf_0 9 rfl rfl)
theorem dX0_tillOf_10 : decode cX0_tillOf 10 = .ok (.iconst 0, 1) := dk_3 (dk_at dksX0_tillOf_0 10 rfl rfl)
theorem dX0_tillOf_11 : decode cX0_tillOf 11 = .ok (.invokevirtual 342, 3) := dk_182 1 86 (dk_at dksX0_tillOf_0 11 rfl rfl)
theorem dX0_tillOf_14 : decode cX0_tillOf 14 = .ok (.aload_n 0, 1) := dk_42 (dk_at dksX0_tillOf_0 14 rfl rfl)
theorem dX0_tillOf_15 : decode cX0_tillOf 15 = .ok (.iload_n 1, 1) := dk_27 (dk_at dksX0_tillOf_0 15 rfl rfl)
theorem dX0_tillOf_16 : decode cX0_tillOf 16 = .ok (.iload_n 3, 1) := dk_29 (dk_at dksX0_tillOf_0 16 rfl rfl)
theorem dX0_tillOf_17 : decode cX0_tillOf 17 = .ok (.invokevirtual 358, 3) := dk_182 1 102 (dk_at dksX0_tillOf_0 17 rfl rfl)
theorem dX0_tillOf_20 : decode cX0_tillOf 20 = .ok (.ifCond .ne 5, 3) := dk_154 0 5 (dk_at dksX0_tillOf_0 20 rfl rfl)
theorem dX0_tillOf_23 : decode cX0_tillOf 23 = .ok (.iload_n 3, 1) := dk_29 (dk_at dksX0_tillOf_0 23 rfl rfl)
theorem dX0_tillOf_24 : decode cX0_tillOf 24 = .ok (.ireturn, 1) := dk_172 (dk_at dksX0_tillOf_1 0 rfl rfl)
theorem dX0_tillOf_25 : decode cX0_tillOf 25 = .ok (.iinc 3 1, 3) := dk_132 3 1 (dk_at dksX0_tillOf_1 1 rfl rfl)
theorem dX0_tillOf_28 : decode cX0_tillOf 28 = .ok (.goto (-26), 3) := dk_167 255 230 (dk_at dksX0_tillOf_1 4 rfl rfl)
theorem dX0_tillOf_31 : decode cX0_tillOf 31 = .ok (.bipush (-2), 2) := dk_16 254 (dk_at dksX0_tillOf_1 7 rfl rfl)
theorem dX0_tillOf_33 : decode cX0_tillOf 33 = .ok (.ireturn, 1) := dk_172 (dk_at dksX0_tillOf_1 9 rfl rfl)
abbrev cX0_isHeld : ByteArray := prog_1_method_52_code
def yX0_isHeld : MethodName := ⟨RX0, "isHeld", "(II)Z"⟩
def dkwX0_isHeld_0 : List UInt8 := [42, 27, 28, 182, 1, 96, 154, 0, 12, 42, 27, 28, 182, 1, 99, 153, 0, 7, 4, 167, 0, 4, 3, 172]
abbrev dktX0_isHeld_0 : List UInt8 := dkwX0_isHeld_0 ++ []
theorem dksX0_isHeld_0 : cX0_isHeld.data.toList.drop 0 = dktX0_isHeld_0 := by decide +kernel
theorem dX0_isHeld_0 : decode cX0_isHeld 0 = .ok (.aload_n 0, 1) := dk_42 (dk_at dksX0_isHeld_0 0 rfl rfl)
theorem dX0_isHeld_1 : decode cX0_isHeld 1 = .ok (.iload_n 1, 1) := dk_27 (dk_at dksX0_isHeld_0 1 rfl rfl)
theorem dX0_isHeld_2 : decode cX0_isHeld 2 = .ok (.iload_n 2, 1) := dk_28 (dk_at dksX0_isHeld_0 2 rfl rfl)
theorem dX0_isHeld_3 : decode cX0_isHeld 3 = .ok (.invokevirtual 352, 3) := dk_182 1 96 (dk_at dksX0_isHeld_0 3 rfl rfl)
theorem dX0_isHeld_6 : decode cX0_isHeld 6 = .ok (.ifCond .ne 12, 3) := dk_154 0 12 (dk_at dksX0_isHeld_0 6 rfl rfl)
theorem dX0_isHeld_9 : decode cX0_isHeld 9 = .ok (.aload_n 0, 1) := dk_42 (dk_at dksX0_isHeld_0 9 rfl rfl)
theorem dX0_isHeld_10 : decode cX0_isHeld 10 = .ok (.iload_n 1, 1) := dk_27 (dk_at dksX0_isHeld_0 10 rfl rfl)
theorem dX0_isHeld_11 : decode cX0_isHeld 11 = .ok (.iload_n 2, 1) := dk_28 (dk_at dksX0_isHeld_0 11 rfl rfl)
theorem dX0_isHeld_12 : decode cX0_isHeld 12 = .ok (.invokevirtual 355, 3) := dk_182 1 99 (dk_at dksX0_isHeld_0 12 rfl rfl)
theorem dX0_isHeld_15 : decode cX0_isHeld 15 = .ok (.ifCond .eq 7, 3) := dk_153 0 7 (dk_at dksX0_isHeld_0 15 rfl rfl)
theorem dX0_isHeld_18 : decode cX0_isHeld 18 = .ok (.iconst 1, 1) := dk_4 (dk_at dksX0_isHeld_0 18 rfl rfl)
theorem dX0_isHeld_19 : decode cX0_isHeld 19 = .ok (.goto 4, 3) := dk_167 0 4 (dk_at dksX0_isHeld_0 19 rfl rfl)
theorem dX0_isHeld_22 : decode cX0_isHeld 22 = .ok (.iconst 0, 1) := dk_3 (dk_at dksX0_isHeld_0 22 rfl rfl)
theorem dX0_isHeld_23 : decode cX0_isHeld 23 = .ok (.ireturn, 1) := dk_172 (dk_at dksX0_isHeld_0 23 rfl rfl)
abbrev cX0_isFamed : ByteArray := prog_1_method_51_code
def yX0_isFamed : MethodName := ⟨RX0, "isFamed", "(II)Z"⟩
def dkwX0_isFamed_2 : List UInt8 := [132, 3, 1, 167, 255, 220, 3, 172]
abbrev dktX0_isFamed_2 : List UInt8 := dkwX0_isFamed_2 ++ []
def dkwX0_isFamed_1 : List UInt8 := [180, 0, 86, 29, 46, 27, 160, 0, 18, 42, 180, 0, 50, 29, 50, 180, 0, 149, 28, 163, 0, 5, 4, 172]
abbrev dktX0_isFamed_1 : List UInt8 := dkwX0_isFamed_1 ++ dktX0_isFamed_2
def dkwX0_isFamed_0 : List UInt8 := [42, 180, 0, 70, 27, 46, 154, 0, 5, 3, 172, 3, 62, 29, 42, 180, 0, 134, 162, 0, 34, 42]
abbrev dktX0_isFamed_0 : List UInt8 := dkwX0_isFamed_0 ++ dktX0_isFamed_1
theorem dksX0_isFamed_0 : cX0_isFamed.data.toList.drop 0 = dktX0_isFamed_0 := by decide +kernel
theorem dksX0_isFamed_1 : cX0_isFamed.data.toList.drop 22 = dktX0_isFamed_1 := dk_seg dksX0_isFamed_0 22 rfl rfl
theorem dksX0_isFamed_2 : cX0_isFamed.data.toList.drop 46 = dktX0_isFamed_2 := dk_seg dksX0_isFamed_1 24 rfl rfl
theorem dX0_isFamed_0 : decode cX0_isFamed 0 = .ok (.aload_n 0, 1) := dk_42 (dk_at dksX0_isFamed_0 0 rfl rfl)
theorem dX0_isFamed_1 : decode cX0_isFamed 1 = .ok (.getfield 70, 3) := dk_180 0 70 (dk_at dksX0_isFamed_0 1 rfl rfl)
theorem dX0_isFamed_4 : decode cX0_isFamed 4 = .ok (.iload_n 1, 1) := dk_27 (dk_at dksX0_isFamed_0 4 rfl rfl)
theorem dX0_isFamed_5 : decode cX0_isFamed 5 = .ok (.iaload, 1) := dk_46 (dk_at dksX0_isFamed_0 5 rfl rfl)
theorem dX0_isFamed_6 : decode cX0_isFamed 6 = .ok (.ifCond .ne 5, 3) := dk_154 0 5 (dk_at dksX0_isFamed_0 6 rfl rfl)
theorem dX0_isFamed_9 : decode cX0_isFamed 9 = .ok (.iconst 0, 1) := dk_3 (dk_at dksX0_isFamed_0 9 rfl rfl)
theorem dX0_isFamed_10 : decode cX0_isFamed 10 = .ok (.ireturn, 1) := dk_172 (dk_at dksX0_isFamed_0 10 rfl rfl)
theorem dX0_isFamed_11 : decode cX0_isFamed 11 = .ok (.iconst 0, 1) := dk_3 (dk_at dksX0_isFamed_0 11 rfl rfl)
theorem dX0_isFamed_12 : decode cX0_isFamed 12 = .ok (.istore_n 3, 1) := dk_62 (dk_at dksX0_isFamed_0 12 rfl rfl)
theorem dX0_isFamed_13 : decode cX0_isFamed 13 = .ok (.iload_n 3, 1) := dk_29 (dk_at dksX0_isFamed_0 13 rfl rfl)
theorem dX0_isFamed_14 : decode cX0_isFamed 14 = .ok (.aload_n 0, 1) := dk_42 (dk_at dksX0_isFamed_0 14 rfl rfl)
theorem dX0_isFamed_15 : decode cX0_isFamed 15 = .ok (.getfield 134, 3) := dk_180 0 134 (dk_at dksX0_isFamed_0 15 rfl rfl)
theorem dX0_isFamed_18 : decode cX0_isFamed 18 = .ok (.if_icmp .ge 34, 3) := dk_162 0 34 (dk_at dksX0_isFamed_0 18 rfl rfl)
theorem dX0_isFamed_21 : decode cX0_isFamed 21 = .ok (.aload_n 0, 1) := dk_42 (dk_at dksX0_isFamed_0 21 rfl rfl)
theorem dX0_isFamed_22 : decode cX0_isFamed 22 = .ok (.getfield 86, 3) := dk_180 0 86 (dk_at dksX0_isFamed_1 0 rfl rfl)
theorem dX0_isFamed_25 : decode cX0_isFamed 25 = .ok (.iload_n 3, 1) := dk_29 (dk_at dksX0_isFamed_1 3 rfl rfl)
theorem dX0_isFamed_26 : decode cX0_isFamed 26 = .ok (.iaload, 1) := dk_46 (dk_at dksX0_isFamed_1 4 rfl rfl)
theorem dX0_isFamed_27 : decode cX0_isFamed 27 = .ok (.iload_n 1, 1) := dk_27 (dk_at dksX0_isFamed_1 5 rfl rfl)
theorem dX0_isFamed_28 : decode cX0_isFamed 28 = .ok (.if_icmp .ne 18, 3) := dk_160 0 18 (dk_at dksX0_isFamed_1 6 rfl rfl)
theorem dX0_isFamed_31 : decode cX0_isFamed 31 = .ok (.aload_n 0, 1) := dk_42 (dk_at dksX0_isFamed_1 9 rfl rfl)
theorem dX0_isFamed_32 : decode cX0_isFamed 32 = .ok (.getfield 50, 3) := dk_180 0 50 (dk_at dksX0_isFamed_1 10 rfl rfl)
theorem dX0_isFamed_35 : decode cX0_isFamed 35 = .ok (.iload_n 3, 1) := dk_29 (dk_at dksX0_isFamed_1 13 rfl rfl)
theorem dX0_isFamed_36 : decode cX0_isFamed 36 = .ok (.aaload, 1) := dk_50 (dk_at dksX0_isFamed_1 14 rfl rfl)
theorem dX0_isFamed_37 : decode cX0_isFamed 37 = .ok (.getfield 149, 3) := dk_180 0 149 (dk_at dksX0_isFamed_1 15 rfl rfl)
theorem dX0_isFamed_40 : decode cX0_isFamed 40 = .ok (.iload_n 2, 1) := dk_28 (dk_at dksX0_isFamed_1 18 rfl rfl)
theorem dX0_isFamed_41 : decode cX0_isFamed 41 = .ok (.if_icmp .gt 5, 3) := dk_163 0 5 (dk_at dksX0_isFamed_1 19 rfl rfl)
theorem dX0_isFamed_44 : decode cX0_isFamed 44 = .ok (.iconst 1, 1) := dk_4 (dk_at dksX0_isFamed_1 22 rfl rfl)
theorem dX0_isFamed_45 : decode cX0_isFamed 45 = .ok (.ireturn, 1) := dk_172 (dk_at dksX0_isFamed_1 23 rfl rfl)
theorem dX0_isFamed_46 : decode cX0_isFamed 46 = .ok (.iinc 3 1, 3) := dk_132 3 1 (dk_at dksX0_isFamed_2 0 rfl rfl)
theorem dX0_isFamed_49 : decode cX0_isFamed 49 = .ok (.goto (-36), 3) := dk_167 255 220 (dk_at dksX0_isFamed_2 3 rfl rfl)
theorem dX0_isFamed_52 : decode cX0_isFamed 52 = .ok (.iconst 0, 1) := dk_3 (dk_at dksX0_isFamed_2 6 rfl rfl)
theorem dX0_isFamed_53 : decode cX0_isFamed 53 = .ok (.ireturn, 1) := dk_172 (dk_at dksX0_isFamed_2 7 rfl rfl)
abbrev cX0_holders : ByteArray := prog_1_method_50_code
def yX0_holders : MethodName := ⟨RX0, "holders", "(II)I"⟩
def dkwX0_holders_1 : List UInt8 := [184, 0, 223, 21, 4, 120, 128, 62, 132, 4, 1, 167, 255, 227, 29, 172]
abbrev dktX0_holders_1 : List UInt8 := dkwX0_holders_1 ++ []
def dkwX0_holders_0 : List UInt8 := [3, 62, 3, 54, 4, 21, 4, 42, 180, 0, 134, 162, 0, 26, 29, 42, 21, 4, 27, 28, 182, 1, 93]
abbrev dktX0_holders_0 : List UInt8 := dkwX0_holders_0 ++ dktX0_holders_1
theorem dksX0_holders_0 : cX0_holders.data.toList.drop 0 = dktX0_holders_0 := by decide +kernel
theorem dksX0_holders_1 : cX0_holders.data.toList.drop 23 = dktX0_holders_1 := dk_seg dksX0_holders_0 23 rfl rfl
theorem dX0_holders_0 : decode cX0_holders 0 = .ok (.iconst 0, 1) := dk_3 (dk_at dksX0_holders_0 0 rfl rfl)
theorem dX0_holders_1 : decode cX0_holders 1 = .ok (.istore_n 3, 1) := dk_62 (dk_at dksX0_holders_0 1 rfl rfl)
theorem dX0_holders_2 : decode cX0_holders 2 = .ok (.iconst 0, 1) := dk_3 (dk_at dksX0_holders_0 2 rfl rfl)
theorem dX0_holders_3 : decode cX0_holders 3 = .ok (.istore 4, 2) := dk_54 4 (dk_at dksX0_holders_0 3 rfl rfl)
theorem dX0_holders_5 : decode cX0_holders 5 = .ok (.iload 4, 2) := dk_21 4 (dk_at dksX0_holders_0 5 rfl rfl)
theorem dX0_holders_7 : decode cX0_holders 7 = .ok (.aload_n 0, 1) := dk_42 (dk_at dksX0_holders_0 7 rfl rfl)
theorem dX0_holders_8 : decode cX0_holders 8 = .ok (.getfield 134, 3) := dk_180 0 134 (dk_at dksX0_holders_0 8 rfl rfl)
theorem dX0_holders_11 : decode cX0_holders 11 = .ok (.if_icmp .ge 26, 3) := dk_162 0 26 (dk_at dksX0_holders_0 11 rfl rfl)
theorem dX0_holders_14 : decode cX0_holders 14 = .ok (.iload_n 3, 1) := dk_29 (dk_at dksX0_holders_0 14 rfl rfl)
theorem dX0_holders_15 : decode cX0_holders 15 = .ok (.aload_n 0, 1) := dk_42 (dk_at dksX0_holders_0 15 rfl rfl)
theorem dX0_holders_16 : decode cX0_holders 16 = .ok (.iload 4, 2) := dk_21 4 (dk_at dksX0_holders_0 16 rfl rfl)
theorem dX0_holders_18 : decode cX0_holders 18 = .ok (.iload_n 1, 1) := dk_27 (dk_at dksX0_holders_0 18 rfl rfl)
theorem dX0_holders_19 : decode cX0_holders 19 = .ok (.iload_n 2, 1) := dk_28 (dk_at dksX0_holders_0 19 rfl rfl)
theorem dX0_holders_20 : decode cX0_holders 20 = .ok (.invokevirtual 349, 3) := dk_182 1 93 (dk_at dksX0_holders_0 20 rfl rfl)
theorem dX0_holders_23 : decode cX0_holders 23 = .ok (.invokestatic 223, 3) := dk_184 0 223 (dk_at dksX0_holders_1 0 rfl rfl)
theorem dX0_holders_26 : decode cX0_holders 26 = .ok (.iload 4, 2) := dk_21 4 (dk_at dksX0_holders_1 3 rfl rfl)
theorem dX0_holders_28 : decode cX0_holders 28 = .ok (.ishl, 1) := dk_120 (dk_at dksX0_holders_1 5 rfl rfl)
theorem dX0_holders_29 : decode cX0_holders 29 = .ok (.ior, 1) := dk_128 (dk_at dksX0_holders_1 6 rfl rfl)
theorem dX0_holders_30 : decode cX0_holders 30 = .ok (.istore_n 3, 1) := dk_62 (dk_at dksX0_holders_1 7 rfl rfl)
theorem dX0_holders_31 : decode cX0_holders 31 = .ok (.iinc 4 1, 3) := dk_132 4 1 (dk_at dksX0_holders_1 8 rfl rfl)
theorem dX0_holders_34 : decode cX0_holders 34 = .ok (.goto (-29), 3) := dk_167 255 227 (dk_at dksX0_holders_1 11 rfl rfl)
theorem dX0_holders_37 : decode cX0_holders 37 = .ok (.iload_n 3, 1) := dk_29 (dk_at dksX0_holders_1 14 rfl rfl)
theorem dX0_holders_38 : decode cX0_holders 38 = .ok (.ireturn, 1) := dk_172 (dk_at dksX0_holders_1 15 rfl rfl)
abbrev cX0_doesHold : ByteArray := prog_1_method_49_code
def yX0_doesHold : MethodName := ⟨RX0, "doesHold", "(III)Z"⟩
def dkwX0_doesHold_3 : List UInt8 := [182, 1, 89, 153, 0, 5, 4, 172, 132, 4, 1, 167, 255, 191, 3, 172]
abbrev dktX0_doesHold_3 : List UInt8 := dkwX0_doesHold_3 ++ []
def dkwX0_doesHold_2 : List UInt8 := [29, 163, 0, 31, 42, 180, 0, 83, 27, 46, 21, 4, 184, 1, 83, 153, 0, 17, 42, 27, 21, 4, 28, 29]
abbrev dktX0_doesHold_2 : List UInt8 := dkwX0_doesHold_2 ++ dktX0_doesHold_3
def dkwX0_doesHold_1 : List UInt8 := [162, 0, 62, 42, 180, 0, 86, 21, 4, 46, 28, 160, 0, 45, 42, 180, 0, 50, 21, 4, 50, 180, 0, 149]
abbrev dktX0_doesHold_1 : List UInt8 := dkwX0_doesHold_1 ++ dktX0_doesHold_2
def dkwX0_doesHold_0 : List UInt8 := [42, 180, 0, 50, 27, 50, 29, 182, 0, 188, 154, 0, 5, 3, 172, 3, 54, 4, 21, 4, 42, 180, 0, 134]
abbrev dktX0_doesHold_0 : List UInt8 := dkwX0_doesHold_0 ++ dktX0_doesHold_1
theorem dksX0_doesHold_0 : cX0_doesHold.data.toList.drop 0 = dktX0_doesHold_0 := by decide +kernel
theorem dksX0_doesHold_1 : cX0_doesHold.data.toList.drop 24 = dktX0_doesHold_1 := dk_seg dksX0_doesHold_0 24 rfl rfl
theorem dksX0_doesHold_2 : cX0_doesHold.data.toList.drop 48 = dktX0_doesHold_2 := dk_seg dksX0_doesHold_1 24 rfl rfl
theorem dksX0_doesHold_3 : cX0_doesHold.data.toList.drop 72 = dktX0_doesHold_3 := dk_seg dksX0_doesHold_2 24 rfl rfl
theorem dX0_doesHold_0 : decode cX0_doesHold 0 = .ok (.aload_n 0, 1) := dk_42 (dk_at dksX0_doesHold_0 0 rfl rfl)
theorem dX0_doesHold_1 : decode cX0_doesHold 1 = .ok (.getfield 50, 3) := dk_180 0 50 (dk_at dksX0_doesHold_0 1 rfl rfl)
theorem dX0_doesHold_4 : decode cX0_doesHold 4 = .ok (.iload_n 1, 1) := dk_27 (dk_at dksX0_doesHold_0 4 rfl rfl)
theorem dX0_doesHold_5 : decode cX0_doesHold 5 = .ok (.aaload, 1) := dk_50 (dk_at dksX0_doesHold_0 5 rfl rfl)
theorem dX0_doesHold_6 : decode cX0_doesHold 6 = .ok (.iload_n 3, 1) := dk_29 (dk_at dksX0_doesHold_0 6 rfl rfl)
theorem dX0_doesHold_7 : decode cX0_doesHold 7 = .ok (.invokevirtual 188, 3) := dk_182 0 188 (dk_at dksX0_doesHold_0 7 rfl rfl)
theorem dX0_doesHold_10 : decode cX0_doesHold 10 = .ok (.ifCond .ne 5, 3) := dk_154 0 5 (dk_at dksX0_doesHold_0 10 rfl rfl)
theorem dX0_doesHold_13 : decode cX0_doesHold 13 = .ok (.iconst 0, 1) := dk_3 (dk_at dksX0_doesHold_0 13 rfl rfl)
theorem dX0_doesHold_14 : decode cX0_doesHold 14 = .ok (.ireturn, 1) := dk_172 (dk_at dksX0_doesHold_0 14 rfl rfl)
theorem dX0_doesHold_15 : decode cX0_doesHold 15 = .ok (.iconst 0, 1) := dk_3 (dk_at dksX0_doesHold_0 15 rfl rfl)
theorem dX0_doesHold_16 : decode cX0_doesHold 16 = .ok (.istore 4, 2) := dk_54 4 (dk_at dksX0_doesHold_0 16 rfl rfl)
theorem dX0_doesHold_18 : decode cX0_doesHold 18 = .ok (.iload 4, 2) := dk_21 4 (dk_at dksX0_doesHold_0 18 rfl rfl)
theorem dX0_doesHold_20 : decode cX0_doesHold 20 = .ok (.aload_n 0, 1) := dk_42 (dk_at dksX0_doesHold_0 20 rfl rfl)
theorem dX0_doesHold_21 : decode cX0_doesHold 21 = .ok (.getfield 134, 3) := dk_180 0 134 (dk_at dksX0_doesHold_0 21 rfl rfl)
theorem dX0_doesHold_24 : decode cX0_doesHold 24 = .ok (.if_icmp .ge 62, 3) := dk_162 0 62 (dk_at dksX0_doesHold_1 0 rfl rfl)
theorem dX0_doesHold_27 : decode cX0_doesHold 27 = .ok (.aload_n 0, 1) := dk_42 (dk_at dksX0_doesHold_1 3 rfl rfl)
theorem dX0_doesHold_28 : decode cX0_doesHold 28 = .ok (.getfield 86, 3) := dk_180 0 86 (dk_at dksX0_doesHold_1 4 rfl rfl)
theorem dX0_doesHold_31 : decode cX0_doesHold 31 = .ok (.iload 4, 2) := dk_21 4 (dk_at dksX0_doesHold_1 7 rfl rfl)
theorem dX0_doesHold_33 : decode cX0_doesHold 33 = .ok (.iaload, 1) := dk_46 (dk_at dksX0_doesHold_1 9 rfl rfl)
theorem dX0_doesHold_34 : decode cX0_doesHold 34 = .ok (.iload_n 2, 1) := dk_28 (dk_at dksX0_doesHold_1 10 rfl rfl)
theorem dX0_doesHold_35 : decode cX0_doesHold 35 = .ok (.if_icmp .ne 45, 3) := dk_160 0 45 (dk_at dksX0_doesHold_1 11 rfl rfl)
theorem dX0_doesHold_38 : decode cX0_doesHold 38 = .ok (.aload_n 0, 1) := dk_42 (dk_at dksX0_doesHold_1 14 rfl rfl)
theorem dX0_doesHold_39 : decode cX0_doesHold 39 = .ok (.getfield 50, 3) := dk_180 0 50 (dk_at dksX0_doesHold_1 15 rfl rfl)
theorem dX0_doesHold_42 : decode cX0_doesHold 42 = .ok (.iload 4, 2) := dk_21 4 (dk_at dksX0_doesHold_1 18 rfl rfl)
theorem dX0_doesHold_44 : decode cX0_doesHold 44 = .ok (.aaload, 1) := dk_50 (dk_at dksX0_doesHold_1 20 rfl rfl)
theorem dX0_doesHold_45 : decode cX0_doesHold 45 = .ok (.getfield 149, 3) := dk_180 0 149 (dk_at dksX0_doesHold_1 21 rfl rfl)
theorem dX0_doesHold_48 : decode cX0_doesHold 48 = .ok (.iload_n 3, 1) := dk_29 (dk_at dksX0_doesHold_2 0 rfl rfl)
theorem dX0_doesHold_49 : decode cX0_doesHold 49 = .ok (.if_icmp .gt 31, 3) := dk_163 0 31 (dk_at dksX0_doesHold_2 1 rfl rfl)
theorem dX0_doesHold_52 : decode cX0_doesHold 52 = .ok (.aload_n 0, 1) := dk_42 (dk_at dksX0_doesHold_2 4 rfl rfl)
theorem dX0_doesHold_53 : decode cX0_doesHold 53 = .ok (.getfield 83, 3) := dk_180 0 83 (dk_at dksX0_doesHold_2 5 rfl rfl)
theorem dX0_doesHold_56 : decode cX0_doesHold 56 = .ok (.iload_n 1, 1) := dk_27 (dk_at dksX0_doesHold_2 8 rfl rfl)
theorem dX0_doesHold_57 : decode cX0_doesHold 57 = .ok (.iaload, 1) := dk_46 (dk_at dksX0_doesHold_2 9 rfl rfl)
theorem dX0_doesHold_58 : decode cX0_doesHold 58 = .ok (.iload 4, 2) := dk_21 4 (dk_at dksX0_doesHold_2 10 rfl rfl)
theorem dX0_doesHold_60 : decode cX0_doesHold 60 = .ok (.invokestatic 339, 3) := dk_184 1 83 (dk_at dksX0_doesHold_2 12 rfl rfl)
theorem dX0_doesHold_63 : decode cX0_doesHold 63 = .ok (.ifCond .eq 17, 3) := dk_153 0 17 (dk_at dksX0_doesHold_2 15 rfl rfl)
theorem dX0_doesHold_66 : decode cX0_doesHold 66 = .ok (.aload_n 0, 1) := dk_42 (dk_at dksX0_doesHold_2 18 rfl rfl)
theorem dX0_doesHold_67 : decode cX0_doesHold 67 = .ok (.iload_n 1, 1) := dk_27 (dk_at dksX0_doesHold_2 19 rfl rfl)
theorem dX0_doesHold_68 : decode cX0_doesHold 68 = .ok (.iload 4, 2) := dk_21 4 (dk_at dksX0_doesHold_2 20 rfl rfl)
theorem dX0_doesHold_70 : decode cX0_doesHold 70 = .ok (.iload_n 2, 1) := dk_28 (dk_at dksX0_doesHold_2 22 rfl rfl)
theorem dX0_doesHold_71 : decode cX0_doesHold 71 = .ok (.iload_n 3, 1) := dk_29 (dk_at dksX0_doesHold_2 23 rfl rfl)
theorem dX0_doesHold_72 : decode cX0_doesHold 72 = .ok (.invokevirtual 345, 3) := dk_182 1 89 (dk_at dksX0_doesHold_3 0 rfl rfl)
theorem dX0_doesHold_75 : decode cX0_doesHold 75 = .ok (.ifCond .eq 5, 3) := dk_153 0 5 (dk_at dksX0_doesHold_3 3 rfl rfl)
theorem dX0_doesHold_78 : decode cX0_doesHold 78 = .ok (.iconst 1, 1) := dk_4 (dk_at dksX0_doesHold_3 6 rfl rfl)
theorem dX0_doesHold_79 : decode cX0_doesHold 79 = .ok (.ireturn, 1) := dk_172 (dk_at dksX0_doesHold_3 7 rfl rfl)
theorem dX0_doesHold_80 : decode cX0_doesHold 80 = .ok (.iinc 4 1, 3) := dk_132 4 1 (dk_at dksX0_doesHold_3 8 rfl rfl)
theorem dX0_doesHold_83 : decode cX0_doesHold 83 = .ok (.goto (-65), 3) := dk_167 255 191 (dk_at dksX0_doesHold_3 11 rfl rfl)
theorem dX0_doesHold_86 : decode cX0_doesHold 86 = .ok (.iconst 0, 1) := dk_3 (dk_at dksX0_doesHold_3 14 rfl rfl)
theorem dX0_doesHold_87 : decode cX0_doesHold 87 = .ok (.ireturn, 1) := dk_172 (dk_at dksX0_doesHold_3 15 rfl rfl)
abbrev cX0_holdsFor : ByteArray := prog_1_method_45_code
def yX0_holdsFor : MethodName := ⟨RX0, "holdsFor", "(IIII)Z"⟩
def dkwX0_holdsFor_5 : List UInt8 := [180, 0, 80, 8, 29, 79, 42, 182, 1, 80, 172]
abbrev dktX0_holdsFor_5 : List UInt8 := dkwX0_holdsFor_5 ++ []
def dkwX0_holdsFor_4 : List UInt8 := [180, 0, 1, 79, 42, 180, 0, 80, 7, 27, 28, 160, 0, 7, 4, 167, 0, 4, 3, 184, 0, 223, 79, 42]
abbrev dktX0_holdsFor_4 : List UInt8 := dkwX0_holdsFor_4 ++ dktX0_holdsFor_5
def dkwX0_holdsFor_3 : List UInt8 := [79, 42, 180, 0, 80, 5, 42, 180, 0, 70, 29, 46, 79, 42, 180, 0, 80, 6, 42, 180, 0, 66, 29, 50]
abbrev dktX0_holdsFor_3 : List UInt8 := dkwX0_holdsFor_3 ++ dktX0_holdsFor_4
def dkwX0_holdsFor_2 : List UInt8 := [42, 180, 0, 80, 4, 3, 21, 4, 42, 180, 0, 50, 28, 50, 180, 0, 214, 180, 0, 1, 100, 184, 1, 75]
abbrev dktX0_holdsFor_2 : List UInt8 := dkwX0_holdsFor_2 ++ dktX0_holdsFor_3
def dkwX0_holdsFor_1 : List UInt8 := [16, 80, 161, 0, 8, 27, 28, 160, 0, 7, 4, 167, 0, 4, 3, 172, 42, 180, 0, 80, 3, 21, 5, 79]
abbrev dktX0_holdsFor_1 : List UInt8 := dkwX0_holdsFor_1 ++ dktX0_holdsFor_2
def dkwX0_holdsFor_0 : List UInt8 := [21, 4, 42, 180, 0, 50, 27, 50, 180, 0, 149, 100, 54, 5, 42, 180, 1, 67, 199, 0, 21, 21, 5]
abbrev dktX0_holdsFor_0 : List UInt8 := dkwX0_holdsFor_0 ++ dktX0_holdsFor_1
theorem dksX0_holdsFor_0 : cX0_holdsFor.data.toList.drop 0 = dktX0_holdsFor_0 := by decide +kernel
theorem dksX0_holdsFor_1 : cX0_holdsFor.data.toList.drop 23 = dktX0_holdsFor_1 := dk_seg dksX0_holdsFor_0 23 rfl rfl
theorem dksX0_holdsFor_2 : cX0_holdsFor.data.toList.drop 47 = dktX0_holdsFor_2 := dk_seg dksX0_holdsFor_1 24 rfl rfl
theorem dksX0_holdsFor_3 : cX0_holdsFor.data.toList.drop 71 = dktX0_holdsFor_3 := dk_seg dksX0_holdsFor_2 24 rfl rfl
theorem dksX0_holdsFor_4 : cX0_holdsFor.data.toList.drop 95 = dktX0_holdsFor_4 := dk_seg dksX0_holdsFor_3 24 rfl rfl
theorem dksX0_holdsFor_5 : cX0_holdsFor.data.toList.drop 119 = dktX0_holdsFor_5 := dk_seg dksX0_holdsFor_4 24 rfl rfl
theorem dX0_holdsFor_0 : decode cX0_holdsFor 0 = .ok (.iload 4, 2) := dk_21 4 (dk_at dksX0_holdsFor_0 0 rfl rfl)
theorem dX0_holdsFor_2 : decode cX0_holdsFor 2 = .ok (.aload_n 0, 1) := dk_42 (dk_at dksX0_holdsFor_0 2 rfl rfl)
theorem dX0_holdsFor_3 : decode cX0_holdsFor 3 = .ok (.getfield 50, 3) := dk_180 0 50 (dk_at dksX0_holdsFor_0 3 rfl rfl)
theorem dX0_holdsFor_6 : decode cX0_holdsFor 6 = .ok (.iload_n 1, 1) := dk_27 (dk_at dksX0_holdsFor_0 6 rfl rfl)
theorem dX0_holdsFor_7 : decode cX0_holdsFor 7 = .ok (.aaload, 1) := dk_50 (dk_at dksX0_holdsFor_0 7 rfl rfl)
theorem dX0_holdsFor_8 : decode cX0_holdsFor 8 = .ok (.getfield 149, 3) := dk_180 0 149 (dk_at dksX0_holdsFor_0 8 rfl rfl)
theorem dX0_holdsFor_11 : decode cX0_holdsFor 11 = .ok (.isub, 1) := dk_100 (dk_at dksX0_holdsFor_0 11 rfl rfl)
theorem dX0_holdsFor_12 : decode cX0_holdsFor 12 = .ok (.istore 5, 2) := dk_54 5 (dk_at dksX0_holdsFor_0 12 rfl rfl)
theorem dX0_holdsFor_14 : decode cX0_holdsFor 14 = .ok (.aload_n 0, 1) := dk_42 (dk_at dksX0_holdsFor_0 14 rfl rfl)
theorem dX0_holdsFor_15 : decode cX0_holdsFor 15 = .ok (.getfield 323, 3) := dk_180 1 67 (dk_at dksX0_holdsFor_0 15 rfl rfl)
theorem dX0_holdsFor_18 : decode cX0_holdsFor 18 = .ok (.ifnonnull 21, 3) := dk_199 0 21 (dk_at dksX0_holdsFor_0 18 rfl rfl)
theorem dX0_holdsFor_21 : decode cX0_holdsFor 21 = .ok (.iload 5, 2) := dk_21 5 (dk_at dksX0_holdsFor_0 21 rfl rfl)
theorem dX0_holdsFor_23 : decode cX0_holdsFor 23 = .ok (.bipush 80, 2) := dk_16 80 (dk_at dksX0_holdsFor_1 0 rfl rfl)
theorem dX0_holdsFor_25 : decode cX0_holdsFor 25 = .ok (.if_icmp .lt 8, 3) := dk_161 0 8 (dk_at dksX0_holdsFor_1 2 rfl rfl)
theorem dX0_holdsFor_28 : decode cX0_holdsFor 28 = .ok (.iload_n 1, 1) := dk_27 (dk_at dksX0_holdsFor_1 5 rfl rfl)
theorem dX0_holdsFor_29 : decode cX0_holdsFor 29 = .ok (.iload_n 2, 1) := dk_28 (dk_at dksX0_holdsFor_1 6 rfl rfl)
theorem dX0_holdsFor_30 : decode cX0_holdsFor 30 = .ok (.if_icmp .ne 7, 3) := dk_160 0 7 (dk_at dksX0_holdsFor_1 7 rfl rfl)
theorem dX0_holdsFor_33 : decode cX0_holdsFor 33 = .ok (.iconst 1, 1) := dk_4 (dk_at dksX0_holdsFor_1 10 rfl rfl)
theorem dX0_holdsFor_34 : decode cX0_holdsFor 34 = .ok (.goto 4, 3) := dk_167 0 4 (dk_at dksX0_holdsFor_1 11 rfl rfl)
theorem dX0_holdsFor_37 : decode cX0_holdsFor 37 = .ok (.iconst 0, 1) := dk_3 (dk_at dksX0_holdsFor_1 14 rfl rfl)
theorem dX0_holdsFor_38 : decode cX0_holdsFor 38 = .ok (.ireturn, 1) := dk_172 (dk_at dksX0_holdsFor_1 15 rfl rfl)
theorem dX0_holdsFor_39 : decode cX0_holdsFor 39 = .ok (.aload_n 0, 1) := dk_42 (dk_at dksX0_holdsFor_1 16 rfl rfl)
theorem dX0_holdsFor_40 : decode cX0_holdsFor 40 = .ok (.getfield 80, 3) := dk_180 0 80 (dk_at dksX0_holdsFor_1 17 rfl rfl)
theorem dX0_holdsFor_43 : decode cX0_holdsFor 43 = .ok (.iconst 0, 1) := dk_3 (dk_at dksX0_holdsFor_1 20 rfl rfl)
theorem dX0_holdsFor_44 : decode cX0_holdsFor 44 = .ok (.iload 5, 2) := dk_21 5 (dk_at dksX0_holdsFor_1 21 rfl rfl)
theorem dX0_holdsFor_46 : decode cX0_holdsFor 46 = .ok (.iastore, 1) := dk_79 (dk_at dksX0_holdsFor_1 23 rfl rfl)
theorem dX0_holdsFor_47 : decode cX0_holdsFor 47 = .ok (.aload_n 0, 1) := dk_42 (dk_at dksX0_holdsFor_2 0 rfl rfl)
theorem dX0_holdsFor_48 : decode cX0_holdsFor 48 = .ok (.getfield 80, 3) := dk_180 0 80 (dk_at dksX0_holdsFor_2 1 rfl rfl)
theorem dX0_holdsFor_51 : decode cX0_holdsFor 51 = .ok (.iconst 1, 1) := dk_4 (dk_at dksX0_holdsFor_2 4 rfl rfl)
theorem dX0_holdsFor_52 : decode cX0_holdsFor 52 = .ok (.iconst 0, 1) := dk_3 (dk_at dksX0_holdsFor_2 5 rfl rfl)
theorem dX0_holdsFor_53 : decode cX0_holdsFor 53 = .ok (.iload 4, 2) := dk_21 4 (dk_at dksX0_holdsFor_2 6 rfl rfl)
theorem dX0_holdsFor_55 : decode cX0_holdsFor 55 = .ok (.aload_n 0, 1) := dk_42 (dk_at dksX0_holdsFor_2 8 rfl rfl)
theorem dX0_holdsFor_56 : decode cX0_holdsFor 56 = .ok (.getfield 50, 3) := dk_180 0 50 (dk_at dksX0_holdsFor_2 9 rfl rfl)
theorem dX0_holdsFor_59 : decode cX0_holdsFor 59 = .ok (.iload_n 2, 1) := dk_28 (dk_at dksX0_holdsFor_2 12 rfl rfl)
theorem dX0_holdsFor_60 : decode cX0_holdsFor 60 = .ok (.aaload, 1) := dk_50 (dk_at dksX0_holdsFor_2 13 rfl rfl)
theorem dX0_holdsFor_61 : decode cX0_holdsFor 61 = .ok (.getfield 214, 3) := dk_180 0 214 (dk_at dksX0_holdsFor_2 14 rfl rfl)
theorem dX0_holdsFor_64 : decode cX0_holdsFor 64 = .ok (.getfield 1, 3) := dk_180 0 1 (dk_at dksX0_holdsFor_2 17 rfl rfl)
theorem dX0_holdsFor_67 : decode cX0_holdsFor 67 = .ok (.isub, 1) := dk_100 (dk_at dksX0_holdsFor_2 20 rfl rfl)
theorem dX0_holdsFor_68 : decode cX0_holdsFor 68 = .ok (.invokestatic 331, 3) := dk_184 1 75 (dk_at dksX0_holdsFor_2 21 rfl rfl)
theorem dX0_holdsFor_71 : decode cX0_holdsFor 71 = .ok (.iastore, 1) := dk_79 (dk_at dksX0_holdsFor_3 0 rfl rfl)
theorem dX0_holdsFor_72 : decode cX0_holdsFor 72 = .ok (.aload_n 0, 1) := dk_42 (dk_at dksX0_holdsFor_3 1 rfl rfl)
theorem dX0_holdsFor_73 : decode cX0_holdsFor 73 = .ok (.getfield 80, 3) := dk_180 0 80 (dk_at dksX0_holdsFor_3 2 rfl rfl)
theorem dX0_holdsFor_76 : decode cX0_holdsFor 76 = .ok (.iconst 2, 1) := dk_5 (dk_at dksX0_holdsFor_3 5 rfl rfl)
theorem dX0_holdsFor_77 : decode cX0_holdsFor 77 = .ok (.aload_n 0, 1) := dk_42 (dk_at dksX0_holdsFor_3 6 rfl rfl)
theorem dX0_holdsFor_78 : decode cX0_holdsFor 78 = .ok (.getfield 70, 3) := dk_180 0 70 (dk_at dksX0_holdsFor_3 7 rfl rfl)
theorem dX0_holdsFor_81 : decode cX0_holdsFor 81 = .ok (.iload_n 3, 1) := dk_29 (dk_at dksX0_holdsFor_3 10 rfl rfl)
theorem dX0_holdsFor_82 : decode cX0_holdsFor 82 = .ok (.iaload, 1) := dk_46 (dk_at dksX0_holdsFor_3 11 rfl rfl)
theorem dX0_holdsFor_83 : decode cX0_holdsFor 83 = .ok (.iastore, 1) := dk_79 (dk_at dksX0_holdsFor_3 12 rfl rfl)
theorem dX0_holdsFor_84 : decode cX0_holdsFor 84 = .ok (.aload_n 0, 1) := dk_42 (dk_at dksX0_holdsFor_3 13 rfl rfl)
theorem dX0_holdsFor_85 : decode cX0_holdsFor 85 = .ok (.getfield 80, 3) := dk_180 0 80 (dk_at dksX0_holdsFor_3 14 rfl rfl)
theorem dX0_holdsFor_88 : decode cX0_holdsFor 88 = .ok (.iconst 3, 1) := dk_6 (dk_at dksX0_holdsFor_3 17 rfl rfl)
theorem dX0_holdsFor_89 : decode cX0_holdsFor 89 = .ok (.aload_n 0, 1) := dk_42 (dk_at dksX0_holdsFor_3 18 rfl rfl)
theorem dX0_holdsFor_90 : decode cX0_holdsFor 90 = .ok (.getfield 66, 3) := dk_180 0 66 (dk_at dksX0_holdsFor_3 19 rfl rfl)
theorem dX0_holdsFor_93 : decode cX0_holdsFor 93 = .ok (.iload_n 3, 1) := dk_29 (dk_at dksX0_holdsFor_3 22 rfl rfl)
theorem dX0_holdsFor_94 : decode cX0_holdsFor 94 = .ok (.aaload, 1) := dk_50 (dk_at dksX0_holdsFor_3 23 rfl rfl)
theorem dX0_holdsFor_95 : decode cX0_holdsFor 95 = .ok (.getfield 1, 3) := dk_180 0 1 (dk_at dksX0_holdsFor_4 0 rfl rfl)
theorem dX0_holdsFor_98 : decode cX0_holdsFor 98 = .ok (.iastore, 1) := dk_79 (dk_at dksX0_holdsFor_4 3 rfl rfl)
theorem dX0_holdsFor_99 : decode cX0_holdsFor 99 = .ok (.aload_n 0, 1) := dk_42 (dk_at dksX0_holdsFor_4 4 rfl rfl)
theorem dX0_holdsFor_100 : decode cX0_holdsFor 100 = .ok (.getfield 80, 3) := dk_180 0 80 (dk_at dksX0_holdsFor_4 5 rfl rfl)
theorem dX0_holdsFor_103 : decode cX0_holdsFor 103 = .ok (.iconst 4, 1) := dk_7 (dk_at dksX0_holdsFor_4 8 rfl rfl)
theorem dX0_holdsFor_104 : decode cX0_holdsFor 104 = .ok (.iload_n 1, 1) := dk_27 (dk_at dksX0_holdsFor_4 9 rfl rfl)
theorem dX0_holdsFor_105 : decode cX0_holdsFor 105 = .ok (.iload_n 2, 1) := dk_28 (dk_at dksX0_holdsFor_4 10 rfl rfl)
theorem dX0_holdsFor_106 : decode cX0_holdsFor 106 = .ok (.if_icmp .ne 7, 3) := dk_160 0 7 (dk_at dksX0_holdsFor_4 11 rfl rfl)
theorem dX0_holdsFor_109 : decode cX0_holdsFor 109 = .ok (.iconst 1, 1) := dk_4 (dk_at dksX0_holdsFor_4 14 rfl rfl)
theorem dX0_holdsFor_110 : decode cX0_holdsFor 110 = .ok (.goto 4, 3) := dk_167 0 4 (dk_at dksX0_holdsFor_4 15 rfl rfl)
theorem dX0_holdsFor_113 : decode cX0_holdsFor 113 = .ok (.iconst 0, 1) := dk_3 (dk_at dksX0_holdsFor_4 18 rfl rfl)
theorem dX0_holdsFor_114 : decode cX0_holdsFor 114 = .ok (.invokestatic 223, 3) := dk_184 0 223 (dk_at dksX0_holdsFor_4 19 rfl rfl)
theorem dX0_holdsFor_117 : decode cX0_holdsFor 117 = .ok (.iastore, 1) := dk_79 (dk_at dksX0_holdsFor_4 22 rfl rfl)
theorem dX0_holdsFor_118 : decode cX0_holdsFor 118 = .ok (.aload_n 0, 1) := dk_42 (dk_at dksX0_holdsFor_4 23 rfl rfl)
theorem dX0_holdsFor_119 : decode cX0_holdsFor 119 = .ok (.getfield 80, 3) := dk_180 0 80 (dk_at dksX0_holdsFor_5 0 rfl rfl)
theorem dX0_holdsFor_122 : decode cX0_holdsFor 122 = .ok (.iconst 5, 1) := dk_8 (dk_at dksX0_holdsFor_5 3 rfl rfl)
theorem dX0_holdsFor_123 : decode cX0_holdsFor 123 = .ok (.iload_n 3, 1) := dk_29 (dk_at dksX0_holdsFor_5 4 rfl rfl)
theorem dX0_holdsFor_124 : decode cX0_holdsFor 124 = .ok (.iastore, 1) := dk_79 (dk_at dksX0_holdsFor_5 5 rfl rfl)
theorem dX0_holdsFor_125 : decode cX0_holdsFor 125 = .ok (.aload_n 0, 1) := dk_42 (dk_at dksX0_holdsFor_5 6 rfl rfl)
theorem dX0_holdsFor_126 : decode cX0_holdsFor 126 = .ok (.invokevirtual 336, 3) := dk_182 1 80 (dk_at dksX0_holdsFor_5 7 rfl rfl)
theorem dX0_holdsFor_129 : decode cX0_holdsFor 129 = .ok (.ireturn, 1) := dk_172 (dk_at dksX0_holdsFor_5 10 rfl rfl)
abbrev cX0_ruled : ByteArray := prog_1_method_44_code
def yX0_ruled : MethodName := ⟨RX0, "ruled", "()Z"⟩
def dkwX0_ruled_2 : List UInt8 := [180, 1, 60, 76, 167, 255, 211, 3, 172]
abbrev dktX0_ruled_2 : List UInt8 := dkwX0_ruled_2 ++ []
def dkwX0_ruled_1 : List UInt8 := [154, 0, 6, 167, 0, 19, 43, 180, 1, 49, 182, 1, 70, 153, 0, 7, 4, 167, 0, 4, 3, 172, 43]
abbrev dktX0_ruled_1 : List UInt8 := dkwX0_ruled_1 ++ dktX0_ruled_2
def dkwX0_ruled_0 : List UInt8 := [42, 180, 1, 67, 76, 43, 198, 0, 47, 43, 180, 1, 53, 198, 0, 16, 43, 180, 1, 53, 182, 1, 70]
abbrev dktX0_ruled_0 : List UInt8 := dkwX0_ruled_0 ++ dktX0_ruled_1
theorem dksX0_ruled_0 : cX0_ruled.data.toList.drop 0 = dktX0_ruled_0 := by decide +kernel
theorem dksX0_ruled_1 : cX0_ruled.data.toList.drop 23 = dktX0_ruled_1 := dk_seg dksX0_ruled_0 23 rfl rfl
theorem dksX0_ruled_2 : cX0_ruled.data.toList.drop 46 = dktX0_ruled_2 := dk_seg dksX0_ruled_1 23 rfl rfl
theorem dX0_ruled_0 : decode cX0_ruled 0 = .ok (.aload_n 0, 1) := dk_42 (dk_at dksX0_ruled_0 0 rfl rfl)
theorem dX0_ruled_1 : decode cX0_ruled 1 = .ok (.getfield 323, 3) := dk_180 1 67 (dk_at dksX0_ruled_0 1 rfl rfl)
theorem dX0_ruled_4 : decode cX0_ruled 4 = .ok (.astore_n 1, 1) := dk_76 (dk_at dksX0_ruled_0 4 rfl rfl)
theorem dX0_ruled_5 : decode cX0_ruled 5 = .ok (.aload_n 1, 1) := dk_43 (dk_at dksX0_ruled_0 5 rfl rfl)
theorem dX0_ruled_6 : decode cX0_ruled 6 = .ok (.ifnull 47, 3) := dk_198 0 47 (dk_at dksX0_ruled_0 6 rfl rfl)
theorem dX0_ruled_9 : decode cX0_ruled 9 = .ok (.aload_n 1, 1) := dk_43 (dk_at dksX0_ruled_0 9 rfl rfl)
theorem dX0_ruled_10 : decode cX0_ruled 10 = .ok (.getfield 309, 3) := dk_180 1 53 (dk_at dksX0_ruled_0 10 rfl rfl)
theorem dX0_ruled_13 : decode cX0_ruled 13 = .ok (.ifnull 16, 3) := dk_198 0 16 (dk_at dksX0_ruled_0 13 rfl rfl)
theorem dX0_ruled_16 : decode cX0_ruled 16 = .ok (.aload_n 1, 1) := dk_43 (dk_at dksX0_ruled_0 16 rfl rfl)
theorem dX0_ruled_17 : decode cX0_ruled 17 = .ok (.getfield 309, 3) := dk_180 1 53 (dk_at dksX0_ruled_0 17 rfl rfl)
theorem dX0_ruled_20 : decode cX0_ruled 20 = .ok (.invokevirtual 326, 3) := dk_182 1 70 (dk_at dksX0_ruled_0 20 rfl rfl)
theorem dX0_ruled_23 : decode cX0_ruled 23 = .ok (.ifCond .ne 6, 3) := dk_154 0 6 (dk_at dksX0_ruled_1 0 rfl rfl)
theorem dX0_ruled_26 : decode cX0_ruled 26 = .ok (.goto 19, 3) := dk_167 0 19 (dk_at dksX0_ruled_1 3 rfl rfl)
theorem dX0_ruled_29 : decode cX0_ruled 29 = .ok (.aload_n 1, 1) := dk_43 (dk_at dksX0_ruled_1 6 rfl rfl)
theorem dX0_ruled_30 : decode cX0_ruled 30 = .ok (.getfield 305, 3) := dk_180 1 49 (dk_at dksX0_ruled_1 7 rfl rfl)
theorem dX0_ruled_33 : decode cX0_ruled 33 = .ok (.invokevirtual 326, 3) := dk_182 1 70 (dk_at dksX0_ruled_1 10 rfl rfl)
theorem dX0_ruled_36 : decode cX0_ruled 36 = .ok (.ifCond .eq 7, 3) := dk_153 0 7 (dk_at dksX0_ruled_1 13 rfl rfl)
theorem dX0_ruled_39 : decode cX0_ruled 39 = .ok (.iconst 1, 1) := dk_4 (dk_at dksX0_ruled_1 16 rfl rfl)
theorem dX0_ruled_40 : decode cX0_ruled 40 = .ok (.goto 4, 3) := dk_167 0 4 (dk_at dksX0_ruled_1 17 rfl rfl)
theorem dX0_ruled_43 : decode cX0_ruled 43 = .ok (.iconst 0, 1) := dk_3 (dk_at dksX0_ruled_1 20 rfl rfl)
theorem dX0_ruled_44 : decode cX0_ruled 44 = .ok (.ireturn, 1) := dk_172 (dk_at dksX0_ruled_1 21 rfl rfl)
theorem dX0_ruled_45 : decode cX0_ruled 45 = .ok (.aload_n 1, 1) := dk_43 (dk_at dksX0_ruled_1 22 rfl rfl)
theorem dX0_ruled_46 : decode cX0_ruled 46 = .ok (.getfield 316, 3) := dk_180 1 60 (dk_at dksX0_ruled_2 0 rfl rfl)
theorem dX0_ruled_49 : decode cX0_ruled 49 = .ok (.astore_n 1, 1) := dk_76 (dk_at dksX0_ruled_2 3 rfl rfl)
theorem dX0_ruled_50 : decode cX0_ruled 50 = .ok (.goto (-45), 3) := dk_167 255 211 (dk_at dksX0_ruled_2 4 rfl rfl)
theorem dX0_ruled_53 : decode cX0_ruled 53 = .ok (.iconst 0, 1) := dk_3 (dk_at dksX0_ruled_2 7 rfl rfl)
theorem dX0_ruled_54 : decode cX0_ruled 54 = .ok (.ireturn, 1) := dk_172 (dk_at dksX0_ruled_2 8 rfl rfl)
abbrev cX0_free : ByteArray := prog_1_method_56_code
def yX0_free : MethodName := ⟨RX0, "free", "(I)I"⟩
def dkwX0_free_0 : List UInt8 := [27, 184, 0, 144, 154, 0, 5, 2, 172, 42, 182, 1, 105, 42, 27, 182, 1, 111, 172]
abbrev dktX0_free_0 : List UInt8 := dkwX0_free_0 ++ []
theorem dksX0_free_0 : cX0_free.data.toList.drop 0 = dktX0_free_0 := by decide +kernel
theorem dX0_free_0 : decode cX0_free 0 = .ok (.iload_n 1, 1) := dk_27 (dk_at dksX0_free_0 0 rfl rfl)
theorem dX0_free_1 : decode cX0_free 1 = .ok (.invokestatic 144, 3) := dk_184 0 144 (dk_at dksX0_free_0 1 rfl rfl)
theorem dX0_free_4 : decode cX0_free 4 = .ok (.ifCond .ne 5, 3) := dk_154 0 5 (dk_at dksX0_free_0 4 rfl rfl)
theorem dX0_free_7 : decode cX0_free 7 = .ok (.iconst (-1), 1) := dk_2 (dk_at dksX0_free_0 7 rfl rfl)
theorem dX0_free_8 : decode cX0_free 8 = .ok (.ireturn, 1) := dk_172 (dk_at dksX0_free_0 8 rfl rfl)
theorem dX0_free_9 : decode cX0_free 9 = .ok (.aload_n 0, 1) := dk_42 (dk_at dksX0_free_0 9 rfl rfl)
theorem dX0_free_10 : decode cX0_free 10 = .ok (.invokevirtual 361, 3) := dk_182 1 105 (dk_at dksX0_free_0 10 rfl rfl)
theorem dX0_free_13 : decode cX0_free 13 = .ok (.aload_n 0, 1) := dk_42 (dk_at dksX0_free_0 13 rfl rfl)
theorem dX0_free_14 : decode cX0_free 14 = .ok (.iload_n 1, 1) := dk_27 (dk_at dksX0_free_0 14 rfl rfl)
theorem dX0_free_15 : decode cX0_free 15 = .ok (.invokevirtual 367, 3) := dk_182 1 111 (dk_at dksX0_free_0 15 rfl rfl)
theorem dX0_free_18 : decode cX0_free 18 = .ok (.ireturn, 1) := dk_172 (dk_at dksX0_free_0 18 rfl rfl)
abbrev cX0_freeIn : ByteArray := prog_1_method_55_code
def yX0_freeIn : MethodName := ⟨RX0, "freeIn", "(I)I"⟩
def dkwX0_freeIn_1 : List UInt8 := [154, 0, 7, 4, 167, 0, 4, 3, 184, 0, 223, 29, 120, 128, 61, 132, 3, 1, 167, 255, 225, 28, 172]
abbrev dktX0_freeIn_1 : List UInt8 := dkwX0_freeIn_1 ++ []
def dkwX0_freeIn_0 : List UInt8 := [42, 27, 3, 182, 1, 86, 3, 61, 3, 62, 29, 16, 12, 162, 0, 31, 28, 42, 29, 27, 182, 1, 102]
abbrev dktX0_freeIn_0 : List UInt8 := dkwX0_freeIn_0 ++ dktX0_freeIn_1
theorem dksX0_freeIn_0 : cX0_freeIn.data.toList.drop 0 = dktX0_freeIn_0 := by decide +kernel
theorem dksX0_freeIn_1 : cX0_freeIn.data.toList.drop 23 = dktX0_freeIn_1 := dk_seg dksX0_freeIn_0 23 rfl rfl
theorem dX0_freeIn_0 : decode cX0_freeIn 0 = .ok (.aload_n 0, 1) := dk_42 (dk_at dksX0_freeIn_0 0 rfl rfl)
theorem dX0_freeIn_1 : decode cX0_freeIn 1 = .ok (.iload_n 1, 1) := dk_27 (dk_at dksX0_freeIn_0 1 rfl rfl)
theorem dX0_freeIn_2 : decode cX0_freeIn 2 = .ok (.iconst 0, 1) := dk_3 (dk_at dksX0_freeIn_0 2 rfl rfl)
theorem dX0_freeIn_3 : decode cX0_freeIn 3 = .ok (.invokevirtual 342, 3) := dk_182 1 86 (dk_at dksX0_freeIn_0 3 rfl rfl)
theorem dX0_freeIn_6 : decode cX0_freeIn 6 = .ok (.iconst 0, 1) := dk_3 (dk_at dksX0_freeIn_0 6 rfl rfl)
theorem dX0_freeIn_7 : decode cX0_freeIn 7 = .ok (.istore_n 2, 1) := dk_61 (dk_at dksX0_freeIn_0 7 rfl rfl)
theorem dX0_freeIn_8 : decode cX0_freeIn 8 = .ok (.iconst 0, 1) := dk_3 (dk_at dksX0_freeIn_0 8 rfl rfl)
theorem dX0_freeIn_9 : decode cX0_freeIn 9 = .ok (.istore_n 3, 1) := dk_62 (dk_at dksX0_freeIn_0 9 rfl rfl)
theorem dX0_freeIn_10 : decode cX0_freeIn 10 = .ok (.iload_n 3, 1) := dk_29 (dk_at dksX0_freeIn_0 10 rfl rfl)
theorem dX0_freeIn_11 : decode cX0_freeIn 11 = .ok (.bipush 12, 2) := dk_16 12 (dk_at dksX0_freeIn_0 11 rfl rfl)
theorem dX0_freeIn_13 : decode cX0_freeIn 13 = .ok (.if_icmp .ge 31, 3) := dk_162 0 31 (dk_at dksX0_freeIn_0 13 rfl rfl)
theorem dX0_freeIn_16 : decode cX0_freeIn 16 = .ok (.iload_n 2, 1) := dk_28 (dk_at dksX0_freeIn_0 16 rfl rfl)
theorem dX0_freeIn_17 : decode cX0_freeIn 17 = .ok (.aload_n 0, 1) := dk_42 (dk_at dksX0_freeIn_0 17 rfl rfl)
theorem dX0_freeIn_18 : decode cX0_freeIn 18 = .ok (.iload_n 3, 1) := dk_29 (dk_at dksX0_freeIn_0 18 rfl rfl)
theorem dX0_freeIn_19 : decode cX0_freeIn 19 = .ok (.iload_n 1, 1) := dk_27 (dk_at dksX0_freeIn_0 19 rfl rfl)
theorem dX0_freeIn_20 : decode cX0_freeIn 20 = .ok (.invokevirtual 358, 3) := dk_182 1 102 (dk_at dksX0_freeIn_0 20 rfl rfl)
theorem dX0_freeIn_23 : decode cX0_freeIn 23 = .ok (.ifCond .ne 7, 3) := dk_154 0 7 (dk_at dksX0_freeIn_1 0 rfl rfl)
theorem dX0_freeIn_26 : decode cX0_freeIn 26 = .ok (.iconst 1, 1) := dk_4 (dk_at dksX0_freeIn_1 3 rfl rfl)
theorem dX0_freeIn_27 : decode cX0_freeIn 27 = .ok (.goto 4, 3) := dk_167 0 4 (dk_at dksX0_freeIn_1 4 rfl rfl)
theorem dX0_freeIn_30 : decode cX0_freeIn 30 = .ok (.iconst 0, 1) := dk_3 (dk_at dksX0_freeIn_1 7 rfl rfl)
theorem dX0_freeIn_31 : decode cX0_freeIn 31 = .ok (.invokestatic 223, 3) := dk_184 0 223 (dk_at dksX0_freeIn_1 8 rfl rfl)
theorem dX0_freeIn_34 : decode cX0_freeIn 34 = .ok (.iload_n 3, 1) := dk_29 (dk_at dksX0_freeIn_1 11 rfl rfl)
theorem dX0_freeIn_35 : decode cX0_freeIn 35 = .ok (.ishl, 1) := dk_120 (dk_at dksX0_freeIn_1 12 rfl rfl)
theorem dX0_freeIn_36 : decode cX0_freeIn 36 = .ok (.ior, 1) := dk_128 (dk_at dksX0_freeIn_1 13 rfl rfl)
theorem dX0_freeIn_37 : decode cX0_freeIn 37 = .ok (.istore_n 2, 1) := dk_61 (dk_at dksX0_freeIn_1 14 rfl rfl)
theorem dX0_freeIn_38 : decode cX0_freeIn 38 = .ok (.iinc 3 1, 3) := dk_132 3 1 (dk_at dksX0_freeIn_1 15 rfl rfl)
theorem dX0_freeIn_41 : decode cX0_freeIn 41 = .ok (.goto (-31), 3) := dk_167 255 225 (dk_at dksX0_freeIn_1 18 rfl rfl)
theorem dX0_freeIn_44 : decode cX0_freeIn 44 = .ok (.iload_n 2, 1) := dk_28 (dk_at dksX0_freeIn_1 21 rfl rfl)
theorem dX0_freeIn_45 : decode cX0_freeIn 45 = .ok (.ireturn, 1) := dk_172 (dk_at dksX0_freeIn_1 22 rfl rfl)
abbrev cX0_most : ByteArray := prog_1_method_57_code
def yX0_most : MethodName := ⟨RX0, "most", "(I)I"⟩
def dkwX0_most_3 : List UInt8 := [167, 0, 4, 28, 172]
abbrev dktX0_most_3 : List UInt8 := dkwX0_most_3 ++ []
def dkwX0_most_2 : List UInt8 := [163, 0, 6, 167, 0, 9, 21, 4, 61, 21, 5, 62, 132, 4, 1, 167, 255, 217, 27, 154, 0, 7, 29]
abbrev dktX0_most_2 : List UInt8 := dkwX0_most_2 ++ dktX0_most_3
def dkwX0_most_1 : List UInt8 := [21, 4, 16, 100, 162, 0, 38, 16, 12, 42, 21, 4, 182, 1, 111, 184, 1, 114, 100, 54, 5, 21, 5, 29]
abbrev dktX0_most_1 : List UInt8 := dkwX0_most_1 ++ dktX0_most_2
def dkwX0_most_0 : List UInt8 := [27, 133, 9, 10, 184, 0, 112, 154, 0, 5, 2, 172, 42, 182, 1, 105, 3, 61, 3, 62, 3, 54, 4]
abbrev dktX0_most_0 : List UInt8 := dkwX0_most_0 ++ dktX0_most_1
theorem dksX0_most_0 : cX0_most.data.toList.drop 0 = dktX0_most_0 := by decide +kernel
theorem dksX0_most_1 : cX0_most.data.toList.drop 23 = dktX0_most_1 := dk_seg dksX0_most_0 23 rfl rfl
theorem dksX0_most_2 : cX0_most.data.toList.drop 47 = dktX0_most_2 := dk_seg dksX0_most_1 24 rfl rfl
theorem dksX0_most_3 : cX0_most.data.toList.drop 70 = dktX0_most_3 := dk_seg dksX0_most_2 23 rfl rfl
theorem dX0_most_0 : decode cX0_most 0 = .ok (.iload_n 1, 1) := dk_27 (dk_at dksX0_most_0 0 rfl rfl)
theorem dX0_most_1 : decode cX0_most 1 = .ok (.i2l, 1) := dk_133 (dk_at dksX0_most_0 1 rfl rfl)
theorem dX0_most_2 : decode cX0_most 2 = .ok (.lconst 0, 1) := dk_9 (dk_at dksX0_most_0 2 rfl rfl)
theorem dX0_most_3 : decode cX0_most 3 = .ok (.lconst 1, 1) := dk_10 (dk_at dksX0_most_0 3 rfl rfl)
theorem dX0_most_4 : decode cX0_most 4 = .ok (.invokestatic 112, 3) := dk_184 0 112 (dk_at dksX0_most_0 4 rfl rfl)
theorem dX0_most_7 : decode cX0_most 7 = .ok (.ifCond .ne 5, 3) := dk_154 0 5 (dk_at dksX0_most_0 7 rfl rfl)
theorem dX0_most_10 : decode cX0_most 10 = .ok (.iconst (-1), 1) := dk_2 (dk_at dksX0_most_0 10 rfl rfl)
theorem dX0_most_11 : decode cX0_most 11 = .ok (.ireturn, 1) := dk_172 (dk_at dksX0_most_0 11 rfl rfl)
theorem dX0_most_12 : decode cX0_most 12 = .ok (.aload_n 0, 1) := dk_42 (dk_at dksX0_most_0 12 rfl rfl)
theorem dX0_most_13 : decode cX0_most 13 = .ok (.invokevirtual 361, 3) := dk_182 1 105 (dk_at dksX0_most_0 13 rfl rfl)
theorem dX0_most_16 : decode cX0_most 16 = .ok (.iconst 0, 1) := dk_3 (dk_at dksX0_most_0 16 rfl rfl)
theorem dX0_most_17 : decode cX0_most 17 = .ok (.istore_n 2, 1) := dk_61 (dk_at dksX0_most_0 17 rfl rfl)
theorem dX0_most_18 : decode cX0_most 18 = .ok (.iconst 0, 1) := dk_3 (dk_at dksX0_most_0 18 rfl rfl)
theorem dX0_most_19 : decode cX0_most 19 = .ok (.istore_n 3, 1) := dk_62 (dk_at dksX0_most_0 19 rfl rfl)
theorem dX0_most_20 : decode cX0_most 20 = .ok (.iconst 0, 1) := dk_3 (dk_at dksX0_most_0 20 rfl rfl)
theorem dX0_most_21 : decode cX0_most 21 = .ok (.istore 4, 2) := dk_54 4 (dk_at dksX0_most_0 21 rfl rfl)
theorem dX0_most_23 : decode cX0_most 23 = .ok (.iload 4, 2) := dk_21 4 (dk_at dksX0_most_1 0 rfl rfl)
theorem dX0_most_25 : decode cX0_most 25 = .ok (.bipush 100, 2) := dk_16 100 (dk_at dksX0_most_1 2 rfl rfl)
theorem dX0_most_27 : decode cX0_most 27 = .ok (.if_icmp .ge 38, 3) := dk_162 0 38 (dk_at dksX0_most_1 4 rfl rfl)
theorem dX0_most_30 : decode cX0_most 30 = .ok (.bipush 12, 2) := dk_16 12 (dk_at dksX0_most_1 7 rfl rfl)
theorem dX0_most_32 : decode cX0_most 32 = .ok (.aload_n 0, 1) := dk_42 (dk_at dksX0_most_1 9 rfl rfl)
theorem dX0_most_33 : decode cX0_most 33 = .ok (.iload 4, 2) := dk_21 4 (dk_at dksX0_most_1 10 rfl rfl)
theorem dX0_most_35 : decode cX0_most 35 = .ok (.invokevirtual 367, 3) := dk_182 1 111 (dk_at dksX0_most_1 12 rfl rfl)
theorem dX0_most_38 : decode cX0_most 38 = .ok (.invokestatic 370, 3) := dk_184 1 114 (dk_at dksX0_most_1 15 rfl rfl)
theorem dX0_most_41 : decode cX0_most 41 = .ok (.isub, 1) := dk_100 (dk_at dksX0_most_1 18 rfl rfl)
theorem dX0_most_42 : decode cX0_most 42 = .ok (.istore 5, 2) := dk_54 5 (dk_at dksX0_most_1 19 rfl rfl)
theorem dX0_most_44 : decode cX0_most 44 = .ok (.iload 5, 2) := dk_21 5 (dk_at dksX0_most_1 21 rfl rfl)
theorem dX0_most_46 : decode cX0_most 46 = .ok (.iload_n 3, 1) := dk_29 (dk_at dksX0_most_1 23 rfl rfl)
theorem dX0_most_47 : decode cX0_most 47 = .ok (.if_icmp .gt 6, 3) := dk_163 0 6 (dk_at dksX0_most_2 0 rfl rfl)
theorem dX0_most_50 : decode cX0_most 50 = .ok (.goto 9, 3) := dk_167 0 9 (dk_at dksX0_most_2 3 rfl rfl)
theorem dX0_most_53 : decode cX0_most 53 = .ok (.iload 4, 2) := dk_21 4 (dk_at dksX0_most_2 6 rfl rfl)
theorem dX0_most_55 : decode cX0_most 55 = .ok (.istore_n 2, 1) := dk_61 (dk_at dksX0_most_2 8 rfl rfl)
theorem dX0_most_56 : decode cX0_most 56 = .ok (.iload 5, 2) := dk_21 5 (dk_at dksX0_most_2 9 rfl rfl)
theorem dX0_most_58 : decode cX0_most 58 = .ok (.istore_n 3, 1) := dk_62 (dk_at dksX0_most_2 11 rfl rfl)
theorem dX0_most_59 : decode cX0_most 59 = .ok (.iinc 4 1, 3) := dk_132 4 1 (dk_at dksX0_most_2 12 rfl rfl)
theorem dX0_most_62 : decode cX0_most 62 = .ok (.goto (-39), 3) := dk_167 255 217 (dk_at dksX0_most_2 15 rfl rfl)
theorem dX0_most_65 : decode cX0_most 65 = .ok (.iload_n 1, 1) := dk_27 (dk_at dksX0_most_2 18 rfl rfl)
theorem dX0_most_66 : decode cX0_most 66 = .ok (.ifCond .ne 7, 3) := dk_154 0 7 (dk_at dksX0_most_2 19 rfl rfl)
theorem dX0_most_69 : decode cX0_most 69 = .ok (.iload_n 3, 1) := dk_29 (dk_at dksX0_most_2 22 rfl rfl)
theorem dX0_most_70 : decode cX0_most 70 = .ok (.goto 4, 3) := dk_167 0 4 (dk_at dksX0_most_3 0 rfl rfl)
theorem dX0_most_73 : decode cX0_most 73 = .ok (.iload_n 2, 1) := dk_28 (dk_at dksX0_most_3 3 rfl rfl)
theorem dX0_most_74 : decode cX0_most 74 = .ok (.ireturn, 1) := dk_172 (dk_at dksX0_most_3 4 rfl rfl)
abbrev cX0_ones : ByteArray := prog_1_method_3_code
def yX0_ones : MethodName := ⟨RX0, "ones", "(I)I"⟩
def dkwX0_ones_0 : List UInt8 := [3, 60, 26, 61, 28, 153, 0, 15, 132, 1, 1, 28, 28, 4, 100, 126, 61, 167, 255, 243, 27, 172]
abbrev dktX0_ones_0 : List UInt8 := dkwX0_ones_0 ++ []
theorem dksX0_ones_0 : cX0_ones.data.toList.drop 0 = dktX0_ones_0 := by decide +kernel
theorem dX0_ones_0 : decode cX0_ones 0 = .ok (.iconst 0, 1) := dk_3 (dk_at dksX0_ones_0 0 rfl rfl)
theorem dX0_ones_1 : decode cX0_ones 1 = .ok (.istore_n 1, 1) := dk_60 (dk_at dksX0_ones_0 1 rfl rfl)
theorem dX0_ones_2 : decode cX0_ones 2 = .ok (.iload_n 0, 1) := dk_26 (dk_at dksX0_ones_0 2 rfl rfl)
theorem dX0_ones_3 : decode cX0_ones 3 = .ok (.istore_n 2, 1) := dk_61 (dk_at dksX0_ones_0 3 rfl rfl)
theorem dX0_ones_4 : decode cX0_ones 4 = .ok (.iload_n 2, 1) := dk_28 (dk_at dksX0_ones_0 4 rfl rfl)
theorem dX0_ones_5 : decode cX0_ones 5 = .ok (.ifCond .eq 15, 3) := dk_153 0 15 (dk_at dksX0_ones_0 5 rfl rfl)
theorem dX0_ones_8 : decode cX0_ones 8 = .ok (.iinc 1 1, 3) := dk_132 1 1 (dk_at dksX0_ones_0 8 rfl rfl)
theorem dX0_ones_11 : decode cX0_ones 11 = .ok (.iload_n 2, 1) := dk_28 (dk_at dksX0_ones_0 11 rfl rfl)
theorem dX0_ones_12 : decode cX0_ones 12 = .ok (.iload_n 2, 1) := dk_28 (dk_at dksX0_ones_0 12 rfl rfl)
theorem dX0_ones_13 : decode cX0_ones 13 = .ok (.iconst 1, 1) := dk_4 (dk_at dksX0_ones_0 13 rfl rfl)
theorem dX0_ones_14 : decode cX0_ones 14 = .ok (.isub, 1) := dk_100 (dk_at dksX0_ones_0 14 rfl rfl)
theorem dX0_ones_15 : decode cX0_ones 15 = .ok (.iand, 1) := dk_126 (dk_at dksX0_ones_0 15 rfl rfl)
theorem dX0_ones_16 : decode cX0_ones 16 = .ok (.istore_n 2, 1) := dk_61 (dk_at dksX0_ones_0 16 rfl rfl)
theorem dX0_ones_17 : decode cX0_ones 17 = .ok (.goto (-13), 3) := dk_167 255 243 (dk_at dksX0_ones_0 17 rfl rfl)
theorem dX0_ones_20 : decode cX0_ones 20 = .ok (.iload_n 1, 1) := dk_27 (dk_at dksX0_ones_0 20 rfl rfl)
theorem dX0_ones_21 : decode cX0_ones 21 = .ok (.ireturn, 1) := dk_172 (dk_at dksX0_ones_0 21 rfl rfl)
abbrev cX0_judge : ByteArray := prog_1_method_60_code
def yX0_judge : MethodName := ⟨RX0, "judge", "()I"⟩
def dkwX0_judge_3 : List UInt8 := [180, 0, 185, 79, 132, 1, 1, 167, 255, 185, 16, 254, 172]
abbrev dktX0_judge_3 : List UInt8 := dkwX0_judge_3 ++ []
def dkwX0_judge_2 : List UInt8 := [184, 1, 83, 154, 0, 10, 42, 180, 0, 54, 27, 46, 172, 42, 180, 0, 86, 42, 180, 0, 54, 27, 46, 44]
abbrev dktX0_judge_2 : List UInt8 := dkwX0_judge_2 ++ dktX0_judge_3
def dkwX0_judge_1 : List UInt8 := [50, 77, 44, 180, 0, 185, 2, 159, 0, 28, 42, 44, 180, 0, 149, 182, 1, 111, 44, 180, 0, 185]
abbrev dktX0_judge_1 : List UInt8 := dkwX0_judge_1 ++ dktX0_judge_2
def dkwX0_judge_0 : List UInt8 := [42, 182, 1, 117, 3, 60, 27, 42, 180, 0, 134, 162, 0, 69, 42, 180, 0, 50, 42, 180, 0, 54, 27, 46]
abbrev dktX0_judge_0 : List UInt8 := dkwX0_judge_0 ++ dktX0_judge_1
theorem dksX0_judge_0 : cX0_judge.data.toList.drop 0 = dktX0_judge_0 := by decide +kernel
theorem dksX0_judge_1 : cX0_judge.data.toList.drop 24 = dktX0_judge_1 := dk_seg dksX0_judge_0 24 rfl rfl
theorem dksX0_judge_2 : cX0_judge.data.toList.drop 46 = dktX0_judge_2 := dk_seg dksX0_judge_1 22 rfl rfl
theorem dksX0_judge_3 : cX0_judge.data.toList.drop 70 = dktX0_judge_3 := dk_seg dksX0_judge_2 24 rfl rfl
theorem dX0_judge_0 : decode cX0_judge 0 = .ok (.aload_n 0, 1) := dk_42 (dk_at dksX0_judge_0 0 rfl rfl)
theorem dX0_judge_1 : decode cX0_judge 1 = .ok (.invokevirtual 373, 3) := dk_182 1 117 (dk_at dksX0_judge_0 1 rfl rfl)
theorem dX0_judge_4 : decode cX0_judge 4 = .ok (.iconst 0, 1) := dk_3 (dk_at dksX0_judge_0 4 rfl rfl)
theorem dX0_judge_5 : decode cX0_judge 5 = .ok (.istore_n 1, 1) := dk_60 (dk_at dksX0_judge_0 5 rfl rfl)
theorem dX0_judge_6 : decode cX0_judge 6 = .ok (.iload_n 1, 1) := dk_27 (dk_at dksX0_judge_0 6 rfl rfl)
theorem dX0_judge_7 : decode cX0_judge 7 = .ok (.aload_n 0, 1) := dk_42 (dk_at dksX0_judge_0 7 rfl rfl)
theorem dX0_judge_8 : decode cX0_judge 8 = .ok (.getfield 134, 3) := dk_180 0 134 (dk_at dksX0_judge_0 8 rfl rfl)
theorem dX0_judge_11 : decode cX0_judge 11 = .ok (.if_icmp .ge 69, 3) := dk_162 0 69 (dk_at dksX0_judge_0 11 rfl rfl)
theorem dX0_judge_14 : decode cX0_judge 14 = .ok (.aload_n 0, 1) := dk_42 (dk_at dksX0_judge_0 14 rfl rfl)
theorem dX0_judge_15 : decode cX0_judge 15 = .ok (.getfield 50, 3) := dk_180 0 50 (dk_at dksX0_judge_0 15 rfl rfl)
theorem dX0_judge_18 : decode cX0_judge 18 = .ok (.aload_n 0, 1) := dk_42 (dk_at dksX0_judge_0 18 rfl rfl)
theorem dX0_judge_19 : decode cX0_judge 19 = .ok (.getfield 54, 3) := dk_180 0 54 (dk_at dksX0_judge_0 19 rfl rfl)
theorem dX0_judge_22 : decode cX0_judge 22 = .ok (.iload_n 1, 1) := dk_27 (dk_at dksX0_judge_0 22 rfl rfl)
theorem dX0_judge_23 : decode cX0_judge 23 = .ok (.iaload, 1) := dk_46 (dk_at dksX0_judge_0 23 rfl rfl)
theorem dX0_judge_24 : decode cX0_judge 24 = .ok (.aaload, 1) := dk_50 (dk_at dksX0_judge_1 0 rfl rfl)
theorem dX0_judge_25 : decode cX0_judge 25 = .ok (.astore_n 2, 1) := dk_77 (dk_at dksX0_judge_1 1 rfl rfl)
theorem dX0_judge_26 : decode cX0_judge 26 = .ok (.aload_n 2, 1) := dk_44 (dk_at dksX0_judge_1 2 rfl rfl)
theorem dX0_judge_27 : decode cX0_judge 27 = .ok (.getfield 185, 3) := dk_180 0 185 (dk_at dksX0_judge_1 3 rfl rfl)
theorem dX0_judge_30 : decode cX0_judge 30 = .ok (.iconst (-1), 1) := dk_2 (dk_at dksX0_judge_1 6 rfl rfl)
theorem dX0_judge_31 : decode cX0_judge 31 = .ok (.if_icmp .eq 28, 3) := dk_159 0 28 (dk_at dksX0_judge_1 7 rfl rfl)
theorem dX0_judge_34 : decode cX0_judge 34 = .ok (.aload_n 0, 1) := dk_42 (dk_at dksX0_judge_1 10 rfl rfl)
theorem dX0_judge_35 : decode cX0_judge 35 = .ok (.aload_n 2, 1) := dk_44 (dk_at dksX0_judge_1 11 rfl rfl)
theorem dX0_judge_36 : decode cX0_judge 36 = .ok (.getfield 149, 3) := dk_180 0 149 (dk_at dksX0_judge_1 12 rfl rfl)
theorem dX0_judge_39 : decode cX0_judge 39 = .ok (.invokevirtual 367, 3) := dk_182 1 111 (dk_at dksX0_judge_1 15 rfl rfl)
theorem dX0_judge_42 : decode cX0_judge 42 = .ok (.aload_n 2, 1) := dk_44 (dk_at dksX0_judge_1 18 rfl rfl)
theorem dX0_judge_43 : decode cX0_judge 43 = .ok (.getfield 185, 3) := dk_180 0 185 (dk_at dksX0_judge_1 19 rfl rfl)
theorem dX0_judge_46 : decode cX0_judge 46 = .ok (.invokestatic 339, 3) := dk_184 1 83 (dk_at dksX0_judge_2 0 rfl rfl)
theorem dX0_judge_49 : decode cX0_judge 49 = .ok (.ifCond .ne 10, 3) := dk_154 0 10 (dk_at dksX0_judge_2 3 rfl rfl)
theorem dX0_judge_52 : decode cX0_judge 52 = .ok (.aload_n 0, 1) := dk_42 (dk_at dksX0_judge_2 6 rfl rfl)
theorem dX0_judge_53 : decode cX0_judge 53 = .ok (.getfield 54, 3) := dk_180 0 54 (dk_at dksX0_judge_2 7 rfl rfl)
theorem dX0_judge_56 : decode cX0_judge 56 = .ok (.iload_n 1, 1) := dk_27 (dk_at dksX0_judge_2 10 rfl rfl)
theorem dX0_judge_57 : decode cX0_judge 57 = .ok (.iaload, 1) := dk_46 (dk_at dksX0_judge_2 11 rfl rfl)
theorem dX0_judge_58 : decode cX0_judge 58 = .ok (.ireturn, 1) := dk_172 (dk_at dksX0_judge_2 12 rfl rfl)
theorem dX0_judge_59 : decode cX0_judge 59 = .ok (.aload_n 0, 1) := dk_42 (dk_at dksX0_judge_2 13 rfl rfl)
theorem dX0_judge_60 : decode cX0_judge 60 = .ok (.getfield 86, 3) := dk_180 0 86 (dk_at dksX0_judge_2 14 rfl rfl)
theorem dX0_judge_63 : decode cX0_judge 63 = .ok (.aload_n 0, 1) := dk_42 (dk_at dksX0_judge_2 17 rfl rfl)
theorem dX0_judge_64 : decode cX0_judge 64 = .ok (.getfield 54, 3) := dk_180 0 54 (dk_at dksX0_judge_2 18 rfl rfl)
theorem dX0_judge_67 : decode cX0_judge 67 = .ok (.iload_n 1, 1) := dk_27 (dk_at dksX0_judge_2 21 rfl rfl)
theorem dX0_judge_68 : decode cX0_judge 68 = .ok (.iaload, 1) := dk_46 (dk_at dksX0_judge_2 22 rfl rfl)
theorem dX0_judge_69 : decode cX0_judge 69 = .ok (.aload_n 2, 1) := dk_44 (dk_at dksX0_judge_2 23 rfl rfl)
theorem dX0_judge_70 : decode cX0_judge 70 = .ok (.getfield 185, 3) := dk_180 0 185 (dk_at dksX0_judge_3 0 rfl rfl)
theorem dX0_judge_73 : decode cX0_judge 73 = .ok (.iastore, 1) := dk_79 (dk_at dksX0_judge_3 3 rfl rfl)
theorem dX0_judge_74 : decode cX0_judge 74 = .ok (.iinc 1 1, 3) := dk_132 1 1 (dk_at dksX0_judge_3 4 rfl rfl)
theorem dX0_judge_77 : decode cX0_judge 77 = .ok (.goto (-71), 3) := dk_167 255 185 (dk_at dksX0_judge_3 7 rfl rfl)
theorem dX0_judge_80 : decode cX0_judge 80 = .ok (.bipush (-2), 2) := dk_16 254 (dk_at dksX0_judge_3 10 rfl rfl)
theorem dX0_judge_82 : decode cX0_judge 82 = .ok (.ireturn, 1) := dk_172 (dk_at dksX0_judge_3 12 rfl rfl)
abbrev cX0_nobodyBears : ByteArray := prog_1_method_58_code
def yX0_nobodyBears : MethodName := ⟨RX0, "nobodyBears", "()V"⟩
def dkwX0_nobodyBears_0 : List UInt8 := [3, 60, 27, 42, 180, 0, 134, 162, 0, 16, 42, 180, 0, 86, 27, 2, 79, 132, 1, 1, 167, 255, 238, 177]
abbrev dktX0_nobodyBears_0 : List UInt8 := dkwX0_nobodyBears_0 ++ []
theorem dksX0_nobodyBears_0 : cX0_nobodyBears.data.toList.drop 0 = dktX0_nobodyBears_0 := by decide +kernel
theorem dX0_nobodyBears_0 : decode cX0_nobodyBears 0 = .ok (.iconst 0, 1) := dk_3 (dk_at dksX0_nobodyBears_0 0 rfl rfl)
theorem dX0_nobodyBears_1 : decode cX0_nobodyBears 1 = .ok (.istore_n 1, 1) := dk_60 (dk_at dksX0_nobodyBears_0 1 rfl rfl)
theorem dX0_nobodyBears_2 : decode cX0_nobodyBears 2 = .ok (.iload_n 1, 1) := dk_27 (dk_at dksX0_nobodyBears_0 2 rfl rfl)
theorem dX0_nobodyBears_3 : decode cX0_nobodyBears 3 = .ok (.aload_n 0, 1) := dk_42 (dk_at dksX0_nobodyBears_0 3 rfl rfl)
theorem dX0_nobodyBears_4 : decode cX0_nobodyBears 4 = .ok (.getfield 134, 3) := dk_180 0 134 (dk_at dksX0_nobodyBears_0 4 rfl rfl)
theorem dX0_nobodyBears_7 : decode cX0_nobodyBears 7 = .ok (.if_icmp .ge 16, 3) := dk_162 0 16 (dk_at dksX0_nobodyBears_0 7 rfl rfl)
theorem dX0_nobodyBears_10 : decode cX0_nobodyBears 10 = .ok (.aload_n 0, 1) := dk_42 (dk_at dksX0_nobodyBears_0 10 rfl rfl)
theorem dX0_nobodyBears_11 : decode cX0_nobodyBears 11 = .ok (.getfield 86, 3) := dk_180 0 86 (dk_at dksX0_nobodyBears_0 11 rfl rfl)
theorem dX0_nobodyBears_14 : decode cX0_nobodyBears 14 = .ok (.iload_n 1, 1) := dk_27 (dk_at dksX0_nobodyBears_0 14 rfl rfl)
theorem dX0_nobodyBears_15 : decode cX0_nobodyBears 15 = .ok (.iconst (-1), 1) := dk_2 (dk_at dksX0_nobodyBears_0 15 rfl rfl)
theorem dX0_nobodyBears_16 : decode cX0_nobodyBears 16 = .ok (.iastore, 1) := dk_79 (dk_at dksX0_nobodyBears_0 16 rfl rfl)
theorem dX0_nobodyBears_17 : decode cX0_nobodyBears 17 = .ok (.iinc 1 1, 3) := dk_132 1 1 (dk_at dksX0_nobodyBears_0 17 rfl rfl)
theorem dX0_nobodyBears_20 : decode cX0_nobodyBears 20 = .ok (.goto (-18), 3) := dk_167 255 238 (dk_at dksX0_nobodyBears_0 20 rfl rfl)
theorem dX0_nobodyBears_23 : decode cX0_nobodyBears 23 = .ok (.return_, 1) := dk_177 (dk_at dksX0_nobodyBears_0 23 rfl rfl)
abbrev cX0_give : ByteArray := prog_1_method_65_code
def yX0_give : MethodName := ⟨RX0, "give", "(II)I"⟩
def dkwX0_give_3 : List UInt8 := [29, 172]
abbrev dktX0_give_3 : List UInt8 := dkwX0_give_3 ++ []
def dkwX0_give_2 : List UInt8 := [180, 0, 149, 28, 182, 1, 133, 62, 29, 16, 254, 159, 0, 13, 42, 180, 0, 50, 27, 50, 29, 181, 0, 185]
abbrev dktX0_give_2 : List UInt8 := dkwX0_give_2 ++ dktX0_give_3
def dkwX0_give_1 : List UInt8 := [180, 0, 185, 2, 159, 0, 6, 16, 251, 172, 42, 27, 182, 1, 130, 42, 42, 180, 0, 50, 27, 50]
abbrev dktX0_give_1 : List UInt8 := dkwX0_give_1 ++ dktX0_give_2
def dkwX0_give_0 : List UInt8 := [42, 27, 182, 0, 191, 153, 0, 10, 28, 184, 1, 127, 154, 0, 5, 2, 172, 42, 180, 0, 50, 27, 50]
abbrev dktX0_give_0 : List UInt8 := dkwX0_give_0 ++ dktX0_give_1
theorem dksX0_give_0 : cX0_give.data.toList.drop 0 = dktX0_give_0 := by decide +kernel
theorem dksX0_give_1 : cX0_give.data.toList.drop 23 = dktX0_give_1 := dk_seg dksX0_give_0 23 rfl rfl
theorem dksX0_give_2 : cX0_give.data.toList.drop 45 = dktX0_give_2 := dk_seg dksX0_give_1 22 rfl rfl
theorem dksX0_give_3 : cX0_give.data.toList.drop 69 = dktX0_give_3 := dk_seg dksX0_give_2 24 rfl rfl
theorem dX0_give_0 : decode cX0_give 0 = .ok (.aload_n 0, 1) := dk_42 (dk_at dksX0_give_0 0 rfl rfl)
theorem dX0_give_1 : decode cX0_give 1 = .ok (.iload_n 1, 1) := dk_27 (dk_at dksX0_give_0 1 rfl rfl)
theorem dX0_give_2 : decode cX0_give 2 = .ok (.invokevirtual 191, 3) := dk_182 0 191 (dk_at dksX0_give_0 2 rfl rfl)
theorem dX0_give_5 : decode cX0_give 5 = .ok (.ifCond .eq 10, 3) := dk_153 0 10 (dk_at dksX0_give_0 5 rfl rfl)
theorem dX0_give_8 : decode cX0_give 8 = .ok (.iload_n 2, 1) := dk_28 (dk_at dksX0_give_0 8 rfl rfl)
theorem dX0_give_9 : decode cX0_give 9 = .ok (.invokestatic 383, 3) := dk_184 1 127 (dk_at dksX0_give_0 9 rfl rfl)
theorem dX0_give_12 : decode cX0_give 12 = .ok (.ifCond .ne 5, 3) := dk_154 0 5 (dk_at dksX0_give_0 12 rfl rfl)
theorem dX0_give_15 : decode cX0_give 15 = .ok (.iconst (-1), 1) := dk_2 (dk_at dksX0_give_0 15 rfl rfl)
theorem dX0_give_16 : decode cX0_give 16 = .ok (.ireturn, 1) := dk_172 (dk_at dksX0_give_0 16 rfl rfl)
theorem dX0_give_17 : decode cX0_give 17 = .ok (.aload_n 0, 1) := dk_42 (dk_at dksX0_give_0 17 rfl rfl)
theorem dX0_give_18 : decode cX0_give 18 = .ok (.getfield 50, 3) := dk_180 0 50 (dk_at dksX0_give_0 18 rfl rfl)
theorem dX0_give_21 : decode cX0_give 21 = .ok (.iload_n 1, 1) := dk_27 (dk_at dksX0_give_0 21 rfl rfl)
theorem dX0_give_22 : decode cX0_give 22 = .ok (.aaload, 1) := dk_50 (dk_at dksX0_give_0 22 rfl rfl)
theorem dX0_give_23 : decode cX0_give 23 = .ok (.getfield 185, 3) := dk_180 0 185 (dk_at dksX0_give_1 0 rfl rfl)
theorem dX0_give_26 : decode cX0_give 26 = .ok (.iconst (-1), 1) := dk_2 (dk_at dksX0_give_1 3 rfl rfl)
theorem dX0_give_27 : decode cX0_give 27 = .ok (.if_icmp .eq 6, 3) := dk_159 0 6 (dk_at dksX0_give_1 4 rfl rfl)
theorem dX0_give_30 : decode cX0_give 30 = .ok (.bipush (-5), 2) := dk_16 251 (dk_at dksX0_give_1 7 rfl rfl)
theorem dX0_give_32 : decode cX0_give 32 = .ok (.ireturn, 1) := dk_172 (dk_at dksX0_give_1 9 rfl rfl)
theorem dX0_give_33 : decode cX0_give 33 = .ok (.aload_n 0, 1) := dk_42 (dk_at dksX0_give_1 10 rfl rfl)
theorem dX0_give_34 : decode cX0_give 34 = .ok (.iload_n 1, 1) := dk_27 (dk_at dksX0_give_1 11 rfl rfl)
theorem dX0_give_35 : decode cX0_give 35 = .ok (.invokevirtual 386, 3) := dk_182 1 130 (dk_at dksX0_give_1 12 rfl rfl)
theorem dX0_give_38 : decode cX0_give 38 = .ok (.aload_n 0, 1) := dk_42 (dk_at dksX0_give_1 15 rfl rfl)
theorem dX0_give_39 : decode cX0_give 39 = .ok (.aload_n 0, 1) := dk_42 (dk_at dksX0_give_1 16 rfl rfl)
theorem dX0_give_40 : decode cX0_give 40 = .ok (.getfield 50, 3) := dk_180 0 50 (dk_at dksX0_give_1 17 rfl rfl)
theorem dX0_give_43 : decode cX0_give 43 = .ok (.iload_n 1, 1) := dk_27 (dk_at dksX0_give_1 20 rfl rfl)
theorem dX0_give_44 : decode cX0_give 44 = .ok (.aaload, 1) := dk_50 (dk_at dksX0_give_1 21 rfl rfl)
theorem dX0_give_45 : decode cX0_give 45 = .ok (.getfield 149, 3) := dk_180 0 149 (dk_at dksX0_give_2 0 rfl rfl)
theorem dX0_give_48 : decode cX0_give 48 = .ok (.iload_n 2, 1) := dk_28 (dk_at dksX0_give_2 3 rfl rfl)
theorem dX0_give_49 : decode cX0_give 49 = .ok (.invokevirtual 389, 3) := dk_182 1 133 (dk_at dksX0_give_2 4 rfl rfl)
theorem dX0_give_52 : decode cX0_give 52 = .ok (.istore_n 3, 1) := dk_62 (dk_at dksX0_give_2 7 rfl rfl)
theorem dX0_give_53 : decode cX0_give 53 = .ok (.iload_n 3, 1) := dk_29 (dk_at dksX0_give_2 8 rfl rfl)
theorem dX0_give_54 : decode cX0_give 54 = .ok (.bipush (-2), 2) := dk_16 254 (dk_at dksX0_give_2 9 rfl rfl)
theorem dX0_give_56 : decode cX0_give 56 = .ok (.if_icmp .eq 13, 3) := dk_159 0 13 (dk_at dksX0_give_2 11 rfl rfl)
theorem dX0_give_59 : decode cX0_give 59 = .ok (.aload_n 0, 1) := dk_42 (dk_at dksX0_give_2 14 rfl rfl)
theorem dX0_give_60 : decode cX0_give 60 = .ok (.getfield 50, 3) := dk_180 0 50 (dk_at dksX0_give_2 15 rfl rfl)
theorem dX0_give_63 : decode cX0_give 63 = .ok (.iload_n 1, 1) := dk_27 (dk_at dksX0_give_2 18 rfl rfl)
theorem dX0_give_64 : decode cX0_give 64 = .ok (.aaload, 1) := dk_50 (dk_at dksX0_give_2 19 rfl rfl)
theorem dX0_give_65 : decode cX0_give 65 = .ok (.iload_n 3, 1) := dk_29 (dk_at dksX0_give_2 20 rfl rfl)
theorem dX0_give_66 : decode cX0_give 66 = .ok (.putfield 185, 3) := dk_181 0 185 (dk_at dksX0_give_2 21 rfl rfl)
theorem dX0_give_69 : decode cX0_give 69 = .ok (.iload_n 3, 1) := dk_29 (dk_at dksX0_give_3 0 rfl rfl)
theorem dX0_give_70 : decode cX0_give 70 = .ok (.ireturn, 1) := dk_172 (dk_at dksX0_give_3 1 rfl rfl)
abbrev cX0_isWay : ByteArray := prog_1_method_64_code
def yX0_isWay : MethodName := ⟨RX0, "isWay", "(I)Z"⟩
def dkwX0_isWay_0 : List UInt8 := [26, 133, 9, 20, 0, 180, 184, 0, 112, 172]
abbrev dktX0_isWay_0 : List UInt8 := dkwX0_isWay_0 ++ []
theorem dksX0_isWay_0 : cX0_isWay.data.toList.drop 0 = dktX0_isWay_0 := by decide +kernel
theorem dX0_isWay_0 : decode cX0_isWay 0 = .ok (.iload_n 0, 1) := dk_26 (dk_at dksX0_isWay_0 0 rfl rfl)
theorem dX0_isWay_1 : decode cX0_isWay 1 = .ok (.i2l, 1) := dk_133 (dk_at dksX0_isWay_0 1 rfl rfl)
theorem dX0_isWay_2 : decode cX0_isWay 2 = .ok (.lconst 0, 1) := dk_9 (dk_at dksX0_isWay_0 2 rfl rfl)
theorem dX0_isWay_3 : decode cX0_isWay 3 = .ok (.ldc2_w 180, 3) := dk_20 0 180 (dk_at dksX0_isWay_0 3 rfl rfl)
theorem dX0_isWay_6 : decode cX0_isWay 6 = .ok (.invokestatic 112, 3) := dk_184 0 112 (dk_at dksX0_isWay_0 6 rfl rfl)
theorem dX0_isWay_9 : decode cX0_isWay 9 = .ok (.ireturn, 1) := dk_172 (dk_at dksX0_isWay_0 9 rfl rfl)
abbrev cX0_asAheadOf : ByteArray := prog_1_method_59_code
def yX0_asAheadOf : MethodName := ⟨RX0, "asAheadOf", "(I)V"⟩
def dkwX0_asAheadOf_1 : List UInt8 := [28, 46, 42, 180, 0, 50, 42, 180, 0, 54, 28, 46, 50, 180, 0, 185, 79, 132, 2, 1, 167, 255, 218, 177]
abbrev dktX0_asAheadOf_1 : List UInt8 := dkwX0_asAheadOf_1 ++ []
def dkwX0_asAheadOf_0 : List UInt8 := [42, 182, 1, 117, 3, 61, 42, 180, 0, 54, 28, 46, 27, 159, 0, 34, 42, 180, 0, 86, 42, 180, 0, 54]
abbrev dktX0_asAheadOf_0 : List UInt8 := dkwX0_asAheadOf_0 ++ dktX0_asAheadOf_1
theorem dksX0_asAheadOf_0 : cX0_asAheadOf.data.toList.drop 0 = dktX0_asAheadOf_0 := by decide +kernel
theorem dksX0_asAheadOf_1 : cX0_asAheadOf.data.toList.drop 24 = dktX0_asAheadOf_1 := dk_seg dksX0_asAheadOf_0 24 rfl rfl
theorem dX0_asAheadOf_0 : decode cX0_asAheadOf 0 = .ok (.aload_n 0, 1) := dk_42 (dk_at dksX0_asAheadOf_0 0 rfl rfl)
theorem dX0_asAheadOf_1 : decode cX0_asAheadOf 1 = .ok (.invokevirtual 373, 3) := dk_182 1 117 (dk_at dksX0_asAheadOf_0 1 rfl rfl)
theorem dX0_asAheadOf_4 : decode cX0_asAheadOf 4 = .ok (.iconst 0, 1) := dk_3 (dk_at dksX0_asAheadOf_0 4 rfl rfl)
theorem dX0_asAheadOf_5 : decode cX0_asAheadOf 5 = .ok (.istore_n 2, 1) := dk_61 (dk_at dksX0_asAheadOf_0 5 rfl rfl)
theorem dX0_asAheadOf_6 : decode cX0_asAheadOf 6 = .ok (.aload_n 0, 1) := dk_42 (dk_at dksX0_asAheadOf_0 6 rfl rfl)
theorem dX0_asAheadOf_7 : decode cX0_asAheadOf 7 = .ok (.getfield 54, 3) := dk_180 0 54 (dk_at dksX0_asAheadOf_0 7 rfl rfl)
theorem dX0_asAheadOf_10 : decode cX0_asAheadOf 10 = .ok (.iload_n 2, 1) := dk_28 (dk_at dksX0_asAheadOf_0 10 rfl rfl)
theorem dX0_asAheadOf_11 : decode cX0_asAheadOf 11 = .ok (.iaload, 1) := dk_46 (dk_at dksX0_asAheadOf_0 11 rfl rfl)
theorem dX0_asAheadOf_12 : decode cX0_asAheadOf 12 = .ok (.iload_n 1, 1) := dk_27 (dk_at dksX0_asAheadOf_0 12 rfl rfl)
theorem dX0_asAheadOf_13 : decode cX0_asAheadOf 13 = .ok (.if_icmp .eq 34, 3) := dk_159 0 34 (dk_at dksX0_asAheadOf_0 13 rfl rfl)
theorem dX0_asAheadOf_16 : decode cX0_asAheadOf 16 = .ok (.aload_n 0, 1) := dk_42 (dk_at dksX0_asAheadOf_0 16 rfl rfl)
theorem dX0_asAheadOf_17 : decode cX0_asAheadOf 17 = .ok (.getfield 86, 3) := dk_180 0 86 (dk_at dksX0_asAheadOf_0 17 rfl rfl)
theorem dX0_asAheadOf_20 : decode cX0_asAheadOf 20 = .ok (.aload_n 0, 1) := dk_42 (dk_at dksX0_asAheadOf_0 20 rfl rfl)
theorem dX0_asAheadOf_21 : decode cX0_asAheadOf 21 = .ok (.getfield 54, 3) := dk_180 0 54 (dk_at dksX0_asAheadOf_0 21 rfl rfl)
theorem dX0_asAheadOf_24 : decode cX0_asAheadOf 24 = .ok (.iload_n 2, 1) := dk_28 (dk_at dksX0_asAheadOf_1 0 rfl rfl)
theorem dX0_asAheadOf_25 : decode cX0_asAheadOf 25 = .ok (.iaload, 1) := dk_46 (dk_at dksX0_asAheadOf_1 1 rfl rfl)
theorem dX0_asAheadOf_26 : decode cX0_asAheadOf 26 = .ok (.aload_n 0, 1) := dk_42 (dk_at dksX0_asAheadOf_1 2 rfl rfl)
theorem dX0_asAheadOf_27 : decode cX0_asAheadOf 27 = .ok (.getfield 50, 3) := dk_180 0 50 (dk_at dksX0_asAheadOf_1 3 rfl rfl)
theorem dX0_asAheadOf_30 : decode cX0_asAheadOf 30 = .ok (.aload_n 0, 1) := dk_42 (dk_at dksX0_asAheadOf_1 6 rfl rfl)
theorem dX0_asAheadOf_31 : decode cX0_asAheadOf 31 = .ok (.getfield 54, 3) := dk_180 0 54 (dk_at dksX0_asAheadOf_1 7 rfl rfl)
theorem dX0_asAheadOf_34 : decode cX0_asAheadOf 34 = .ok (.iload_n 2, 1) := dk_28 (dk_at dksX0_asAheadOf_1 10 rfl rfl)
theorem dX0_asAheadOf_35 : decode cX0_asAheadOf 35 = .ok (.iaload, 1) := dk_46 (dk_at dksX0_asAheadOf_1 11 rfl rfl)
theorem dX0_asAheadOf_36 : decode cX0_asAheadOf 36 = .ok (.aaload, 1) := dk_50 (dk_at dksX0_asAheadOf_1 12 rfl rfl)
theorem dX0_asAheadOf_37 : decode cX0_asAheadOf 37 = .ok (.getfield 185, 3) := dk_180 0 185 (dk_at dksX0_asAheadOf_1 13 rfl rfl)
theorem dX0_asAheadOf_40 : decode cX0_asAheadOf 40 = .ok (.iastore, 1) := dk_79 (dk_at dksX0_asAheadOf_1 16 rfl rfl)
theorem dX0_asAheadOf_41 : decode cX0_asAheadOf 41 = .ok (.iinc 2 1, 3) := dk_132 2 1 (dk_at dksX0_asAheadOf_1 17 rfl rfl)
theorem dX0_asAheadOf_44 : decode cX0_asAheadOf 44 = .ok (.goto (-38), 3) := dk_167 255 218 (dk_at dksX0_asAheadOf_1 20 rfl rfl)
theorem dX0_asAheadOf_47 : decode cX0_asAheadOf 47 = .ok (.return_, 1) := dk_177 (dk_at dksX0_asAheadOf_1 23 rfl rfl)
abbrev cX0_givenIn : ByteArray := prog_1_method_63_code
def yX0_givenIn : MethodName := ⟨RX0, "givenIn", "(II)I"⟩
def dkwX0_givenIn_3 : List UInt8 := [132, 6, 1, 167, 255, 199, 21, 4, 172]
abbrev dktX0_givenIn_3 : List UInt8 := dkwX0_givenIn_3 ++ []
def dkwX0_givenIn_2 : List UInt8 := [16, 254, 159, 0, 13, 21, 7, 21, 5, 163, 0, 6, 167, 0, 11, 21, 6, 54, 4, 21, 7, 54, 5]
abbrev dktX0_givenIn_2 : List UInt8 := dkwX0_givenIn_2 ++ dktX0_givenIn_3
def dkwX0_givenIn_1 : List UInt8 := [21, 6, 184, 1, 83, 154, 0, 6, 167, 0, 38, 42, 28, 21, 6, 27, 182, 1, 123, 54, 7, 21, 4]
abbrev dktX0_givenIn_1 : List UInt8 := dkwX0_givenIn_1 ++ dktX0_givenIn_2
def dkwX0_givenIn_0 : List UInt8 := [42, 27, 182, 1, 111, 62, 16, 254, 54, 4, 3, 54, 5, 3, 54, 6, 21, 6, 16, 12, 162, 0, 56, 29]
abbrev dktX0_givenIn_0 : List UInt8 := dkwX0_givenIn_0 ++ dktX0_givenIn_1
theorem dksX0_givenIn_0 : cX0_givenIn.data.toList.drop 0 = dktX0_givenIn_0 := by decide +kernel
theorem dksX0_givenIn_1 : cX0_givenIn.data.toList.drop 24 = dktX0_givenIn_1 := dk_seg dksX0_givenIn_0 24 rfl rfl
theorem dksX0_givenIn_2 : cX0_givenIn.data.toList.drop 47 = dktX0_givenIn_2 := dk_seg dksX0_givenIn_1 23 rfl rfl
theorem dksX0_givenIn_3 : cX0_givenIn.data.toList.drop 70 = dktX0_givenIn_3 := dk_seg dksX0_givenIn_2 23 rfl rfl
theorem dX0_givenIn_0 : decode cX0_givenIn 0 = .ok (.aload_n 0, 1) := dk_42 (dk_at dksX0_givenIn_0 0 rfl rfl)
theorem dX0_givenIn_1 : decode cX0_givenIn 1 = .ok (.iload_n 1, 1) := dk_27 (dk_at dksX0_givenIn_0 1 rfl rfl)
theorem dX0_givenIn_2 : decode cX0_givenIn 2 = .ok (.invokevirtual 367, 3) := dk_182 1 111 (dk_at dksX0_givenIn_0 2 rfl rfl)
theorem dX0_givenIn_5 : decode cX0_givenIn 5 = .ok (.istore_n 3, 1) := dk_62 (dk_at dksX0_givenIn_0 5 rfl rfl)
theorem dX0_givenIn_6 : decode cX0_givenIn 6 = .ok (.bipush (-2), 2) := dk_16 254 (dk_at dksX0_givenIn_0 6 rfl rfl)
theorem dX0_givenIn_8 : decode cX0_givenIn 8 = .ok (.istore 4, 2) := dk_54 4 (dk_at dksX0_givenIn_0 8 rfl rfl)
theorem dX0_givenIn_10 : decode cX0_givenIn 10 = .ok (.iconst 0, 1) := dk_3 (dk_at dksX0_givenIn_0 10 rfl rfl)
theorem dX0_givenIn_11 : decode cX0_givenIn 11 = .ok (.istore 5, 2) := dk_54 5 (dk_at dksX0_givenIn_0 11 rfl rfl)
theorem dX0_givenIn_13 : decode cX0_givenIn 13 = .ok (.iconst 0, 1) := dk_3 (dk_at dksX0_givenIn_0 13 rfl rfl)
theorem dX0_givenIn_14 : decode cX0_givenIn 14 = .ok (.istore 6, 2) := dk_54 6 (dk_at dksX0_givenIn_0 14 rfl rfl)
theorem dX0_givenIn_16 : decode cX0_givenIn 16 = .ok (.iload 6, 2) := dk_21 6 (dk_at dksX0_givenIn_0 16 rfl rfl)
theorem dX0_givenIn_18 : decode cX0_givenIn 18 = .ok (.bipush 12, 2) := dk_16 12 (dk_at dksX0_givenIn_0 18 rfl rfl)
theorem dX0_givenIn_20 : decode cX0_givenIn 20 = .ok (.if_icmp .ge 56, 3) := dk_162 0 56 (dk_at dksX0_givenIn_0 20 rfl rfl)
theorem dX0_givenIn_23 : decode cX0_givenIn 23 = .ok (.iload_n 3, 1) := dk_29 (dk_at dksX0_givenIn_0 23 rfl rfl)
theorem dX0_givenIn_24 : decode cX0_givenIn 24 = .ok (.iload 6, 2) := dk_21 6 (dk_at dksX0_givenIn_1 0 rfl rfl)
theorem dX0_givenIn_26 : decode cX0_givenIn 26 = .ok (.invokestatic 339, 3) := dk_184 1 83 (dk_at dksX0_givenIn_1 2 rfl rfl)
theorem dX0_givenIn_29 : decode cX0_givenIn 29 = .ok (.ifCond .ne 6, 3) := dk_154 0 6 (dk_at dksX0_givenIn_1 5 rfl rfl)
theorem dX0_givenIn_32 : decode cX0_givenIn 32 = .ok (.goto 38, 3) := dk_167 0 38 (dk_at dksX0_givenIn_1 8 rfl rfl)
theorem dX0_givenIn_35 : decode cX0_givenIn 35 = .ok (.aload_n 0, 1) := dk_42 (dk_at dksX0_givenIn_1 11 rfl rfl)
theorem dX0_givenIn_36 : decode cX0_givenIn 36 = .ok (.iload_n 2, 1) := dk_28 (dk_at dksX0_givenIn_1 12 rfl rfl)
theorem dX0_givenIn_37 : decode cX0_givenIn 37 = .ok (.iload 6, 2) := dk_21 6 (dk_at dksX0_givenIn_1 13 rfl rfl)
theorem dX0_givenIn_39 : decode cX0_givenIn 39 = .ok (.iload_n 1, 1) := dk_27 (dk_at dksX0_givenIn_1 15 rfl rfl)
theorem dX0_givenIn_40 : decode cX0_givenIn 40 = .ok (.invokevirtual 379, 3) := dk_182 1 123 (dk_at dksX0_givenIn_1 16 rfl rfl)
theorem dX0_givenIn_43 : decode cX0_givenIn 43 = .ok (.istore 7, 2) := dk_54 7 (dk_at dksX0_givenIn_1 19 rfl rfl)
theorem dX0_givenIn_45 : decode cX0_givenIn 45 = .ok (.iload 4, 2) := dk_21 4 (dk_at dksX0_givenIn_1 21 rfl rfl)
theorem dX0_givenIn_47 : decode cX0_givenIn 47 = .ok (.bipush (-2), 2) := dk_16 254 (dk_at dksX0_givenIn_2 0 rfl rfl)
theorem dX0_givenIn_49 : decode cX0_givenIn 49 = .ok (.if_icmp .eq 13, 3) := dk_159 0 13 (dk_at dksX0_givenIn_2 2 rfl rfl)
theorem dX0_givenIn_52 : decode cX0_givenIn 52 = .ok (.iload 7, 2) := dk_21 7 (dk_at dksX0_givenIn_2 5 rfl rfl)
theorem dX0_givenIn_54 : decode cX0_givenIn 54 = .ok (.iload 5, 2) := dk_21 5 (dk_at dksX0_givenIn_2 7 rfl rfl)
theorem dX0_givenIn_56 : decode cX0_givenIn 56 = .ok (.if_icmp .gt 6, 3) := dk_163 0 6 (dk_at dksX0_givenIn_2 9 rfl rfl)
theorem dX0_givenIn_59 : decode cX0_givenIn 59 = .ok (.goto 11, 3) := dk_167 0 11 (dk_at dksX0_givenIn_2 12 rfl rfl)
theorem dX0_givenIn_62 : decode cX0_givenIn 62 = .ok (.iload 6, 2) := dk_21 6 (dk_at dksX0_givenIn_2 15 rfl rfl)
theorem dX0_givenIn_64 : decode cX0_givenIn 64 = .ok (.istore 4, 2) := dk_54 4 (dk_at dksX0_givenIn_2 17 rfl rfl)
theorem dX0_givenIn_66 : decode cX0_givenIn 66 = .ok (.iload 7, 2) := dk_21 7 (dk_at dksX0_givenIn_2 19 rfl rfl)
theorem dX0_givenIn_68 : decode cX0_givenIn 68 = .ok (.istore 5, 2) := dk_54 5 (dk_at dksX0_givenIn_2 21 rfl rfl)
theorem dX0_givenIn_70 : decode cX0_givenIn 70 = .ok (.iinc 6 1, 3) := dk_132 6 1 (dk_at dksX0_givenIn_3 0 rfl rfl)
theorem dX0_givenIn_73 : decode cX0_givenIn 73 = .ok (.goto (-57), 3) := dk_167 255 199 (dk_at dksX0_givenIn_3 3 rfl rfl)
theorem dX0_givenIn_76 : decode cX0_givenIn 76 = .ok (.iload 4, 2) := dk_21 4 (dk_at dksX0_givenIn_3 6 rfl rfl)
theorem dX0_givenIn_78 : decode cX0_givenIn 78 = .ok (.ireturn, 1) := dk_172 (dk_at dksX0_givenIn_3 8 rfl rfl)
abbrev cX0_rank : ByteArray := prog_1_method_62_code
def yX0_rank : MethodName := ⟨RX0, "rank", "(III)I"⟩
def dkwX0_rank_1 : List UInt8 := [28, 50, 180, 0, 1, 172]
abbrev dktX0_rank_1 : List UInt8 := dkwX0_rank_1 ++ []
def dkwX0_rank_0 : List UInt8 := [27, 154, 0, 5, 3, 172, 27, 4, 160, 0, 12, 42, 28, 29, 182, 1, 120, 167, 0, 12, 42, 180, 0, 66]
abbrev dktX0_rank_0 : List UInt8 := dkwX0_rank_0 ++ dktX0_rank_1
theorem dksX0_rank_0 : cX0_rank.data.toList.drop 0 = dktX0_rank_0 := by decide +kernel
theorem dksX0_rank_1 : cX0_rank.data.toList.drop 24 = dktX0_rank_1 := dk_seg dksX0_rank_0 24 rfl rfl
theorem dX0_rank_0 : decode cX0_rank 0 = .ok (.iload_n 1, 1) := dk_27 (dk_at dksX0_rank_0 0 rfl rfl)
theorem dX0_rank_1 : decode cX0_rank 1 = .ok (.ifCond .ne 5, 3) := dk_154 0 5 (dk_at dksX0_rank_0 1 rfl rfl)
theorem dX0_rank_4 : decode cX0_rank 4 = .ok (.iconst 0, 1) := dk_3 (dk_at dksX0_rank_0 4 rfl rfl)
theorem dX0_rank_5 : decode cX0_rank 5 = .ok (.ireturn, 1) := dk_172 (dk_at dksX0_rank_0 5 rfl rfl)
theorem dX0_rank_6 : decode cX0_rank 6 = .ok (.iload_n 1, 1) := dk_27 (dk_at dksX0_rank_0 6 rfl rfl)
theorem dX0_rank_7 : decode cX0_rank 7 = .ok (.iconst 1, 1) := dk_4 (dk_at dksX0_rank_0 7 rfl rfl)
theorem dX0_rank_8 : decode cX0_rank 8 = .ok (.if_icmp .ne 12, 3) := dk_160 0 12 (dk_at dksX0_rank_0 8 rfl rfl)
theorem dX0_rank_11 : decode cX0_rank 11 = .ok (.aload_n 0, 1) := dk_42 (dk_at dksX0_rank_0 11 rfl rfl)
theorem dX0_rank_12 : decode cX0_rank 12 = .ok (.iload_n 2, 1) := dk_28 (dk_at dksX0_rank_0 12 rfl rfl)
theorem dX0_rank_13 : decode cX0_rank 13 = .ok (.iload_n 3, 1) := dk_29 (dk_at dksX0_rank_0 13 rfl rfl)
theorem dX0_rank_14 : decode cX0_rank 14 = .ok (.invokevirtual 376, 3) := dk_182 1 120 (dk_at dksX0_rank_0 14 rfl rfl)
theorem dX0_rank_17 : decode cX0_rank 17 = .ok (.goto 12, 3) := dk_167 0 12 (dk_at dksX0_rank_0 17 rfl rfl)
theorem dX0_rank_20 : decode cX0_rank 20 = .ok (.aload_n 0, 1) := dk_42 (dk_at dksX0_rank_0 20 rfl rfl)
theorem dX0_rank_21 : decode cX0_rank 21 = .ok (.getfield 66, 3) := dk_180 0 66 (dk_at dksX0_rank_0 21 rfl rfl)
theorem dX0_rank_24 : decode cX0_rank 24 = .ok (.iload_n 2, 1) := dk_28 (dk_at dksX0_rank_1 0 rfl rfl)
theorem dX0_rank_25 : decode cX0_rank 25 = .ok (.aaload, 1) := dk_50 (dk_at dksX0_rank_1 1 rfl rfl)
theorem dX0_rank_26 : decode cX0_rank 26 = .ok (.getfield 1, 3) := dk_180 0 1 (dk_at dksX0_rank_1 2 rfl rfl)
theorem dX0_rank_29 : decode cX0_rank 29 = .ok (.ireturn, 1) := dk_172 (dk_at dksX0_rank_1 5 rfl rfl)
abbrev cX0_latestHeld : ByteArray := prog_1_method_61_code
def yX0_latestHeld : MethodName := ⟨RX0, "latestHeld", "(II)I"⟩
def dkwX0_latestHeld_1 : List UInt8 := [172, 132, 3, 255, 167, 255, 232, 2, 172]
abbrev dktX0_latestHeld_1 : List UInt8 := dkwX0_latestHeld_1 ++ []
def dkwX0_latestHeld_0 : List UInt8 := [28, 4, 100, 62, 29, 155, 0, 26, 42, 29, 3, 182, 1, 86, 42, 27, 29, 182, 1, 102, 153, 0, 5, 29]
abbrev dktX0_latestHeld_0 : List UInt8 := dkwX0_latestHeld_0 ++ dktX0_latestHeld_1
theorem dksX0_latestHeld_0 : cX0_latestHeld.data.toList.drop 0 = dktX0_latestHeld_0 := by decide +kernel
theorem dksX0_latestHeld_1 : cX0_latestHeld.data.toList.drop 24 = dktX0_latestHeld_1 := dk_seg dksX0_latestHeld_0 24 rfl rfl
theorem dX0_latestHeld_0 : decode cX0_latestHeld 0 = .ok (.iload_n 2, 1) := dk_28 (dk_at dksX0_latestHeld_0 0 rfl rfl)
theorem dX0_latestHeld_1 : decode cX0_latestHeld 1 = .ok (.iconst 1, 1) := dk_4 (dk_at dksX0_latestHeld_0 1 rfl rfl)
theorem dX0_latestHeld_2 : decode cX0_latestHeld 2 = .ok (.isub, 1) := dk_100 (dk_at dksX0_latestHeld_0 2 rfl rfl)
theorem dX0_latestHeld_3 : decode cX0_latestHeld 3 = .ok (.istore_n 3, 1) := dk_62 (dk_at dksX0_latestHeld_0 3 rfl rfl)
theorem dX0_latestHeld_4 : decode cX0_latestHeld 4 = .ok (.iload_n 3, 1) := dk_29 (dk_at dksX0_latestHeld_0 4 rfl rfl)
theorem dX0_latestHeld_5 : decode cX0_latestHeld 5 = .ok (.ifCond .lt 26, 3) := dk_155 0 26 (dk_at dksX0_latestHeld_0 5 rfl rfl)
theorem dX0_latestHeld_8 : decode cX0_latestHeld 8 = .ok (.aload_n 0, 1) := dk_42 (dk_at dksX0_latestHeld_0 8 rfl rfl)
theorem dX0_latestHeld_9 : decode cX0_latestHeld 9 = .ok (.iload_n 3, 1) := dk_29 (dk_at dksX0_latestHeld_0 9 rfl rfl)
theorem dX0_latestHeld_10 : decode cX0_latestHeld 10 = .ok (.iconst 0, 1) := dk_3 (dk_at dksX0_latestHeld_0 10 rfl rfl)
theorem dX0_latestHeld_11 : decode cX0_latestHeld 11 = .ok (.invokevirtual 342, 3) := dk_182 1 86 (dk_at dksX0_latestHeld_0 11 rfl rfl)
theorem dX0_latestHeld_14 : decode cX0_latestHeld 14 = .ok (.aload_n 0, 1) := dk_42 (dk_at dksX0_latestHeld_0 14 rfl rfl)
theorem dX0_latestHeld_15 : decode cX0_latestHeld 15 = .ok (.iload_n 1, 1) := dk_27 (dk_at dksX0_latestHeld_0 15 rfl rfl)
theorem dX0_latestHeld_16 : decode cX0_latestHeld 16 = .ok (.iload_n 3, 1) := dk_29 (dk_at dksX0_latestHeld_0 16 rfl rfl)
theorem dX0_latestHeld_17 : decode cX0_latestHeld 17 = .ok (.invokevirtual 358, 3) := dk_182 1 102 (dk_at dksX0_latestHeld_0 17 rfl rfl)
theorem dX0_latestHeld_20 : decode cX0_latestHeld 20 = .ok (.ifCond .eq 5, 3) := dk_153 0 5 (dk_at dksX0_latestHeld_0 20 rfl rfl)
theorem dX0_latestHeld_23 : decode cX0_latestHeld 23 = .ok (.iload_n 3, 1) := dk_29 (dk_at dksX0_latestHeld_0 23 rfl rfl)
theorem dX0_latestHeld_24 : decode cX0_latestHeld 24 = .ok (.ireturn, 1) := dk_172 (dk_at dksX0_latestHeld_1 0 rfl rfl)
theorem dX0_latestHeld_25 : decode cX0_latestHeld 25 = .ok (.iinc 3 (-1), 3) := dk_132 3 255 (dk_at dksX0_latestHeld_1 1 rfl rfl)
theorem dX0_latestHeld_28 : decode cX0_latestHeld 28 = .ok (.goto (-24), 3) := dk_167 255 232 (dk_at dksX0_latestHeld_1 4 rfl rfl)
theorem dX0_latestHeld_31 : decode cX0_latestHeld 31 = .ok (.iconst (-1), 1) := dk_2 (dk_at dksX0_latestHeld_1 7 rfl rfl)
theorem dX0_latestHeld_32 : decode cX0_latestHeld 32 = .ok (.ireturn, 1) := dk_172 (dk_at dksX0_latestHeld_1 8 rfl rfl)
abbrev cX0_run : ByteArray := prog_1_method_68_code
def yX0_run : MethodName := ⟨RX0, "run", "(II)I"⟩
def dkwX0_run_1 : List UInt8 := [180, 0, 86, 28, 46, 2, 160, 0, 8, 16, 254, 167, 0, 9, 42, 180, 0, 86, 28, 46, 172]
abbrev dktX0_run_1 : List UInt8 := dkwX0_run_1 ++ []
def dkwX0_run_0 : List UInt8 := [27, 184, 1, 127, 153, 0, 11, 42, 28, 182, 0, 191, 154, 0, 5, 2, 172, 42, 27, 182, 1, 136, 42]
abbrev dktX0_run_0 : List UInt8 := dkwX0_run_0 ++ dktX0_run_1
theorem dksX0_run_0 : cX0_run.data.toList.drop 0 = dktX0_run_0 := by decide +kernel
theorem dksX0_run_1 : cX0_run.data.toList.drop 23 = dktX0_run_1 := dk_seg dksX0_run_0 23 rfl rfl
theorem dX0_run_0 : decode cX0_run 0 = .ok (.iload_n 1, 1) := dk_27 (dk_at dksX0_run_0 0 rfl rfl)
theorem dX0_run_1 : decode cX0_run 1 = .ok (.invokestatic 383, 3) := dk_184 1 127 (dk_at dksX0_run_0 1 rfl rfl)
theorem dX0_run_4 : decode cX0_run 4 = .ok (.ifCond .eq 11, 3) := dk_153 0 11 (dk_at dksX0_run_0 4 rfl rfl)
theorem dX0_run_7 : decode cX0_run 7 = .ok (.aload_n 0, 1) := dk_42 (dk_at dksX0_run_0 7 rfl rfl)
theorem dX0_run_8 : decode cX0_run 8 = .ok (.iload_n 2, 1) := dk_28 (dk_at dksX0_run_0 8 rfl rfl)
theorem dX0_run_9 : decode cX0_run 9 = .ok (.invokevirtual 191, 3) := dk_182 0 191 (dk_at dksX0_run_0 9 rfl rfl)
theorem dX0_run_12 : decode cX0_run 12 = .ok (.ifCond .ne 5, 3) := dk_154 0 5 (dk_at dksX0_run_0 12 rfl rfl)
theorem dX0_run_15 : decode cX0_run 15 = .ok (.iconst (-1), 1) := dk_2 (dk_at dksX0_run_0 15 rfl rfl)
theorem dX0_run_16 : decode cX0_run 16 = .ok (.ireturn, 1) := dk_172 (dk_at dksX0_run_0 16 rfl rfl)
theorem dX0_run_17 : decode cX0_run 17 = .ok (.aload_n 0, 1) := dk_42 (dk_at dksX0_run_0 17 rfl rfl)
theorem dX0_run_18 : decode cX0_run 18 = .ok (.iload_n 1, 1) := dk_27 (dk_at dksX0_run_0 18 rfl rfl)
theorem dX0_run_19 : decode cX0_run 19 = .ok (.invokevirtual 392, 3) := dk_182 1 136 (dk_at dksX0_run_0 19 rfl rfl)
theorem dX0_run_22 : decode cX0_run 22 = .ok (.aload_n 0, 1) := dk_42 (dk_at dksX0_run_0 22 rfl rfl)
theorem dX0_run_23 : decode cX0_run 23 = .ok (.getfield 86, 3) := dk_180 0 86 (dk_at dksX0_run_1 0 rfl rfl)
theorem dX0_run_26 : decode cX0_run 26 = .ok (.iload_n 2, 1) := dk_28 (dk_at dksX0_run_1 3 rfl rfl)
theorem dX0_run_27 : decode cX0_run 27 = .ok (.iaload, 1) := dk_46 (dk_at dksX0_run_1 4 rfl rfl)
theorem dX0_run_28 : decode cX0_run 28 = .ok (.iconst (-1), 1) := dk_2 (dk_at dksX0_run_1 5 rfl rfl)
theorem dX0_run_29 : decode cX0_run 29 = .ok (.if_icmp .ne 8, 3) := dk_160 0 8 (dk_at dksX0_run_1 6 rfl rfl)
theorem dX0_run_32 : decode cX0_run 32 = .ok (.bipush (-2), 2) := dk_16 254 (dk_at dksX0_run_1 9 rfl rfl)
theorem dX0_run_34 : decode cX0_run 34 = .ok (.goto 9, 3) := dk_167 0 9 (dk_at dksX0_run_1 11 rfl rfl)
theorem dX0_run_37 : decode cX0_run 37 = .ok (.aload_n 0, 1) := dk_42 (dk_at dksX0_run_1 14 rfl rfl)
theorem dX0_run_38 : decode cX0_run 38 = .ok (.getfield 86, 3) := dk_180 0 86 (dk_at dksX0_run_1 15 rfl rfl)
theorem dX0_run_41 : decode cX0_run 41 = .ok (.iload_n 2, 1) := dk_28 (dk_at dksX0_run_1 18 rfl rfl)
theorem dX0_run_42 : decode cX0_run 42 = .ok (.iaload, 1) := dk_46 (dk_at dksX0_run_1 19 rfl rfl)
theorem dX0_run_43 : decode cX0_run 43 = .ok (.ireturn, 1) := dk_172 (dk_at dksX0_run_1 20 rfl rfl)
abbrev cX0_nameAll : ByteArray := prog_1_method_66_code
def yX0_nameAll : MethodName := ⟨RX0, "nameAll", "(I)V"⟩
def dkwX0_nameAll_2 : List UInt8 := [160, 0, 7, 2, 167, 0, 4, 29, 79, 132, 2, 1, 167, 255, 203, 177]
abbrev dktX0_nameAll_2 : List UInt8 := dkwX0_nameAll_2 ++ []
def dkwX0_nameAll_1 : List UInt8 := [46, 50, 180, 0, 149, 27, 182, 1, 133, 62, 42, 180, 0, 86, 42, 180, 0, 54, 28, 46, 29, 16, 254]
abbrev dktX0_nameAll_1 : List UInt8 := dkwX0_nameAll_1 ++ dktX0_nameAll_2
def dkwX0_nameAll_0 : List UInt8 := [42, 182, 1, 117, 3, 61, 28, 42, 180, 0, 134, 162, 0, 51, 42, 42, 180, 0, 50, 42, 180, 0, 54, 28]
abbrev dktX0_nameAll_0 : List UInt8 := dkwX0_nameAll_0 ++ dktX0_nameAll_1
theorem dksX0_nameAll_0 : cX0_nameAll.data.toList.drop 0 = dktX0_nameAll_0 := by decide +kernel
theorem dksX0_nameAll_1 : cX0_nameAll.data.toList.drop 24 = dktX0_nameAll_1 := dk_seg dksX0_nameAll_0 24 rfl rfl
theorem dksX0_nameAll_2 : cX0_nameAll.data.toList.drop 47 = dktX0_nameAll_2 := dk_seg dksX0_nameAll_1 23 rfl rfl
theorem dX0_nameAll_0 : decode cX0_nameAll 0 = .ok (.aload_n 0, 1) := dk_42 (dk_at dksX0_nameAll_0 0 rfl rfl)
theorem dX0_nameAll_1 : decode cX0_nameAll 1 = .ok (.invokevirtual 373, 3) := dk_182 1 117 (dk_at dksX0_nameAll_0 1 rfl rfl)
theorem dX0_nameAll_4 : decode cX0_nameAll 4 = .ok (.iconst 0, 1) := dk_3 (dk_at dksX0_nameAll_0 4 rfl rfl)
theorem dX0_nameAll_5 : decode cX0_nameAll 5 = .ok (.istore_n 2, 1) := dk_61 (dk_at dksX0_nameAll_0 5 rfl rfl)
theorem dX0_nameAll_6 : decode cX0_nameAll 6 = .ok (.iload_n 2, 1) := dk_28 (dk_at dksX0_nameAll_0 6 rfl rfl)
theorem dX0_nameAll_7 : decode cX0_nameAll 7 = .ok (.aload_n 0, 1) := dk_42 (dk_at dksX0_nameAll_0 7 rfl rfl)
theorem dX0_nameAll_8 : decode cX0_nameAll 8 = .ok (.getfield 134, 3) := dk_180 0 134 (dk_at dksX0_nameAll_0 8 rfl rfl)
theorem dX0_nameAll_11 : decode cX0_nameAll 11 = .ok (.if_icmp .ge 51, 3) := dk_162 0 51 (dk_at dksX0_nameAll_0 11 rfl rfl)
theorem dX0_nameAll_14 : decode cX0_nameAll 14 = .ok (.aload_n 0, 1) := dk_42 (dk_at dksX0_nameAll_0 14 rfl rfl)
theorem dX0_nameAll_15 : decode cX0_nameAll 15 = .ok (.aload_n 0, 1) := dk_42 (dk_at dksX0_nameAll_0 15 rfl rfl)
theorem dX0_nameAll_16 : decode cX0_nameAll 16 = .ok (.getfield 50, 3) := dk_180 0 50 (dk_at dksX0_nameAll_0 16 rfl rfl)
theorem dX0_nameAll_19 : decode cX0_nameAll 19 = .ok (.aload_n 0, 1) := dk_42 (dk_at dksX0_nameAll_0 19 rfl rfl)
theorem dX0_nameAll_20 : decode cX0_nameAll 20 = .ok (.getfield 54, 3) := dk_180 0 54 (dk_at dksX0_nameAll_0 20 rfl rfl)
theorem dX0_nameAll_23 : decode cX0_nameAll 23 = .ok (.iload_n 2, 1) := dk_28 (dk_at dksX0_nameAll_0 23 rfl rfl)
theorem dX0_nameAll_24 : decode cX0_nameAll 24 = .ok (.iaload, 1) := dk_46 (dk_at dksX0_nameAll_1 0 rfl rfl)
theorem dX0_nameAll_25 : decode cX0_nameAll 25 = .ok (.aaload, 1) := dk_50 (dk_at dksX0_nameAll_1 1 rfl rfl)
theorem dX0_nameAll_26 : decode cX0_nameAll 26 = .ok (.getfield 149, 3) := dk_180 0 149 (dk_at dksX0_nameAll_1 2 rfl rfl)
theorem dX0_nameAll_29 : decode cX0_nameAll 29 = .ok (.iload_n 1, 1) := dk_27 (dk_at dksX0_nameAll_1 5 rfl rfl)
theorem dX0_nameAll_30 : decode cX0_nameAll 30 = .ok (.invokevirtual 389, 3) := dk_182 1 133 (dk_at dksX0_nameAll_1 6 rfl rfl)
theorem dX0_nameAll_33 : decode cX0_nameAll 33 = .ok (.istore_n 3, 1) := dk_62 (dk_at dksX0_nameAll_1 9 rfl rfl)
theorem dX0_nameAll_34 : decode cX0_nameAll 34 = .ok (.aload_n 0, 1) := dk_42 (dk_at dksX0_nameAll_1 10 rfl rfl)
theorem dX0_nameAll_35 : decode cX0_nameAll 35 = .ok (.getfield 86, 3) := dk_180 0 86 (dk_at dksX0_nameAll_1 11 rfl rfl)
theorem dX0_nameAll_38 : decode cX0_nameAll 38 = .ok (.aload_n 0, 1) := dk_42 (dk_at dksX0_nameAll_1 14 rfl rfl)
theorem dX0_nameAll_39 : decode cX0_nameAll 39 = .ok (.getfield 54, 3) := dk_180 0 54 (dk_at dksX0_nameAll_1 15 rfl rfl)
theorem dX0_nameAll_42 : decode cX0_nameAll 42 = .ok (.iload_n 2, 1) := dk_28 (dk_at dksX0_nameAll_1 18 rfl rfl)
theorem dX0_nameAll_43 : decode cX0_nameAll 43 = .ok (.iaload, 1) := dk_46 (dk_at dksX0_nameAll_1 19 rfl rfl)
theorem dX0_nameAll_44 : decode cX0_nameAll 44 = .ok (.iload_n 3, 1) := dk_29 (dk_at dksX0_nameAll_1 20 rfl rfl)
theorem dX0_nameAll_45 : decode cX0_nameAll 45 = .ok (.bipush (-2), 2) := dk_16 254 (dk_at dksX0_nameAll_1 21 rfl rfl)
theorem dX0_nameAll_47 : decode cX0_nameAll 47 = .ok (.if_icmp .ne 7, 3) := dk_160 0 7 (dk_at dksX0_nameAll_2 0 rfl rfl)
theorem dX0_nameAll_50 : decode cX0_nameAll 50 = .ok (.iconst (-1), 1) := dk_2 (dk_at dksX0_nameAll_2 3 rfl rfl)
theorem dX0_nameAll_51 : decode cX0_nameAll 51 = .ok (.goto 4, 3) := dk_167 0 4 (dk_at dksX0_nameAll_2 4 rfl rfl)
theorem dX0_nameAll_54 : decode cX0_nameAll 54 = .ok (.iload_n 3, 1) := dk_29 (dk_at dksX0_nameAll_2 7 rfl rfl)
theorem dX0_nameAll_55 : decode cX0_nameAll 55 = .ok (.iastore, 1) := dk_79 (dk_at dksX0_nameAll_2 8 rfl rfl)
theorem dX0_nameAll_56 : decode cX0_nameAll 56 = .ok (.iinc 2 1, 3) := dk_132 2 1 (dk_at dksX0_nameAll_2 9 rfl rfl)
theorem dX0_nameAll_59 : decode cX0_nameAll 59 = .ok (.goto (-53), 3) := dk_167 255 203 (dk_at dksX0_nameAll_2 12 rfl rfl)
theorem dX0_nameAll_62 : decode cX0_nameAll 62 = .ok (.return_, 1) := dk_177 (dk_at dksX0_nameAll_2 15 rfl rfl)
abbrev cX0_used : ByteArray := prog_1_method_69_code
def yX0_used : MethodName := ⟨RX0, "used", "(II)I"⟩
def dkwX0_used_4 : List UInt8 := [4, 160, 0, 7, 29, 167, 0, 5, 21, 4, 172]
abbrev dktX0_used_4 : List UInt8 := dkwX0_used_4 ++ []
def dkwX0_used_3 : List UInt8 := [42, 180, 0, 66, 42, 180, 0, 86, 21, 5, 46, 50, 180, 0, 1, 96, 62, 132, 5, 1, 167, 255, 209, 28]
abbrev dktX0_used_3 : List UInt8 := dkwX0_used_3 ++ dktX0_used_4
def dkwX0_used_2 : List UInt8 := [180, 0, 134, 162, 0, 44, 42, 180, 0, 86, 21, 5, 46, 2, 160, 0, 9, 132, 4, 1, 167, 0, 21, 29]
abbrev dktX0_used_2 : List UInt8 := dkwX0_used_2 ++ dktX0_used_3
def dkwX0_used_1 : List UInt8 := [182, 1, 136, 28, 154, 0, 8, 42, 182, 1, 139, 172, 3, 62, 3, 54, 4, 3, 54, 5, 21, 5, 42]
abbrev dktX0_used_1 : List UInt8 := dkwX0_used_1 ++ dktX0_used_2
def dkwX0_used_0 : List UInt8 := [27, 184, 1, 127, 153, 0, 15, 28, 133, 9, 20, 0, 180, 184, 0, 112, 154, 0, 5, 2, 172, 42, 27]
abbrev dktX0_used_0 : List UInt8 := dkwX0_used_0 ++ dktX0_used_1
theorem dksX0_used_0 : cX0_used.data.toList.drop 0 = dktX0_used_0 := by decide +kernel
theorem dksX0_used_1 : cX0_used.data.toList.drop 23 = dktX0_used_1 := dk_seg dksX0_used_0 23 rfl rfl
theorem dksX0_used_2 : cX0_used.data.toList.drop 46 = dktX0_used_2 := dk_seg dksX0_used_1 23 rfl rfl
theorem dksX0_used_3 : cX0_used.data.toList.drop 70 = dktX0_used_3 := dk_seg dksX0_used_2 24 rfl rfl
theorem dksX0_used_4 : cX0_used.data.toList.drop 94 = dktX0_used_4 := dk_seg dksX0_used_3 24 rfl rfl
theorem dX0_used_0 : decode cX0_used 0 = .ok (.iload_n 1, 1) := dk_27 (dk_at dksX0_used_0 0 rfl rfl)
theorem dX0_used_1 : decode cX0_used 1 = .ok (.invokestatic 383, 3) := dk_184 1 127 (dk_at dksX0_used_0 1 rfl rfl)
theorem dX0_used_4 : decode cX0_used 4 = .ok (.ifCond .eq 15, 3) := dk_153 0 15 (dk_at dksX0_used_0 4 rfl rfl)
theorem dX0_used_7 : decode cX0_used 7 = .ok (.iload_n 2, 1) := dk_28 (dk_at dksX0_used_0 7 rfl rfl)
theorem dX0_used_8 : decode cX0_used 8 = .ok (.i2l, 1) := dk_133 (dk_at dksX0_used_0 8 rfl rfl)
theorem dX0_used_9 : decode cX0_used 9 = .ok (.lconst 0, 1) := dk_9 (dk_at dksX0_used_0 9 rfl rfl)
theorem dX0_used_10 : decode cX0_used 10 = .ok (.ldc2_w 180, 3) := dk_20 0 180 (dk_at dksX0_used_0 10 rfl rfl)
theorem dX0_used_13 : decode cX0_used 13 = .ok (.invokestatic 112, 3) := dk_184 0 112 (dk_at dksX0_used_0 13 rfl rfl)
theorem dX0_used_16 : decode cX0_used 16 = .ok (.ifCond .ne 5, 3) := dk_154 0 5 (dk_at dksX0_used_0 16 rfl rfl)
theorem dX0_used_19 : decode cX0_used 19 = .ok (.iconst (-1), 1) := dk_2 (dk_at dksX0_used_0 19 rfl rfl)
theorem dX0_used_20 : decode cX0_used 20 = .ok (.ireturn, 1) := dk_172 (dk_at dksX0_used_0 20 rfl rfl)
theorem dX0_used_21 : decode cX0_used 21 = .ok (.aload_n 0, 1) := dk_42 (dk_at dksX0_used_0 21 rfl rfl)
theorem dX0_used_22 : decode cX0_used 22 = .ok (.iload_n 1, 1) := dk_27 (dk_at dksX0_used_0 22 rfl rfl)
theorem dX0_used_23 : decode cX0_used 23 = .ok (.invokevirtual 392, 3) := dk_182 1 136 (dk_at dksX0_used_1 0 rfl rfl)
theorem dX0_used_26 : decode cX0_used 26 = .ok (.iload_n 2, 1) := dk_28 (dk_at dksX0_used_1 3 rfl rfl)
theorem dX0_used_27 : decode cX0_used 27 = .ok (.ifCond .ne 8, 3) := dk_154 0 8 (dk_at dksX0_used_1 4 rfl rfl)
theorem dX0_used_30 : decode cX0_used 30 = .ok (.aload_n 0, 1) := dk_42 (dk_at dksX0_used_1 7 rfl rfl)
theorem dX0_used_31 : decode cX0_used 31 = .ok (.invokevirtual 395, 3) := dk_182 1 139 (dk_at dksX0_used_1 8 rfl rfl)
theorem dX0_used_34 : decode cX0_used 34 = .ok (.ireturn, 1) := dk_172 (dk_at dksX0_used_1 11 rfl rfl)
theorem dX0_used_35 : decode cX0_used 35 = .ok (.iconst 0, 1) := dk_3 (dk_at dksX0_used_1 12 rfl rfl)
theorem dX0_used_36 : decode cX0_used 36 = .ok (.istore_n 3, 1) := dk_62 (dk_at dksX0_used_1 13 rfl rfl)
theorem dX0_used_37 : decode cX0_used 37 = .ok (.iconst 0, 1) := dk_3 (dk_at dksX0_used_1 14 rfl rfl)
theorem dX0_used_38 : decode cX0_used 38 = .ok (.istore 4, 2) := dk_54 4 (dk_at dksX0_used_1 15 rfl rfl)
theorem dX0_used_40 : decode cX0_used 40 = .ok (.iconst 0, 1) := dk_3 (dk_at dksX0_used_1 17 rfl rfl)
theorem dX0_used_41 : decode cX0_used 41 = .ok (.istore 5, 2) := dk_54 5 (dk_at dksX0_used_1 18 rfl rfl)
theorem dX0_used_43 : decode cX0_used 43 = .ok (.iload 5, 2) := dk_21 5 (dk_at dksX0_used_1 20 rfl rfl)
theorem dX0_used_45 : decode cX0_used 45 = .ok (.aload_n 0, 1) := dk_42 (dk_at dksX0_used_1 22 rfl rfl)
theorem dX0_used_46 : decode cX0_used 46 = .ok (.getfield 134, 3) := dk_180 0 134 (dk_at dksX0_used_2 0 rfl rfl)
theorem dX0_used_49 : decode cX0_used 49 = .ok (.if_icmp .ge 44, 3) := dk_162 0 44 (dk_at dksX0_used_2 3 rfl rfl)
theorem dX0_used_52 : decode cX0_used 52 = .ok (.aload_n 0, 1) := dk_42 (dk_at dksX0_used_2 6 rfl rfl)
theorem dX0_used_53 : decode cX0_used 53 = .ok (.getfield 86, 3) := dk_180 0 86 (dk_at dksX0_used_2 7 rfl rfl)
theorem dX0_used_56 : decode cX0_used 56 = .ok (.iload 5, 2) := dk_21 5 (dk_at dksX0_used_2 10 rfl rfl)
theorem dX0_used_58 : decode cX0_used 58 = .ok (.iaload, 1) := dk_46 (dk_at dksX0_used_2 12 rfl rfl)
theorem dX0_used_59 : decode cX0_used 59 = .ok (.iconst (-1), 1) := dk_2 (dk_at dksX0_used_2 13 rfl rfl)
theorem dX0_used_60 : decode cX0_used 60 = .ok (.if_icmp .ne 9, 3) := dk_160 0 9 (dk_at dksX0_used_2 14 rfl rfl)
theorem dX0_used_63 : decode cX0_used 63 = .ok (.iinc 4 1, 3) := dk_132 4 1 (dk_at dksX0_used_2 17 rfl rfl)
theorem dX0_used_66 : decode cX0_used 66 = .ok (.goto 21, 3) := dk_167 0 21 (dk_at dksX0_used_2 20 rfl rfl)
theorem dX0_used_69 : decode cX0_used 69 = .ok (.iload_n 3, 1) := dk_29 (dk_at dksX0_used_2 23 rfl rfl)
theorem dX0_used_70 : decode cX0_used 70 = .ok (.aload_n 0, 1) := dk_42 (dk_at dksX0_used_3 0 rfl rfl)
theorem dX0_used_71 : decode cX0_used 71 = .ok (.getfield 66, 3) := dk_180 0 66 (dk_at dksX0_used_3 1 rfl rfl)
theorem dX0_used_74 : decode cX0_used 74 = .ok (.aload_n 0, 1) := dk_42 (dk_at dksX0_used_3 4 rfl rfl)
theorem dX0_used_75 : decode cX0_used 75 = .ok (.getfield 86, 3) := dk_180 0 86 (dk_at dksX0_used_3 5 rfl rfl)
theorem dX0_used_78 : decode cX0_used 78 = .ok (.iload 5, 2) := dk_21 5 (dk_at dksX0_used_3 8 rfl rfl)
theorem dX0_used_80 : decode cX0_used 80 = .ok (.iaload, 1) := dk_46 (dk_at dksX0_used_3 10 rfl rfl)
theorem dX0_used_81 : decode cX0_used 81 = .ok (.aaload, 1) := dk_50 (dk_at dksX0_used_3 11 rfl rfl)
theorem dX0_used_82 : decode cX0_used 82 = .ok (.getfield 1, 3) := dk_180 0 1 (dk_at dksX0_used_3 12 rfl rfl)
theorem dX0_used_85 : decode cX0_used 85 = .ok (.iadd, 1) := dk_96 (dk_at dksX0_used_3 15 rfl rfl)
theorem dX0_used_86 : decode cX0_used 86 = .ok (.istore_n 3, 1) := dk_62 (dk_at dksX0_used_3 16 rfl rfl)
theorem dX0_used_87 : decode cX0_used 87 = .ok (.iinc 5 1, 3) := dk_132 5 1 (dk_at dksX0_used_3 17 rfl rfl)
theorem dX0_used_90 : decode cX0_used 90 = .ok (.goto (-47), 3) := dk_167 255 209 (dk_at dksX0_used_3 20 rfl rfl)
theorem dX0_used_93 : decode cX0_used 93 = .ok (.iload_n 2, 1) := dk_28 (dk_at dksX0_used_3 23 rfl rfl)
theorem dX0_used_94 : decode cX0_used 94 = .ok (.iconst 1, 1) := dk_4 (dk_at dksX0_used_4 0 rfl rfl)
theorem dX0_used_95 : decode cX0_used 95 = .ok (.if_icmp .ne 7, 3) := dk_160 0 7 (dk_at dksX0_used_4 1 rfl rfl)
theorem dX0_used_98 : decode cX0_used 98 = .ok (.iload_n 3, 1) := dk_29 (dk_at dksX0_used_4 4 rfl rfl)
theorem dX0_used_99 : decode cX0_used 99 = .ok (.goto 5, 3) := dk_167 0 5 (dk_at dksX0_used_4 5 rfl rfl)
theorem dX0_used_102 : decode cX0_used 102 = .ok (.iload 4, 2) := dk_21 4 (dk_at dksX0_used_4 8 rfl rfl)
theorem dX0_used_104 : decode cX0_used 104 = .ok (.ireturn, 1) := dk_172 (dk_at dksX0_used_4 10 rfl rfl)
abbrev cX0_namesUsed : ByteArray := prog_1_method_67_code
def yX0_namesUsed : MethodName := ⟨RX0, "namesUsed", "()I"⟩
def dkwX0_namesUsed_1 : List UInt8 := [42, 180, 0, 86, 28, 46, 120, 128, 60, 132, 2, 1, 167, 255, 224, 27, 184, 1, 114, 172]
abbrev dktX0_namesUsed_1 : List UInt8 := dkwX0_namesUsed_1 ++ []
def dkwX0_namesUsed_0 : List UInt8 := [3, 60, 3, 61, 28, 42, 180, 0, 134, 162, 0, 30, 42, 180, 0, 86, 28, 46, 2, 159, 0, 14, 27, 4]
abbrev dktX0_namesUsed_0 : List UInt8 := dkwX0_namesUsed_0 ++ dktX0_namesUsed_1
theorem dksX0_namesUsed_0 : cX0_namesUsed.data.toList.drop 0 = dktX0_namesUsed_0 := by decide +kernel
theorem dksX0_namesUsed_1 : cX0_namesUsed.data.toList.drop 24 = dktX0_namesUsed_1 := dk_seg dksX0_namesUsed_0 24 rfl rfl
theorem dX0_namesUsed_0 : decode cX0_namesUsed 0 = .ok (.iconst 0, 1) := dk_3 (dk_at dksX0_namesUsed_0 0 rfl rfl)
theorem dX0_namesUsed_1 : decode cX0_namesUsed 1 = .ok (.istore_n 1, 1) := dk_60 (dk_at dksX0_namesUsed_0 1 rfl rfl)
theorem dX0_namesUsed_2 : decode cX0_namesUsed 2 = .ok (.iconst 0, 1) := dk_3 (dk_at dksX0_namesUsed_0 2 rfl rfl)
theorem dX0_namesUsed_3 : decode cX0_namesUsed 3 = .ok (.istore_n 2, 1) := dk_61 (dk_at dksX0_namesUsed_0 3 rfl rfl)
theorem dX0_namesUsed_4 : decode cX0_namesUsed 4 = .ok (.iload_n 2, 1) := dk_28 (dk_at dksX0_namesUsed_0 4 rfl rfl)
theorem dX0_namesUsed_5 : decode cX0_namesUsed 5 = .ok (.aload_n 0, 1) := dk_42 (dk_at dksX0_namesUsed_0 5 rfl rfl)
theorem dX0_namesUsed_6 : decode cX0_namesUsed 6 = .ok (.getfield 134, 3) := dk_180 0 134 (dk_at dksX0_namesUsed_0 6 rfl rfl)
theorem dX0_namesUsed_9 : decode cX0_namesUsed 9 = .ok (.if_icmp .ge 30, 3) := dk_162 0 30 (dk_at dksX0_namesUsed_0 9 rfl rfl)
theorem dX0_namesUsed_12 : decode cX0_namesUsed 12 = .ok (.aload_n 0, 1) := dk_42 (dk_at dksX0_namesUsed_0 12 rfl rfl)
theorem dX0_namesUsed_13 : decode cX0_namesUsed 13 = .ok (.getfield 86, 3) := dk_180 0 86 (dk_at dksX0_namesUsed_0 13 rfl rfl)
theorem dX0_namesUsed_16 : decode cX0_namesUsed 16 = .ok (.iload_n 2, 1) := dk_28 (dk_at dksX0_namesUsed_0 16 rfl rfl)
theorem dX0_namesUsed_17 : decode cX0_namesUsed 17 = .ok (.iaload, 1) := dk_46 (dk_at dksX0_namesUsed_0 17 rfl rfl)
theorem dX0_namesUsed_18 : decode cX0_namesUsed 18 = .ok (.iconst (-1), 1) := dk_2 (dk_at dksX0_namesUsed_0 18 rfl rfl)
theorem dX0_namesUsed_19 : decode cX0_namesUsed 19 = .ok (.if_icmp .eq 14, 3) := dk_159 0 14 (dk_at dksX0_namesUsed_0 19 rfl rfl)
theorem dX0_namesUsed_22 : decode cX0_namesUsed 22 = .ok (.iload_n 1, 1) := dk_27 (dk_at dksX0_namesUsed_0 22 rfl rfl)
theorem dX0_namesUsed_23 : decode cX0_namesUsed 23 = .ok (.iconst 1, 1) := dk_4 (dk_at dksX0_namesUsed_0 23 rfl rfl)
theorem dX0_namesUsed_24 : decode cX0_namesUsed 24 = .ok (.aload_n 0, 1) := dk_42 (dk_at dksX0_namesUsed_1 0 rfl rfl)
theorem dX0_namesUsed_25 : decode cX0_namesUsed 25 = .ok (.getfield 86, 3) := dk_180 0 86 (dk_at dksX0_namesUsed_1 1 rfl rfl)
theorem dX0_namesUsed_28 : decode cX0_namesUsed 28 = .ok (.iload_n 2, 1) := dk_28 (dk_at dksX0_namesUsed_1 4 rfl rfl)
theorem dX0_namesUsed_29 : decode cX0_namesUsed 29 = .ok (.iaload, 1) := dk_46 (dk_at dksX0_namesUsed_1 5 rfl rfl)
theorem dX0_namesUsed_30 : decode cX0_namesUsed 30 = .ok (.ishl, 1) := dk_120 (dk_at dksX0_namesUsed_1 6 rfl rfl)
theorem dX0_namesUsed_31 : decode cX0_namesUsed 31 = .ok (.ior, 1) := dk_128 (dk_at dksX0_namesUsed_1 7 rfl rfl)
theorem dX0_namesUsed_32 : decode cX0_namesUsed 32 = .ok (.istore_n 1, 1) := dk_60 (dk_at dksX0_namesUsed_1 8 rfl rfl)
theorem dX0_namesUsed_33 : decode cX0_namesUsed 33 = .ok (.iinc 2 1, 3) := dk_132 2 1 (dk_at dksX0_namesUsed_1 9 rfl rfl)
theorem dX0_namesUsed_36 : decode cX0_namesUsed 36 = .ok (.goto (-32), 3) := dk_167 255 224 (dk_at dksX0_namesUsed_1 12 rfl rfl)
theorem dX0_namesUsed_39 : decode cX0_namesUsed 39 = .ok (.iload_n 1, 1) := dk_27 (dk_at dksX0_namesUsed_1 15 rfl rfl)
theorem dX0_namesUsed_40 : decode cX0_namesUsed 40 = .ok (.invokestatic 370, 3) := dk_184 1 114 (dk_at dksX0_namesUsed_1 16 rfl rfl)
theorem dX0_namesUsed_43 : decode cX0_namesUsed 43 = .ok (.ireturn, 1) := dk_172 (dk_at dksX0_namesUsed_1 19 rfl rfl)
abbrev cX0_apart : ByteArray := prog_1_method_71_code
def yX0_apart : MethodName := ⟨RX0, "apart", "(II)I"⟩
def dkwX0_apart_7 : List UInt8 := [132, 5, 1, 167, 255, 205, 21, 4, 172]
abbrev dktX0_apart_7 : List UInt8 := dkwX0_apart_7 ++ []
def dkwX0_apart_6 : List UInt8 := [21, 4, 184, 1, 114, 162, 0, 18, 42, 27, 28, 21, 5, 182, 1, 142, 153, 0, 7, 21, 5, 54, 4]
abbrev dktX0_apart_6 : List UInt8 := dkwX0_apart_6 ++ dktX0_apart_7
def dkwX0_apart_5 : List UInt8 := [4, 42, 180, 0, 141, 120, 162, 0, 46, 21, 5, 29, 2, 130, 126, 154, 0, 31, 21, 5, 184, 1, 114]
abbrev dktX0_apart_5 : List UInt8 := dkwX0_apart_5 ++ dktX0_apart_6
def dkwX0_apart_4 : List UInt8 := [167, 255, 221, 42, 27, 28, 29, 182, 1, 142, 154, 0, 6, 16, 254, 172, 29, 54, 4, 3, 54, 5, 21, 5]
abbrev dktX0_apart_4 : List UInt8 := dkwX0_apart_4 ++ dktX0_apart_5
def dkwX0_apart_3 : List UInt8 := [21, 4, 50, 180, 0, 201, 28, 164, 0, 12, 29, 4, 21, 4, 120, 2, 130, 126, 62, 132, 4, 1]
abbrev dktX0_apart_3 : List UInt8 := dkwX0_apart_3 ++ dktX0_apart_4
def dkwX0_apart_2 : List UInt8 := [128, 62, 132, 4, 1, 167, 255, 229, 3, 54, 4, 21, 4, 42, 180, 0, 141, 162, 0, 32, 42, 180, 0, 59]
abbrev dktX0_apart_2 : List UInt8 := dkwX0_apart_2 ++ dktX0_apart_3
def dkwX0_apart_1 : List UInt8 := [54, 4, 21, 4, 42, 180, 0, 141, 162, 0, 24, 29, 42, 21, 4, 182, 0, 247, 184, 0, 223, 21, 4, 120]
abbrev dktX0_apart_1 : List UInt8 := dkwX0_apart_1 ++ dktX0_apart_2
def dkwX0_apart_0 : List UInt8 := [27, 184, 0, 182, 153, 0, 10, 28, 184, 0, 144, 154, 0, 5, 2, 172, 42, 182, 1, 105, 3, 62, 3]
abbrev dktX0_apart_0 : List UInt8 := dkwX0_apart_0 ++ dktX0_apart_1
theorem dksX0_apart_0 : cX0_apart.data.toList.drop 0 = dktX0_apart_0 := by decide +kernel
theorem dksX0_apart_1 : cX0_apart.data.toList.drop 23 = dktX0_apart_1 := dk_seg dksX0_apart_0 23 rfl rfl
theorem dksX0_apart_2 : cX0_apart.data.toList.drop 47 = dktX0_apart_2 := dk_seg dksX0_apart_1 24 rfl rfl
theorem dksX0_apart_3 : cX0_apart.data.toList.drop 71 = dktX0_apart_3 := dk_seg dksX0_apart_2 24 rfl rfl
theorem dksX0_apart_4 : cX0_apart.data.toList.drop 93 = dktX0_apart_4 := dk_seg dksX0_apart_3 22 rfl rfl
theorem dksX0_apart_5 : cX0_apart.data.toList.drop 117 = dktX0_apart_5 := dk_seg dksX0_apart_4 24 rfl rfl
theorem dksX0_apart_6 : cX0_apart.data.toList.drop 140 = dktX0_apart_6 := dk_seg dksX0_apart_5 23 rfl rfl
theorem dksX0_apart_7 : cX0_apart.data.toList.drop 163 = dktX0_apart_7 := dk_seg dksX0_apart_6 23 rfl rfl
theorem dX0_apart_0 : decode cX0_apart 0 = .ok (.iload_n 1, 1) := dk_27 (dk_at dksX0_apart_0 0 rfl rfl)
theorem dX0_apart_1 : decode cX0_apart 1 = .ok (.invokestatic 182, 3) := dk_184 0 182 (dk_at dksX0_apart_0 1 rfl rfl)
theorem dX0_apart_4 : decode cX0_apart 4 = .ok (.ifCond .eq 10, 3) := dk_153 0 10 (dk_at dksX0_apart_0 4 rfl rfl)
theorem dX0_apart_7 : decode cX0_apart 7 = .ok (.iload_n 2, 1) := dk_28 (dk_at dksX0_apart_0 7 rfl rfl)
theorem dX0_apart_8 : decode cX0_apart 8 = .ok (.invokestatic 144, 3) := dk_184 0 144 (dk_at dksX0_apart_0 8 rfl rfl)
theorem dX0_apart_11 : decode cX0_apart 11 = .ok (.ifCond .ne 5, 3) := dk_154 0 5 (dk_at dksX0_apart_0 11 rfl rfl)
theorem dX0_apart_14 : decode cX0_apart 14 = .ok (.iconst (-1), 1) := dk_2 (dk_at dksX0_apart_0 14 rfl rfl)
theorem dX0_apart_15 : decode cX0_apart 15 = .ok (.ireturn, 1) := dk_172 (dk_at dksX0_apart_0 15 rfl rfl)
theorem dX0_apart_16 : decode cX0_apart 16 = .ok (.aload_n 0, 1) := dk_42 (dk_at dksX0_apart_0 16 rfl rfl)
theorem dX0_apart_17 : decode cX0_apart 17 = .ok (.invokevirtual 361, 3) := dk_182 1 105 (dk_at dksX0_apart_0 17 rfl rfl)
theorem dX0_apart_20 : decode cX0_apart 20 = .ok (.iconst 0, 1) := dk_3 (dk_at dksX0_apart_0 20 rfl rfl)
theorem dX0_apart_21 : decode cX0_apart 21 = .ok (.istore_n 3, 1) := dk_62 (dk_at dksX0_apart_0 21 rfl rfl)
theorem dX0_apart_22 : decode cX0_apart 22 = .ok (.iconst 0, 1) := dk_3 (dk_at dksX0_apart_0 22 rfl rfl)
theorem dX0_apart_23 : decode cX0_apart 23 = .ok (.istore 4, 2) := dk_54 4 (dk_at dksX0_apart_1 0 rfl rfl)
theorem dX0_apart_25 : decode cX0_apart 25 = .ok (.iload 4, 2) := dk_21 4 (dk_at dksX0_apart_1 2 rfl rfl)
theorem dX0_apart_27 : decode cX0_apart 27 = .ok (.aload_n 0, 1) := dk_42 (dk_at dksX0_apart_1 4 rfl rfl)
theorem dX0_apart_28 : decode cX0_apart 28 = .ok (.getfield 141, 3) := dk_180 0 141 (dk_at dksX0_apart_1 5 rfl rfl)
theorem dX0_apart_31 : decode cX0_apart 31 = .ok (.if_icmp .ge 24, 3) := dk_162 0 24 (dk_at dksX0_apart_1 8 rfl rfl)
theorem dX0_apart_34 : decode cX0_apart 34 = .ok (.iload_n 3, 1) := dk_29 (dk_at dksX0_apart_1 11 rfl rfl)
theorem dX0_apart_35 : decode cX0_apart 35 = .ok (.aload_n 0, 1) := dk_42 (dk_at dksX0_apart_1 12 rfl rfl)
theorem dX0_apart_36 : decode cX0_apart 36 = .ok (.iload 4, 2) := dk_21 4 (dk_at dksX0_apart_1 13 rfl rfl)
theorem dX0_apart_38 : decode cX0_apart 38 = .ok (.invokevirtual 247, 3) := dk_182 0 247 (dk_at dksX0_apart_1 15 rfl rfl)
theorem dX0_apart_41 : decode cX0_apart 41 = .ok (.invokestatic 223, 3) := dk_184 0 223 (dk_at dksX0_apart_1 18 rfl rfl)
theorem dX0_apart_44 : decode cX0_apart 44 = .ok (.iload 4, 2) := dk_21 4 (dk_at dksX0_apart_1 21 rfl rfl)
theorem dX0_apart_46 : decode cX0_apart 46 = .ok (.ishl, 1) := dk_120 (dk_at dksX0_apart_1 23 rfl rfl)
theorem dX0_apart_47 : decode cX0_apart 47 = .ok (.ior, 1) := dk_128 (dk_at dksX0_apart_2 0 rfl rfl)
theorem dX0_apart_48 : decode cX0_apart 48 = .ok (.istore_n 3, 1) := dk_62 (dk_at dksX0_apart_2 1 rfl rfl)
theorem dX0_apart_49 : decode cX0_apart 49 = .ok (.iinc 4 1, 3) := dk_132 4 1 (dk_at dksX0_apart_2 2 rfl rfl)
theorem dX0_apart_52 : decode cX0_apart 52 = .ok (.goto (-27), 3) := dk_167 255 229 (dk_at dksX0_apart_2 5 rfl rfl)
theorem dX0_apart_55 : decode cX0_apart 55 = .ok (.iconst 0, 1) := dk_3 (dk_at dksX0_apart_2 8 rfl rfl)
theorem dX0_apart_56 : decode cX0_apart 56 = .ok (.istore 4, 2) := dk_54 4 (dk_at dksX0_apart_2 9 rfl rfl)
theorem dX0_apart_58 : decode cX0_apart 58 = .ok (.iload 4, 2) := dk_21 4 (dk_at dksX0_apart_2 11 rfl rfl)
theorem dX0_apart_60 : decode cX0_apart 60 = .ok (.aload_n 0, 1) := dk_42 (dk_at dksX0_apart_2 13 rfl rfl)
theorem dX0_apart_61 : decode cX0_apart 61 = .ok (.getfield 141, 3) := dk_180 0 141 (dk_at dksX0_apart_2 14 rfl rfl)
theorem dX0_apart_64 : decode cX0_apart 64 = .ok (.if_icmp .ge 32, 3) := dk_162 0 32 (dk_at dksX0_apart_2 17 rfl rfl)
theorem dX0_apart_67 : decode cX0_apart 67 = .ok (.aload_n 0, 1) := dk_42 (dk_at dksX0_apart_2 20 rfl rfl)
theorem dX0_apart_68 : decode cX0_apart 68 = .ok (.getfield 59, 3) := dk_180 0 59 (dk_at dksX0_apart_2 21 rfl rfl)
theorem dX0_apart_71 : decode cX0_apart 71 = .ok (.iload 4, 2) := dk_21 4 (dk_at dksX0_apart_3 0 rfl rfl)
theorem dX0_apart_73 : decode cX0_apart 73 = .ok (.aaload, 1) := dk_50 (dk_at dksX0_apart_3 2 rfl rfl)
theorem dX0_apart_74 : decode cX0_apart 74 = .ok (.getfield 201, 3) := dk_180 0 201 (dk_at dksX0_apart_3 3 rfl rfl)
theorem dX0_apart_77 : decode cX0_apart 77 = .ok (.iload_n 2, 1) := dk_28 (dk_at dksX0_apart_3 6 rfl rfl)
theorem dX0_apart_78 : decode cX0_apart 78 = .ok (.if_icmp .le 12, 3) := dk_164 0 12 (dk_at dksX0_apart_3 7 rfl rfl)
theorem dX0_apart_81 : decode cX0_apart 81 = .ok (.iload_n 3, 1) := dk_29 (dk_at dksX0_apart_3 10 rfl rfl)
theorem dX0_apart_82 : decode cX0_apart 82 = .ok (.iconst 1, 1) := dk_4 (dk_at dksX0_apart_3 11 rfl rfl)
theorem dX0_apart_83 : decode cX0_apart 83 = .ok (.iload 4, 2) := dk_21 4 (dk_at dksX0_apart_3 12 rfl rfl)
theorem dX0_apart_85 : decode cX0_apart 85 = .ok (.ishl, 1) := dk_120 (dk_at dksX0_apart_3 14 rfl rfl)
theorem dX0_apart_86 : decode cX0_apart 86 = .ok (.iconst (-1), 1) := dk_2 (dk_at dksX0_apart_3 15 rfl rfl)
theorem dX0_apart_87 : decode cX0_apart 87 = .ok (.ixor, 1) := dk_130 (dk_at dksX0_apart_3 16 rfl rfl)
theorem dX0_apart_88 : decode cX0_apart 88 = .ok (.iand, 1) := dk_126 (dk_at dksX0_apart_3 17 rfl rfl)
theorem dX0_apart_89 : decode cX0_apart 89 = .ok (.istore_n 3, 1) := dk_62 (dk_at dksX0_apart_3 18 rfl rfl)
theorem dX0_apart_90 : decode cX0_apart 90 = .ok (.iinc 4 1, 3) := dk_132 4 1 (dk_at dksX0_apart_3 19 rfl rfl)
theorem dX0_apart_93 : decode cX0_apart 93 = .ok (.goto (-35), 3) := dk_167 255 221 (dk_at dksX0_apart_4 0 rfl rfl)
theorem dX0_apart_96 : decode cX0_apart 96 = .ok (.aload_n 0, 1) := dk_42 (dk_at dksX0_apart_4 3 rfl rfl)
theorem dX0_apart_97 : decode cX0_apart 97 = .ok (.iload_n 1, 1) := dk_27 (dk_at dksX0_apart_4 4 rfl rfl)
theorem dX0_apart_98 : decode cX0_apart 98 = .ok (.iload_n 2, 1) := dk_28 (dk_at dksX0_apart_4 5 rfl rfl)
theorem dX0_apart_99 : decode cX0_apart 99 = .ok (.iload_n 3, 1) := dk_29 (dk_at dksX0_apart_4 6 rfl rfl)
theorem dX0_apart_100 : decode cX0_apart 100 = .ok (.invokevirtual 398, 3) := dk_182 1 142 (dk_at dksX0_apart_4 7 rfl rfl)
theorem dX0_apart_103 : decode cX0_apart 103 = .ok (.ifCond .ne 6, 3) := dk_154 0 6 (dk_at dksX0_apart_4 10 rfl rfl)
theorem dX0_apart_106 : decode cX0_apart 106 = .ok (.bipush (-2), 2) := dk_16 254 (dk_at dksX0_apart_4 13 rfl rfl)
theorem dX0_apart_108 : decode cX0_apart 108 = .ok (.ireturn, 1) := dk_172 (dk_at dksX0_apart_4 15 rfl rfl)
theorem dX0_apart_109 : decode cX0_apart 109 = .ok (.iload_n 3, 1) := dk_29 (dk_at dksX0_apart_4 16 rfl rfl)
theorem dX0_apart_110 : decode cX0_apart 110 = .ok (.istore 4, 2) := dk_54 4 (dk_at dksX0_apart_4 17 rfl rfl)
theorem dX0_apart_112 : decode cX0_apart 112 = .ok (.iconst 0, 1) := dk_3 (dk_at dksX0_apart_4 19 rfl rfl)
theorem dX0_apart_113 : decode cX0_apart 113 = .ok (.istore 5, 2) := dk_54 5 (dk_at dksX0_apart_4 20 rfl rfl)
theorem dX0_apart_115 : decode cX0_apart 115 = .ok (.iload 5, 2) := dk_21 5 (dk_at dksX0_apart_4 22 rfl rfl)
theorem dX0_apart_117 : decode cX0_apart 117 = .ok (.iconst 1, 1) := dk_4 (dk_at dksX0_apart_5 0 rfl rfl)
theorem dX0_apart_118 : decode cX0_apart 118 = .ok (.aload_n 0, 1) := dk_42 (dk_at dksX0_apart_5 1 rfl rfl)
theorem dX0_apart_119 : decode cX0_apart 119 = .ok (.getfield 141, 3) := dk_180 0 141 (dk_at dksX0_apart_5 2 rfl rfl)
theorem dX0_apart_122 : decode cX0_apart 122 = .ok (.ishl, 1) := dk_120 (dk_at dksX0_apart_5 5 rfl rfl)
theorem dX0_apart_123 : decode cX0_apart 123 = .ok (.if_icmp .ge 46, 3) := dk_162 0 46 (dk_at dksX0_apart_5 6 rfl rfl)
theorem dX0_apart_126 : decode cX0_apart 126 = .ok (.iload 5, 2) := dk_21 5 (dk_at dksX0_apart_5 9 rfl rfl)
theorem dX0_apart_128 : decode cX0_apart 128 = .ok (.iload_n 3, 1) := dk_29 (dk_at dksX0_apart_5 11 rfl rfl)
theorem dX0_apart_129 : decode cX0_apart 129 = .ok (.iconst (-1), 1) := dk_2 (dk_at dksX0_apart_5 12 rfl rfl)
theorem dX0_apart_130 : decode cX0_apart 130 = .ok (.ixor, 1) := dk_130 (dk_at dksX0_apart_5 13 rfl rfl)
theorem dX0_apart_131 : decode cX0_apart 131 = .ok (.iand, 1) := dk_126 (dk_at dksX0_apart_5 14 rfl rfl)
theorem dX0_apart_132 : decode cX0_apart 132 = .ok (.ifCond .ne 31, 3) := dk_154 0 31 (dk_at dksX0_apart_5 15 rfl rfl)
theorem dX0_apart_135 : decode cX0_apart 135 = .ok (.iload 5, 2) := dk_21 5 (dk_at dksX0_apart_5 18 rfl rfl)
theorem dX0_apart_137 : decode cX0_apart 137 = .ok (.invokestatic 370, 3) := dk_184 1 114 (dk_at dksX0_apart_5 20 rfl rfl)
theorem dX0_apart_140 : decode cX0_apart 140 = .ok (.iload 4, 2) := dk_21 4 (dk_at dksX0_apart_6 0 rfl rfl)
theorem dX0_apart_142 : decode cX0_apart 142 = .ok (.invokestatic 370, 3) := dk_184 1 114 (dk_at dksX0_apart_6 2 rfl rfl)
theorem dX0_apart_145 : decode cX0_apart 145 = .ok (.if_icmp .ge 18, 3) := dk_162 0 18 (dk_at dksX0_apart_6 5 rfl rfl)
theorem dX0_apart_148 : decode cX0_apart 148 = .ok (.aload_n 0, 1) := dk_42 (dk_at dksX0_apart_6 8 rfl rfl)
theorem dX0_apart_149 : decode cX0_apart 149 = .ok (.iload_n 1, 1) := dk_27 (dk_at dksX0_apart_6 9 rfl rfl)
theorem dX0_apart_150 : decode cX0_apart 150 = .ok (.iload_n 2, 1) := dk_28 (dk_at dksX0_apart_6 10 rfl rfl)
theorem dX0_apart_151 : decode cX0_apart 151 = .ok (.iload 5, 2) := dk_21 5 (dk_at dksX0_apart_6 11 rfl rfl)
theorem dX0_apart_153 : decode cX0_apart 153 = .ok (.invokevirtual 398, 3) := dk_182 1 142 (dk_at dksX0_apart_6 13 rfl rfl)
theorem dX0_apart_156 : decode cX0_apart 156 = .ok (.ifCond .eq 7, 3) := dk_153 0 7 (dk_at dksX0_apart_6 16 rfl rfl)
theorem dX0_apart_159 : decode cX0_apart 159 = .ok (.iload 5, 2) := dk_21 5 (dk_at dksX0_apart_6 19 rfl rfl)
theorem dX0_apart_161 : decode cX0_apart 161 = .ok (.istore 4, 2) := dk_54 4 (dk_at dksX0_apart_6 21 rfl rfl)
theorem dX0_apart_163 : decode cX0_apart 163 = .ok (.iinc 5 1, 3) := dk_132 5 1 (dk_at dksX0_apart_7 0 rfl rfl)
theorem dX0_apart_166 : decode cX0_apart 166 = .ok (.goto (-51), 3) := dk_167 255 205 (dk_at dksX0_apart_7 3 rfl rfl)
theorem dX0_apart_169 : decode cX0_apart 169 = .ok (.iload 4, 2) := dk_21 4 (dk_at dksX0_apart_7 6 rfl rfl)
theorem dX0_apart_171 : decode cX0_apart 171 = .ok (.ireturn, 1) := dk_172 (dk_at dksX0_apart_7 8 rfl rfl)
abbrev cX0_isFreeWithout : ByteArray := prog_1_method_70_code
def yX0_isFreeWithout : MethodName := ⟨RX0, "isFreeWithout", "(III)Z"⟩
def dkwX0_isFreeWithout_0 : List UInt8 := [42, 28, 29, 182, 1, 86, 42, 27, 28, 182, 1, 102, 154, 0, 7, 4, 167, 0, 4, 3, 172]
abbrev dktX0_isFreeWithout_0 : List UInt8 := dkwX0_isFreeWithout_0 ++ []
theorem dksX0_isFreeWithout_0 : cX0_isFreeWithout.data.toList.drop 0 = dktX0_isFreeWithout_0 := by decide +kernel
theorem dX0_isFreeWithout_0 : decode cX0_isFreeWithout 0 = .ok (.aload_n 0, 1) := dk_42 (dk_at dksX0_isFreeWithout_0 0 rfl rfl)
theorem dX0_isFreeWithout_1 : decode cX0_isFreeWithout 1 = .ok (.iload_n 2, 1) := dk_28 (dk_at dksX0_isFreeWithout_0 1 rfl rfl)
theorem dX0_isFreeWithout_2 : decode cX0_isFreeWithout 2 = .ok (.iload_n 3, 1) := dk_29 (dk_at dksX0_isFreeWithout_0 2 rfl rfl)
theorem dX0_isFreeWithout_3 : decode cX0_isFreeWithout 3 = .ok (.invokevirtual 342, 3) := dk_182 1 86 (dk_at dksX0_isFreeWithout_0 3 rfl rfl)
theorem dX0_isFreeWithout_6 : decode cX0_isFreeWithout 6 = .ok (.aload_n 0, 1) := dk_42 (dk_at dksX0_isFreeWithout_0 6 rfl rfl)
theorem dX0_isFreeWithout_7 : decode cX0_isFreeWithout 7 = .ok (.iload_n 1, 1) := dk_27 (dk_at dksX0_isFreeWithout_0 7 rfl rfl)
theorem dX0_isFreeWithout_8 : decode cX0_isFreeWithout 8 = .ok (.iload_n 2, 1) := dk_28 (dk_at dksX0_isFreeWithout_0 8 rfl rfl)
theorem dX0_isFreeWithout_9 : decode cX0_isFreeWithout 9 = .ok (.invokevirtual 358, 3) := dk_182 1 102 (dk_at dksX0_isFreeWithout_0 9 rfl rfl)
theorem dX0_isFreeWithout_12 : decode cX0_isFreeWithout 12 = .ok (.ifCond .ne 7, 3) := dk_154 0 7 (dk_at dksX0_isFreeWithout_0 12 rfl rfl)
theorem dX0_isFreeWithout_15 : decode cX0_isFreeWithout 15 = .ok (.iconst 1, 1) := dk_4 (dk_at dksX0_isFreeWithout_0 15 rfl rfl)
theorem dX0_isFreeWithout_16 : decode cX0_isFreeWithout 16 = .ok (.goto 4, 3) := dk_167 0 4 (dk_at dksX0_isFreeWithout_0 16 rfl rfl)
theorem dX0_isFreeWithout_19 : decode cX0_isFreeWithout 19 = .ok (.iconst 0, 1) := dk_3 (dk_at dksX0_isFreeWithout_0 19 rfl rfl)
theorem dX0_isFreeWithout_20 : decode cX0_isFreeWithout 20 = .ok (.ireturn, 1) := dk_172 (dk_at dksX0_isFreeWithout_0 20 rfl rfl)
abbrev cX0_freed : ByteArray := prog_1_method_72_code
def yX0_freed : MethodName := ⟨RX0, "freed", "(II)I"⟩
def dkwX0_freed_3 : List UInt8 := [21, 4, 120, 128, 62, 132, 4, 1, 167, 255, 209, 29, 172]
abbrev dktX0_freed_3 : List UInt8 := dkwX0_freed_3 ++ []
def dkwX0_freed_2 : List UInt8 := [154, 0, 20, 42, 21, 4, 28, 182, 1, 99, 4, 27, 120, 160, 0, 7, 4, 167, 0, 4, 3, 184, 0, 223]
abbrev dktX0_freed_2 : List UInt8 := dkwX0_freed_2 ++ dktX0_freed_3
def dkwX0_freed_1 : List UInt8 := [182, 1, 86, 3, 62, 3, 54, 4, 21, 4, 16, 12, 162, 0, 46, 29, 42, 21, 4, 28, 182, 1, 96]
abbrev dktX0_freed_1 : List UInt8 := dkwX0_freed_1 ++ dktX0_freed_2
def dkwX0_freed_0 : List UInt8 := [42, 27, 182, 0, 191, 153, 0, 10, 28, 184, 0, 144, 154, 0, 5, 2, 172, 42, 182, 1, 105, 42, 28, 3]
abbrev dktX0_freed_0 : List UInt8 := dkwX0_freed_0 ++ dktX0_freed_1
theorem dksX0_freed_0 : cX0_freed.data.toList.drop 0 = dktX0_freed_0 := by decide +kernel
theorem dksX0_freed_1 : cX0_freed.data.toList.drop 24 = dktX0_freed_1 := dk_seg dksX0_freed_0 24 rfl rfl
theorem dksX0_freed_2 : cX0_freed.data.toList.drop 47 = dktX0_freed_2 := dk_seg dksX0_freed_1 23 rfl rfl
theorem dksX0_freed_3 : cX0_freed.data.toList.drop 71 = dktX0_freed_3 := dk_seg dksX0_freed_2 24 rfl rfl
theorem dX0_freed_0 : decode cX0_freed 0 = .ok (.aload_n 0, 1) := dk_42 (dk_at dksX0_freed_0 0 rfl rfl)
theorem dX0_freed_1 : decode cX0_freed 1 = .ok (.iload_n 1, 1) := dk_27 (dk_at dksX0_freed_0 1 rfl rfl)
theorem dX0_freed_2 : decode cX0_freed 2 = .ok (.invokevirtual 191, 3) := dk_182 0 191 (dk_at dksX0_freed_0 2 rfl rfl)
theorem dX0_freed_5 : decode cX0_freed 5 = .ok (.ifCond .eq 10, 3) := dk_153 0 10 (dk_at dksX0_freed_0 5 rfl rfl)
theorem dX0_freed_8 : decode cX0_freed 8 = .ok (.iload_n 2, 1) := dk_28 (dk_at dksX0_freed_0 8 rfl rfl)
theorem dX0_freed_9 : decode cX0_freed 9 = .ok (.invokestatic 144, 3) := dk_184 0 144 (dk_at dksX0_freed_0 9 rfl rfl)
theorem dX0_freed_12 : decode cX0_freed 12 = .ok (.ifCond .ne 5, 3) := dk_154 0 5 (dk_at dksX0_freed_0 12 rfl rfl)
theorem dX0_freed_15 : decode cX0_freed 15 = .ok (.iconst (-1), 1) := dk_2 (dk_at dksX0_freed_0 15 rfl rfl)
theorem dX0_freed_16 : decode cX0_freed 16 = .ok (.ireturn, 1) := dk_172 (dk_at dksX0_freed_0 16 rfl rfl)
theorem dX0_freed_17 : decode cX0_freed 17 = .ok (.aload_n 0, 1) := dk_42 (dk_at dksX0_freed_0 17 rfl rfl)
theorem dX0_freed_18 : decode cX0_freed 18 = .ok (.invokevirtual 361, 3) := dk_182 1 105 (dk_at dksX0_freed_0 18 rfl rfl)
theorem dX0_freed_21 : decode cX0_freed 21 = .ok (.aload_n 0, 1) := dk_42 (dk_at dksX0_freed_0 21 rfl rfl)
theorem dX0_freed_22 : decode cX0_freed 22 = .ok (.iload_n 2, 1) := dk_28 (dk_at dksX0_freed_0 22 rfl rfl)
theorem dX0_freed_23 : decode cX0_freed 23 = .ok (.iconst 0, 1) := dk_3 (dk_at dksX0_freed_0 23 rfl rfl)
theorem dX0_freed_24 : decode cX0_freed 24 = .ok (.invokevirtual 342, 3) := dk_182 1 86 (dk_at dksX0_freed_1 0 rfl rfl)
theorem dX0_freed_27 : decode cX0_freed 27 = .ok (.iconst 0, 1) := dk_3 (dk_at dksX0_freed_1 3 rfl rfl)
theorem dX0_freed_28 : decode cX0_freed 28 = .ok (.istore_n 3, 1) := dk_62 (dk_at dksX0_freed_1 4 rfl rfl)
theorem dX0_freed_29 : decode cX0_freed 29 = .ok (.iconst 0, 1) := dk_3 (dk_at dksX0_freed_1 5 rfl rfl)
theorem dX0_freed_30 : decode cX0_freed 30 = .ok (.istore 4, 2) := dk_54 4 (dk_at dksX0_freed_1 6 rfl rfl)
theorem dX0_freed_32 : decode cX0_freed 32 = .ok (.iload 4, 2) := dk_21 4 (dk_at dksX0_freed_1 8 rfl rfl)
theorem dX0_freed_34 : decode cX0_freed 34 = .ok (.bipush 12, 2) := dk_16 12 (dk_at dksX0_freed_1 10 rfl rfl)
theorem dX0_freed_36 : decode cX0_freed 36 = .ok (.if_icmp .ge 46, 3) := dk_162 0 46 (dk_at dksX0_freed_1 12 rfl rfl)
theorem dX0_freed_39 : decode cX0_freed 39 = .ok (.iload_n 3, 1) := dk_29 (dk_at dksX0_freed_1 15 rfl rfl)
theorem dX0_freed_40 : decode cX0_freed 40 = .ok (.aload_n 0, 1) := dk_42 (dk_at dksX0_freed_1 16 rfl rfl)
theorem dX0_freed_41 : decode cX0_freed 41 = .ok (.iload 4, 2) := dk_21 4 (dk_at dksX0_freed_1 17 rfl rfl)
theorem dX0_freed_43 : decode cX0_freed 43 = .ok (.iload_n 2, 1) := dk_28 (dk_at dksX0_freed_1 19 rfl rfl)
theorem dX0_freed_44 : decode cX0_freed 44 = .ok (.invokevirtual 352, 3) := dk_182 1 96 (dk_at dksX0_freed_1 20 rfl rfl)
theorem dX0_freed_47 : decode cX0_freed 47 = .ok (.ifCond .ne 20, 3) := dk_154 0 20 (dk_at dksX0_freed_2 0 rfl rfl)
theorem dX0_freed_50 : decode cX0_freed 50 = .ok (.aload_n 0, 1) := dk_42 (dk_at dksX0_freed_2 3 rfl rfl)
theorem dX0_freed_51 : decode cX0_freed 51 = .ok (.iload 4, 2) := dk_21 4 (dk_at dksX0_freed_2 4 rfl rfl)
theorem dX0_freed_53 : decode cX0_freed 53 = .ok (.iload_n 2, 1) := dk_28 (dk_at dksX0_freed_2 6 rfl rfl)
theorem dX0_freed_54 : decode cX0_freed 54 = .ok (.invokevirtual 355, 3) := dk_182 1 99 (dk_at dksX0_freed_2 7 rfl rfl)
theorem dX0_freed_57 : decode cX0_freed 57 = .ok (.iconst 1, 1) := dk_4 (dk_at dksX0_freed_2 10 rfl rfl)
theorem dX0_freed_58 : decode cX0_freed 58 = .ok (.iload_n 1, 1) := dk_27 (dk_at dksX0_freed_2 11 rfl rfl)
theorem dX0_freed_59 : decode cX0_freed 59 = .ok (.ishl, 1) := dk_120 (dk_at dksX0_freed_2 12 rfl rfl)
theorem dX0_freed_60 : decode cX0_freed 60 = .ok (.if_icmp .ne 7, 3) := dk_160 0 7 (dk_at dksX0_freed_2 13 rfl rfl)
theorem dX0_freed_63 : decode cX0_freed 63 = .ok (.iconst 1, 1) := dk_4 (dk_at dksX0_freed_2 16 rfl rfl)
theorem dX0_freed_64 : decode cX0_freed 64 = .ok (.goto 4, 3) := dk_167 0 4 (dk_at dksX0_freed_2 17 rfl rfl)
theorem dX0_freed_67 : decode cX0_freed 67 = .ok (.iconst 0, 1) := dk_3 (dk_at dksX0_freed_2 20 rfl rfl)
theorem dX0_freed_68 : decode cX0_freed 68 = .ok (.invokestatic 223, 3) := dk_184 0 223 (dk_at dksX0_freed_2 21 rfl rfl)
theorem dX0_freed_71 : decode cX0_freed 71 = .ok (.iload 4, 2) := dk_21 4 (dk_at dksX0_freed_3 0 rfl rfl)
theorem dX0_freed_73 : decode cX0_freed 73 = .ok (.ishl, 1) := dk_120 (dk_at dksX0_freed_3 2 rfl rfl)
theorem dX0_freed_74 : decode cX0_freed 74 = .ok (.ior, 1) := dk_128 (dk_at dksX0_freed_3 3 rfl rfl)
theorem dX0_freed_75 : decode cX0_freed 75 = .ok (.istore_n 3, 1) := dk_62 (dk_at dksX0_freed_3 4 rfl rfl)
theorem dX0_freed_76 : decode cX0_freed 76 = .ok (.iinc 4 1, 3) := dk_132 4 1 (dk_at dksX0_freed_3 5 rfl rfl)
theorem dX0_freed_79 : decode cX0_freed 79 = .ok (.goto (-47), 3) := dk_167 255 209 (dk_at dksX0_freed_3 8 rfl rfl)
theorem dX0_freed_82 : decode cX0_freed 82 = .ok (.iload_n 3, 1) := dk_29 (dk_at dksX0_freed_3 11 rfl rfl)
theorem dX0_freed_83 : decode cX0_freed 83 = .ok (.ireturn, 1) := dk_172 (dk_at dksX0_freed_3 12 rfl rfl)
abbrev cX0_never : ByteArray := prog_1_method_73_code
def yX0_never : MethodName := ⟨RX0, "never", "(I)I"⟩
def dkwX0_never_6 : List UInt8 := [132, 5, 1, 167, 255, 194, 132, 3, 1, 167, 255, 144, 28, 172]
abbrev dktX0_never_6 : List UInt8 := dkwX0_never_6 ++ []
def dkwX0_never_5 : List UInt8 := [180, 0, 149, 182, 0, 188, 153, 0, 7, 4, 167, 0, 4, 3, 184, 0, 223, 21, 5, 120, 128, 61]
abbrev dktX0_never_5 : List UInt8 := dkwX0_never_5 ++ dktX0_never_6
def dkwX0_never_4 : List UInt8 := [159, 0, 37, 21, 5, 21, 4, 159, 0, 30, 42, 180, 0, 50, 21, 5, 50, 42, 180, 0, 50, 21, 4, 50]
abbrev dktX0_never_4 : List UInt8 := dkwX0_never_4 ++ dktX0_never_5
def dkwX0_never_3 : List UInt8 := [159, 0, 6, 167, 0, 71, 3, 54, 5, 21, 5, 42, 180, 0, 134, 162, 0, 59, 28, 21, 5, 27]
abbrev dktX0_never_3 : List UInt8 := dkwX0_never_3 ++ dktX0_never_4
def dkwX0_never_2 : List UInt8 := [46, 54, 4, 42, 180, 0, 50, 21, 4, 50, 180, 0, 185, 42, 180, 0, 50, 27, 50, 180, 0, 185]
abbrev dktX0_never_2 : List UInt8 := dkwX0_never_2 ++ dktX0_never_3
def dkwX0_never_1 : List UInt8 := [172, 3, 61, 42, 27, 182, 0, 227, 4, 96, 62, 29, 42, 180, 0, 134, 162, 0, 110, 42, 180, 0, 54, 29]
abbrev dktX0_never_1 : List UInt8 := dkwX0_never_1 ++ dktX0_never_2
def dkwX0_never_0 : List UInt8 := [42, 27, 182, 0, 191, 154, 0, 5, 2, 172, 42, 180, 0, 50, 27, 50, 180, 0, 185, 2, 160, 0, 5, 3]
abbrev dktX0_never_0 : List UInt8 := dkwX0_never_0 ++ dktX0_never_1
theorem dksX0_never_0 : cX0_never.data.toList.drop 0 = dktX0_never_0 := by decide +kernel
theorem dksX0_never_1 : cX0_never.data.toList.drop 24 = dktX0_never_1 := dk_seg dksX0_never_0 24 rfl rfl
theorem dksX0_never_2 : cX0_never.data.toList.drop 48 = dktX0_never_2 := dk_seg dksX0_never_1 24 rfl rfl
theorem dksX0_never_3 : cX0_never.data.toList.drop 70 = dktX0_never_3 := dk_seg dksX0_never_2 22 rfl rfl
theorem dksX0_never_4 : cX0_never.data.toList.drop 92 = dktX0_never_4 := dk_seg dksX0_never_3 22 rfl rfl
theorem dksX0_never_5 : cX0_never.data.toList.drop 116 = dktX0_never_5 := dk_seg dksX0_never_4 24 rfl rfl
theorem dksX0_never_6 : cX0_never.data.toList.drop 138 = dktX0_never_6 := dk_seg dksX0_never_5 22 rfl rfl
theorem dX0_never_0 : decode cX0_never 0 = .ok (.aload_n 0, 1) := dk_42 (dk_at dksX0_never_0 0 rfl rfl)
theorem dX0_never_1 : decode cX0_never 1 = .ok (.iload_n 1, 1) := dk_27 (dk_at dksX0_never_0 1 rfl rfl)
theorem dX0_never_2 : decode cX0_never 2 = .ok (.invokevirtual 191, 3) := dk_182 0 191 (dk_at dksX0_never_0 2 rfl rfl)
theorem dX0_never_5 : decode cX0_never 5 = .ok (.ifCond .ne 5, 3) := dk_154 0 5 (dk_at dksX0_never_0 5 rfl rfl)
theorem dX0_never_8 : decode cX0_never 8 = .ok (.iconst (-1), 1) := dk_2 (dk_at dksX0_never_0 8 rfl rfl)
theorem dX0_never_9 : decode cX0_never 9 = .ok (.ireturn, 1) := dk_172 (dk_at dksX0_never_0 9 rfl rfl)
theorem dX0_never_10 : decode cX0_never 10 = .ok (.aload_n 0, 1) := dk_42 (dk_at dksX0_never_0 10 rfl rfl)
theorem dX0_never_11 : decode cX0_never 11 = .ok (.getfield 50, 3) := dk_180 0 50 (dk_at dksX0_never_0 11 rfl rfl)
theorem dX0_never_14 : decode cX0_never 14 = .ok (.iload_n 1, 1) := dk_27 (dk_at dksX0_never_0 14 rfl rfl)
theorem dX0_never_15 : decode cX0_never 15 = .ok (.aaload, 1) := dk_50 (dk_at dksX0_never_0 15 rfl rfl)
theorem dX0_never_16 : decode cX0_never 16 = .ok (.getfield 185, 3) := dk_180 0 185 (dk_at dksX0_never_0 16 rfl rfl)
theorem dX0_never_19 : decode cX0_never 19 = .ok (.iconst (-1), 1) := dk_2 (dk_at dksX0_never_0 19 rfl rfl)
theorem dX0_never_20 : decode cX0_never 20 = .ok (.if_icmp .ne 5, 3) := dk_160 0 5 (dk_at dksX0_never_0 20 rfl rfl)
theorem dX0_never_23 : decode cX0_never 23 = .ok (.iconst 0, 1) := dk_3 (dk_at dksX0_never_0 23 rfl rfl)
theorem dX0_never_24 : decode cX0_never 24 = .ok (.ireturn, 1) := dk_172 (dk_at dksX0_never_1 0 rfl rfl)
theorem dX0_never_25 : decode cX0_never 25 = .ok (.iconst 0, 1) := dk_3 (dk_at dksX0_never_1 1 rfl rfl)
theorem dX0_never_26 : decode cX0_never 26 = .ok (.istore_n 2, 1) := dk_61 (dk_at dksX0_never_1 2 rfl rfl)
theorem dX0_never_27 : decode cX0_never 27 = .ok (.aload_n 0, 1) := dk_42 (dk_at dksX0_never_1 3 rfl rfl)
theorem dX0_never_28 : decode cX0_never 28 = .ok (.iload_n 1, 1) := dk_27 (dk_at dksX0_never_1 4 rfl rfl)
theorem dX0_never_29 : decode cX0_never 29 = .ok (.invokevirtual 227, 3) := dk_182 0 227 (dk_at dksX0_never_1 5 rfl rfl)
theorem dX0_never_32 : decode cX0_never 32 = .ok (.iconst 1, 1) := dk_4 (dk_at dksX0_never_1 8 rfl rfl)
theorem dX0_never_33 : decode cX0_never 33 = .ok (.iadd, 1) := dk_96 (dk_at dksX0_never_1 9 rfl rfl)
theorem dX0_never_34 : decode cX0_never 34 = .ok (.istore_n 3, 1) := dk_62 (dk_at dksX0_never_1 10 rfl rfl)
theorem dX0_never_35 : decode cX0_never 35 = .ok (.iload_n 3, 1) := dk_29 (dk_at dksX0_never_1 11 rfl rfl)
theorem dX0_never_36 : decode cX0_never 36 = .ok (.aload_n 0, 1) := dk_42 (dk_at dksX0_never_1 12 rfl rfl)
theorem dX0_never_37 : decode cX0_never 37 = .ok (.getfield 134, 3) := dk_180 0 134 (dk_at dksX0_never_1 13 rfl rfl)
theorem dX0_never_40 : decode cX0_never 40 = .ok (.if_icmp .ge 110, 3) := dk_162 0 110 (dk_at dksX0_never_1 16 rfl rfl)
theorem dX0_never_43 : decode cX0_never 43 = .ok (.aload_n 0, 1) := dk_42 (dk_at dksX0_never_1 19 rfl rfl)
theorem dX0_never_44 : decode cX0_never 44 = .ok (.getfield 54, 3) := dk_180 0 54 (dk_at dksX0_never_1 20 rfl rfl)
theorem dX0_never_47 : decode cX0_never 47 = .ok (.iload_n 3, 1) := dk_29 (dk_at dksX0_never_1 23 rfl rfl)
theorem dX0_never_48 : decode cX0_never 48 = .ok (.iaload, 1) := dk_46 (dk_at dksX0_never_2 0 rfl rfl)
theorem dX0_never_49 : decode cX0_never 49 = .ok (.istore 4, 2) := dk_54 4 (dk_at dksX0_never_2 1 rfl rfl)
theorem dX0_never_51 : decode cX0_never 51 = .ok (.aload_n 0, 1) := dk_42 (dk_at dksX0_never_2 3 rfl rfl)
theorem dX0_never_52 : decode cX0_never 52 = .ok (.getfield 50, 3) := dk_180 0 50 (dk_at dksX0_never_2 4 rfl rfl)
theorem dX0_never_55 : decode cX0_never 55 = .ok (.iload 4, 2) := dk_21 4 (dk_at dksX0_never_2 7 rfl rfl)
theorem dX0_never_57 : decode cX0_never 57 = .ok (.aaload, 1) := dk_50 (dk_at dksX0_never_2 9 rfl rfl)
theorem dX0_never_58 : decode cX0_never 58 = .ok (.getfield 185, 3) := dk_180 0 185 (dk_at dksX0_never_2 10 rfl rfl)
theorem dX0_never_61 : decode cX0_never 61 = .ok (.aload_n 0, 1) := dk_42 (dk_at dksX0_never_2 13 rfl rfl)
theorem dX0_never_62 : decode cX0_never 62 = .ok (.getfield 50, 3) := dk_180 0 50 (dk_at dksX0_never_2 14 rfl rfl)
theorem dX0_never_65 : decode cX0_never 65 = .ok (.iload_n 1, 1) := dk_27 (dk_at dksX0_never_2 17 rfl rfl)
theorem dX0_never_66 : decode cX0_never 66 = .ok (.aaload, 1) := dk_50 (dk_at dksX0_never_2 18 rfl rfl)
theorem dX0_never_67 : decode cX0_never 67 = .ok (.getfield 185, 3) := dk_180 0 185 (dk_at dksX0_never_2 19 rfl rfl)
theorem dX0_never_70 : decode cX0_never 70 = .ok (.if_icmp .eq 6, 3) := dk_159 0 6 (dk_at dksX0_never_3 0 rfl rfl)
theorem dX0_never_73 : decode cX0_never 73 = .ok (.goto 71, 3) := dk_167 0 71 (dk_at dksX0_never_3 3 rfl rfl)
theorem dX0_never_76 : decode cX0_never 76 = .ok (.iconst 0, 1) := dk_3 (dk_at dksX0_never_3 6 rfl rfl)
theorem dX0_never_77 : decode cX0_never 77 = .ok (.istore 5, 2) := dk_54 5 (dk_at dksX0_never_3 7 rfl rfl)
theorem dX0_never_79 : decode cX0_never 79 = .ok (.iload 5, 2) := dk_21 5 (dk_at dksX0_never_3 9 rfl rfl)
theorem dX0_never_81 : decode cX0_never 81 = .ok (.aload_n 0, 1) := dk_42 (dk_at dksX0_never_3 11 rfl rfl)
theorem dX0_never_82 : decode cX0_never 82 = .ok (.getfield 134, 3) := dk_180 0 134 (dk_at dksX0_never_3 12 rfl rfl)
theorem dX0_never_85 : decode cX0_never 85 = .ok (.if_icmp .ge 59, 3) := dk_162 0 59 (dk_at dksX0_never_3 15 rfl rfl)
theorem dX0_never_88 : decode cX0_never 88 = .ok (.iload_n 2, 1) := dk_28 (dk_at dksX0_never_3 18 rfl rfl)
theorem dX0_never_89 : decode cX0_never 89 = .ok (.iload 5, 2) := dk_21 5 (dk_at dksX0_never_3 19 rfl rfl)
theorem dX0_never_91 : decode cX0_never 91 = .ok (.iload_n 1, 1) := dk_27 (dk_at dksX0_never_3 21 rfl rfl)
theorem dX0_never_92 : decode cX0_never 92 = .ok (.if_icmp .eq 37, 3) := dk_159 0 37 (dk_at dksX0_never_4 0 rfl rfl)
theorem dX0_never_95 : decode cX0_never 95 = .ok (.iload 5, 2) := dk_21 5 (dk_at dksX0_never_4 3 rfl rfl)
theorem dX0_never_97 : decode cX0_never 97 = .ok (.iload 4, 2) := dk_21 4 (dk_at dksX0_never_4 5 rfl rfl)
theorem dX0_never_99 : decode cX0_never 99 = .ok (.if_icmp .eq 30, 3) := dk_159 0 30 (dk_at dksX0_never_4 7 rfl rfl)
theorem dX0_never_102 : decode cX0_never 102 = .ok (.aload_n 0, 1) := dk_42 (dk_at dksX0_never_4 10 rfl rfl)
theorem dX0_never_103 : decode cX0_never 103 = .ok (.getfield 50, 3) := dk_180 0 50 (dk_at dksX0_never_4 11 rfl rfl)
theorem dX0_never_106 : decode cX0_never 106 = .ok (.iload 5, 2) := dk_21 5 (dk_at dksX0_never_4 14 rfl rfl)
theorem dX0_never_108 : decode cX0_never 108 = .ok (.aaload, 1) := dk_50 (dk_at dksX0_never_4 16 rfl rfl)
theorem dX0_never_109 : decode cX0_never 109 = .ok (.aload_n 0, 1) := dk_42 (dk_at dksX0_never_4 17 rfl rfl)
theorem dX0_never_110 : decode cX0_never 110 = .ok (.getfield 50, 3) := dk_180 0 50 (dk_at dksX0_never_4 18 rfl rfl)
theorem dX0_never_113 : decode cX0_never 113 = .ok (.iload 4, 2) := dk_21 4 (dk_at dksX0_never_4 21 rfl rfl)
theorem dX0_never_115 : decode cX0_never 115 = .ok (.aaload, 1) := dk_50 (dk_at dksX0_never_4 23 rfl rfl)
theorem dX0_never_116 : decode cX0_never 116 = .ok (.getfield 149, 3) := dk_180 0 149 (dk_at dksX0_never_5 0 rfl rfl)
theorem dX0_never_119 : decode cX0_never 119 = .ok (.invokevirtual 188, 3) := dk_182 0 188 (dk_at dksX0_never_5 3 rfl rfl)
theorem dX0_never_122 : decode cX0_never 122 = .ok (.ifCond .eq 7, 3) := dk_153 0 7 (dk_at dksX0_never_5 6 rfl rfl)
theorem dX0_never_125 : decode cX0_never 125 = .ok (.iconst 1, 1) := dk_4 (dk_at dksX0_never_5 9 rfl rfl)
theorem dX0_never_126 : decode cX0_never 126 = .ok (.goto 4, 3) := dk_167 0 4 (dk_at dksX0_never_5 10 rfl rfl)
theorem dX0_never_129 : decode cX0_never 129 = .ok (.iconst 0, 1) := dk_3 (dk_at dksX0_never_5 13 rfl rfl)
theorem dX0_never_130 : decode cX0_never 130 = .ok (.invokestatic 223, 3) := dk_184 0 223 (dk_at dksX0_never_5 14 rfl rfl)
theorem dX0_never_133 : decode cX0_never 133 = .ok (.iload 5, 2) := dk_21 5 (dk_at dksX0_never_5 17 rfl rfl)
theorem dX0_never_135 : decode cX0_never 135 = .ok (.ishl, 1) := dk_120 (dk_at dksX0_never_5 19 rfl rfl)
theorem dX0_never_136 : decode cX0_never 136 = .ok (.ior, 1) := dk_128 (dk_at dksX0_never_5 20 rfl rfl)
theorem dX0_never_137 : decode cX0_never 137 = .ok (.istore_n 2, 1) := dk_61 (dk_at dksX0_never_5 21 rfl rfl)
theorem dX0_never_138 : decode cX0_never 138 = .ok (.iinc 5 1, 3) := dk_132 5 1 (dk_at dksX0_never_6 0 rfl rfl)
theorem dX0_never_141 : decode cX0_never 141 = .ok (.goto (-62), 3) := dk_167 255 194 (dk_at dksX0_never_6 3 rfl rfl)
theorem dX0_never_144 : decode cX0_never 144 = .ok (.iinc 3 1, 3) := dk_132 3 1 (dk_at dksX0_never_6 6 rfl rfl)
theorem dX0_never_147 : decode cX0_never 147 = .ok (.goto (-112), 3) := dk_167 255 144 (dk_at dksX0_never_6 9 rfl rfl)
theorem dX0_never_150 : decode cX0_never 150 = .ok (.iload_n 2, 1) := dk_28 (dk_at dksX0_never_6 12 rfl rfl)
theorem dX0_never_151 : decode cX0_never 151 = .ok (.ireturn, 1) := dk_172 (dk_at dksX0_never_6 13 rfl rfl)
abbrev cX0_needs : ByteArray := prog_1_method_74_code
def yX0_needs : MethodName := ⟨RX0, "needs", "(III)I"⟩
def dkwX0_needs_10 : List UInt8 := [167, 0, 5, 21, 6, 172]
abbrev dktX0_needs_10 : List UInt8 := dkwX0_needs_10 ++ []
def dkwX0_needs_9 : List UInt8 := [180, 0, 89, 21, 7, 46, 181, 0, 1, 132, 7, 1, 167, 255, 224, 29, 154, 0, 10, 21, 5, 28, 108]
abbrev dktX0_needs_9 : List UInt8 := dkwX0_needs_9 ++ dktX0_needs_10
def dkwX0_needs_8 : List UInt8 := [3, 54, 7, 21, 7, 42, 180, 0, 134, 162, 0, 29, 42, 180, 0, 50, 21, 7, 50, 180, 0, 214, 42]
abbrev dktX0_needs_8 : List UInt8 := dkwX0_needs_8 ++ dktX0_needs_9
def dkwX0_needs_7 : List UInt8 := [54, 8, 21, 5, 21, 8, 96, 54, 5, 21, 6, 21, 8, 184, 1, 75, 54, 6, 132, 7, 1, 167, 255, 145]
abbrev dktX0_needs_7 : List UInt8 := dkwX0_needs_7 ++ dktX0_needs_8
def dkwX0_needs_6 : List UInt8 := [180, 0, 149, 100, 112, 96, 181, 0, 1, 132, 8, 1, 167, 255, 187, 42, 3, 182, 1, 136, 42, 182, 1, 139]
abbrev dktX0_needs_6 : List UInt8 := dkwX0_needs_6 ++ dktX0_needs_7
def dkwX0_needs_5 : List UInt8 := [21, 8, 50, 180, 0, 149, 4, 96, 21, 4, 16, 8, 124, 16, 100, 42, 180, 0, 50, 21, 8, 50]
abbrev dktX0_needs_5 : List UInt8 := dkwX0_needs_5 ++ dktX0_needs_6
def dkwX0_needs_4 : List UInt8 := [19, 1, 145, 104, 17, 48, 57, 96, 54, 4, 42, 180, 0, 50, 21, 8, 50, 180, 0, 214, 42, 180, 0, 50]
abbrev dktX0_needs_4 : List UInt8 := dkwX0_needs_4 ++ dktX0_needs_5
def dkwX0_needs_3 : List UInt8 := [54, 7, 21, 7, 28, 162, 0, 111, 3, 54, 8, 21, 8, 42, 180, 0, 134, 162, 0, 66, 21, 4]
abbrev dktX0_needs_3 : List UInt8 := dkwX0_needs_3 ++ dktX0_needs_4
def dkwX0_needs_2 : List UInt8 := [50, 180, 0, 214, 180, 0, 1, 79, 132, 4, 1, 167, 255, 224, 27, 54, 4, 3, 54, 5, 3, 54, 6, 3]
abbrev dktX0_needs_2 : List UInt8 := dkwX0_needs_2 ++ dktX0_needs_3
def dkwX0_needs_1 : List UInt8 := [3, 54, 4, 21, 4, 42, 180, 0, 134, 162, 0, 29, 42, 180, 0, 89, 21, 4, 42, 180, 0, 50, 21, 4]
abbrev dktX0_needs_1 : List UInt8 := dkwX0_needs_1 ++ dktX0_needs_2
def dkwX0_needs_0 : List UInt8 := [28, 133, 10, 20, 0, 240, 184, 0, 112, 153, 0, 13, 29, 133, 9, 10, 184, 0, 112, 154, 0, 5, 2, 172]
abbrev dktX0_needs_0 : List UInt8 := dkwX0_needs_0 ++ dktX0_needs_1
theorem dksX0_needs_0 : cX0_needs.data.toList.drop 0 = dktX0_needs_0 := by decide +kernel
theorem dksX0_needs_1 : cX0_needs.data.toList.drop 24 = dktX0_needs_1 := dk_seg dksX0_needs_0 24 rfl rfl
theorem dksX0_needs_2 : cX0_needs.data.toList.drop 48 = dktX0_needs_2 := dk_seg dksX0_needs_1 24 rfl rfl
theorem dksX0_needs_3 : cX0_needs.data.toList.drop 72 = dktX0_needs_3 := dk_seg dksX0_needs_2 24 rfl rfl
theorem dksX0_needs_4 : cX0_needs.data.toList.drop 94 = dktX0_needs_4 := dk_seg dksX0_needs_3 22 rfl rfl
theorem dksX0_needs_5 : cX0_needs.data.toList.drop 118 = dktX0_needs_5 := dk_seg dksX0_needs_4 24 rfl rfl
theorem dksX0_needs_6 : cX0_needs.data.toList.drop 140 = dktX0_needs_6 := dk_seg dksX0_needs_5 22 rfl rfl
theorem dksX0_needs_7 : cX0_needs.data.toList.drop 164 = dktX0_needs_7 := dk_seg dksX0_needs_6 24 rfl rfl
theorem dksX0_needs_8 : cX0_needs.data.toList.drop 188 = dktX0_needs_8 := dk_seg dksX0_needs_7 24 rfl rfl
theorem dksX0_needs_9 : cX0_needs.data.toList.drop 211 = dktX0_needs_9 := dk_seg dksX0_needs_8 23 rfl rfl
theorem dksX0_needs_10 : cX0_needs.data.toList.drop 234 = dktX0_needs_10 := dk_seg dksX0_needs_9 23 rfl rfl
theorem dX0_needs_0 : decode cX0_needs 0 = .ok (.iload_n 2, 1) := dk_28 (dk_at dksX0_needs_0 0 rfl rfl)
theorem dX0_needs_1 : decode cX0_needs 1 = .ok (.i2l, 1) := dk_133 (dk_at dksX0_needs_0 1 rfl rfl)
theorem dX0_needs_2 : decode cX0_needs 2 = .ok (.lconst 1, 1) := dk_10 (dk_at dksX0_needs_0 2 rfl rfl)
theorem dX0_needs_3 : decode cX0_needs 3 = .ok (.ldc2_w 240, 3) := dk_20 0 240 (dk_at dksX0_needs_0 3 rfl rfl)
theorem dX0_needs_6 : decode cX0_needs 6 = .ok (.invokestatic 112, 3) := dk_184 0 112 (dk_at dksX0_needs_0 6 rfl rfl)
theorem dX0_needs_9 : decode cX0_needs 9 = .ok (.ifCond .eq 13, 3) := dk_153 0 13 (dk_at dksX0_needs_0 9 rfl rfl)
theorem dX0_needs_12 : decode cX0_needs 12 = .ok (.iload_n 3, 1) := dk_29 (dk_at dksX0_needs_0 12 rfl rfl)
theorem dX0_needs_13 : decode cX0_needs 13 = .ok (.i2l, 1) := dk_133 (dk_at dksX0_needs_0 13 rfl rfl)
theorem dX0_needs_14 : decode cX0_needs 14 = .ok (.lconst 0, 1) := dk_9 (dk_at dksX0_needs_0 14 rfl rfl)
theorem dX0_needs_15 : decode cX0_needs 15 = .ok (.lconst 1, 1) := dk_10 (dk_at dksX0_needs_0 15 rfl rfl)
theorem dX0_needs_16 : decode cX0_needs 16 = .ok (.invokestatic 112, 3) := dk_184 0 112 (dk_at dksX0_needs_0 16 rfl rfl)
theorem dX0_needs_19 : decode cX0_needs 19 = .ok (.ifCond .ne 5, 3) := dk_154 0 5 (dk_at dksX0_needs_0 19 rfl rfl)
theorem dX0_needs_22 : decode cX0_needs 22 = .ok (.iconst (-1), 1) := dk_2 (dk_at dksX0_needs_0 22 rfl rfl)
theorem dX0_needs_23 : decode cX0_needs 23 = .ok (.ireturn, 1) := dk_172 (dk_at dksX0_needs_0 23 rfl rfl)
theorem dX0_needs_24 : decode cX0_needs 24 = .ok (.iconst 0, 1) := dk_3 (dk_at dksX0_needs_1 0 rfl rfl)
theorem dX0_needs_25 : decode cX0_needs 25 = .ok (.istore 4, 2) := dk_54 4 (dk_at dksX0_needs_1 1 rfl rfl)
theorem dX0_needs_27 : decode cX0_needs 27 = .ok (.iload 4, 2) := dk_21 4 (dk_at dksX0_needs_1 3 rfl rfl)
theorem dX0_needs_29 : decode cX0_needs 29 = .ok (.aload_n 0, 1) := dk_42 (dk_at dksX0_needs_1 5 rfl rfl)
theorem dX0_needs_30 : decode cX0_needs 30 = .ok (.getfield 134, 3) := dk_180 0 134 (dk_at dksX0_needs_1 6 rfl rfl)
theorem dX0_needs_33 : decode cX0_needs 33 = .ok (.if_icmp .ge 29, 3) := dk_162 0 29 (dk_at dksX0_needs_1 9 rfl rfl)
theorem dX0_needs_36 : decode cX0_needs 36 = .ok (.aload_n 0, 1) := dk_42 (dk_at dksX0_needs_1 12 rfl rfl)
theorem dX0_needs_37 : decode cX0_needs 37 = .ok (.getfield 89, 3) := dk_180 0 89 (dk_at dksX0_needs_1 13 rfl rfl)
theorem dX0_needs_40 : decode cX0_needs 40 = .ok (.iload 4, 2) := dk_21 4 (dk_at dksX0_needs_1 16 rfl rfl)
theorem dX0_needs_42 : decode cX0_needs 42 = .ok (.aload_n 0, 1) := dk_42 (dk_at dksX0_needs_1 18 rfl rfl)
theorem dX0_needs_43 : decode cX0_needs 43 = .ok (.getfield 50, 3) := dk_180 0 50 (dk_at dksX0_needs_1 19 rfl rfl)
theorem dX0_needs_46 : decode cX0_needs 46 = .ok (.iload 4, 2) := dk_21 4 (dk_at dksX0_needs_1 22 rfl rfl)
theorem dX0_needs_48 : decode cX0_needs 48 = .ok (.aaload, 1) := dk_50 (dk_at dksX0_needs_2 0 rfl rfl)
theorem dX0_needs_49 : decode cX0_needs 49 = .ok (.getfield 214, 3) := dk_180 0 214 (dk_at dksX0_needs_2 1 rfl rfl)
theorem dX0_needs_52 : decode cX0_needs 52 = .ok (.getfield 1, 3) := dk_180 0 1 (dk_at dksX0_needs_2 4 rfl rfl)
theorem dX0_needs_55 : decode cX0_needs 55 = .ok (.iastore, 1) := dk_79 (dk_at dksX0_needs_2 7 rfl rfl)
theorem dX0_needs_56 : decode cX0_needs 56 = .ok (.iinc 4 1, 3) := dk_132 4 1 (dk_at dksX0_needs_2 8 rfl rfl)
theorem dX0_needs_59 : decode cX0_needs 59 = .ok (.goto (-32), 3) := dk_167 255 224 (dk_at dksX0_needs_2 11 rfl rfl)
theorem dX0_needs_62 : decode cX0_needs 62 = .ok (.iload_n 1, 1) := dk_27 (dk_at dksX0_needs_2 14 rfl rfl)
theorem dX0_needs_63 : decode cX0_needs 63 = .ok (.istore 4, 2) := dk_54 4 (dk_at dksX0_needs_2 15 rfl rfl)
theorem dX0_needs_65 : decode cX0_needs 65 = .ok (.iconst 0, 1) := dk_3 (dk_at dksX0_needs_2 17 rfl rfl)
theorem dX0_needs_66 : decode cX0_needs 66 = .ok (.istore 5, 2) := dk_54 5 (dk_at dksX0_needs_2 18 rfl rfl)
theorem dX0_needs_68 : decode cX0_needs 68 = .ok (.iconst 0, 1) := dk_3 (dk_at dksX0_needs_2 20 rfl rfl)
theorem dX0_needs_69 : decode cX0_needs 69 = .ok (.istore 6, 2) := dk_54 6 (dk_at dksX0_needs_2 21 rfl rfl)
theorem dX0_needs_71 : decode cX0_needs 71 = .ok (.iconst 0, 1) := dk_3 (dk_at dksX0_needs_2 23 rfl rfl)
theorem dX0_needs_72 : decode cX0_needs 72 = .ok (.istore 7, 2) := dk_54 7 (dk_at dksX0_needs_3 0 rfl rfl)
theorem dX0_needs_74 : decode cX0_needs 74 = .ok (.iload 7, 2) := dk_21 7 (dk_at dksX0_needs_3 2 rfl rfl)
theorem dX0_needs_76 : decode cX0_needs 76 = .ok (.iload_n 2, 1) := dk_28 (dk_at dksX0_needs_3 4 rfl rfl)
theorem dX0_needs_77 : decode cX0_needs 77 = .ok (.if_icmp .ge 111, 3) := dk_162 0 111 (dk_at dksX0_needs_3 5 rfl rfl)
theorem dX0_needs_80 : decode cX0_needs 80 = .ok (.iconst 0, 1) := dk_3 (dk_at dksX0_needs_3 8 rfl rfl)
theorem dX0_needs_81 : decode cX0_needs 81 = .ok (.istore 8, 2) := dk_54 8 (dk_at dksX0_needs_3 9 rfl rfl)
theorem dX0_needs_83 : decode cX0_needs 83 = .ok (.iload 8, 2) := dk_21 8 (dk_at dksX0_needs_3 11 rfl rfl)
theorem dX0_needs_85 : decode cX0_needs 85 = .ok (.aload_n 0, 1) := dk_42 (dk_at dksX0_needs_3 13 rfl rfl)
theorem dX0_needs_86 : decode cX0_needs 86 = .ok (.getfield 134, 3) := dk_180 0 134 (dk_at dksX0_needs_3 14 rfl rfl)
theorem dX0_needs_89 : decode cX0_needs 89 = .ok (.if_icmp .ge 66, 3) := dk_162 0 66 (dk_at dksX0_needs_3 17 rfl rfl)
theorem dX0_needs_92 : decode cX0_needs 92 = .ok (.iload 4, 2) := dk_21 4 (dk_at dksX0_needs_3 20 rfl rfl)
theorem dX0_needs_94 : decode cX0_needs 94 = .ok (.ldc_w 401, 3) := dk_19 1 145 (dk_at dksX0_needs_4 0 rfl rfl)
theorem dX0_needs_97 : decode cX0_needs 97 = .ok (.imul, 1) := dk_104 (dk_at dksX0_needs_4 3 rfl rfl)
theorem dX0_needs_98 : decode cX0_needs 98 = .ok (.sipush 12345, 3) := dk_17 48 57 (dk_at dksX0_needs_4 4 rfl rfl)
theorem dX0_needs_101 : decode cX0_needs 101 = .ok (.iadd, 1) := dk_96 (dk_at dksX0_needs_4 7 rfl rfl)
theorem dX0_needs_102 : decode cX0_needs 102 = .ok (.istore 4, 2) := dk_54 4 (dk_at dksX0_needs_4 8 rfl rfl)
theorem dX0_needs_104 : decode cX0_needs 104 = .ok (.aload_n 0, 1) := dk_42 (dk_at dksX0_needs_4 10 rfl rfl)
theorem dX0_needs_105 : decode cX0_needs 105 = .ok (.getfield 50, 3) := dk_180 0 50 (dk_at dksX0_needs_4 11 rfl rfl)
theorem dX0_needs_108 : decode cX0_needs 108 = .ok (.iload 8, 2) := dk_21 8 (dk_at dksX0_needs_4 14 rfl rfl)
theorem dX0_needs_110 : decode cX0_needs 110 = .ok (.aaload, 1) := dk_50 (dk_at dksX0_needs_4 16 rfl rfl)
theorem dX0_needs_111 : decode cX0_needs 111 = .ok (.getfield 214, 3) := dk_180 0 214 (dk_at dksX0_needs_4 17 rfl rfl)
theorem dX0_needs_114 : decode cX0_needs 114 = .ok (.aload_n 0, 1) := dk_42 (dk_at dksX0_needs_4 20 rfl rfl)
theorem dX0_needs_115 : decode cX0_needs 115 = .ok (.getfield 50, 3) := dk_180 0 50 (dk_at dksX0_needs_4 21 rfl rfl)
theorem dX0_needs_118 : decode cX0_needs 118 = .ok (.iload 8, 2) := dk_21 8 (dk_at dksX0_needs_5 0 rfl rfl)
theorem dX0_needs_120 : decode cX0_needs 120 = .ok (.aaload, 1) := dk_50 (dk_at dksX0_needs_5 2 rfl rfl)
theorem dX0_needs_121 : decode cX0_needs 121 = .ok (.getfield 149, 3) := dk_180 0 149 (dk_at dksX0_needs_5 3 rfl rfl)
theorem dX0_needs_124 : decode cX0_needs 124 = .ok (.iconst 1, 1) := dk_4 (dk_at dksX0_needs_5 6 rfl rfl)
theorem dX0_needs_125 : decode cX0_needs 125 = .ok (.iadd, 1) := dk_96 (dk_at dksX0_needs_5 7 rfl rfl)
theorem dX0_needs_126 : decode cX0_needs 126 = .ok (.iload 4, 2) := dk_21 4 (dk_at dksX0_needs_5 8 rfl rfl)
theorem dX0_needs_128 : decode cX0_needs 128 = .ok (.bipush 8, 2) := dk_16 8 (dk_at dksX0_needs_5 10 rfl rfl)
theorem dX0_needs_130 : decode cX0_needs 130 = .ok (.iushr, 1) := dk_124 (dk_at dksX0_needs_5 12 rfl rfl)
theorem dX0_needs_131 : decode cX0_needs 131 = .ok (.bipush 100, 2) := dk_16 100 (dk_at dksX0_needs_5 13 rfl rfl)
theorem dX0_needs_133 : decode cX0_needs 133 = .ok (.aload_n 0, 1) := dk_42 (dk_at dksX0_needs_5 15 rfl rfl)
theorem dX0_needs_134 : decode cX0_needs 134 = .ok (.getfield 50, 3) := dk_180 0 50 (dk_at dksX0_needs_5 16 rfl rfl)
theorem dX0_needs_137 : decode cX0_needs 137 = .ok (.iload 8, 2) := dk_21 8 (dk_at dksX0_needs_5 19 rfl rfl)
theorem dX0_needs_139 : decode cX0_needs 139 = .ok (.aaload, 1) := dk_50 (dk_at dksX0_needs_5 21 rfl rfl)
theorem dX0_needs_140 : decode cX0_needs 140 = .ok (.getfield 149, 3) := dk_180 0 149 (dk_at dksX0_needs_6 0 rfl rfl)
theorem dX0_needs_143 : decode cX0_needs 143 = .ok (.isub, 1) := dk_100 (dk_at dksX0_needs_6 3 rfl rfl)
theorem dX0_needs_144 : decode cX0_needs 144 = .ok (.irem, 1) := dk_112 (dk_at dksX0_needs_6 4 rfl rfl)
theorem dX0_needs_145 : decode cX0_needs 145 = .ok (.iadd, 1) := dk_96 (dk_at dksX0_needs_6 5 rfl rfl)
theorem dX0_needs_146 : decode cX0_needs 146 = .ok (.putfield 1, 3) := dk_181 0 1 (dk_at dksX0_needs_6 6 rfl rfl)
theorem dX0_needs_149 : decode cX0_needs 149 = .ok (.iinc 8 1, 3) := dk_132 8 1 (dk_at dksX0_needs_6 9 rfl rfl)
theorem dX0_needs_152 : decode cX0_needs 152 = .ok (.goto (-69), 3) := dk_167 255 187 (dk_at dksX0_needs_6 12 rfl rfl)
theorem dX0_needs_155 : decode cX0_needs 155 = .ok (.aload_n 0, 1) := dk_42 (dk_at dksX0_needs_6 15 rfl rfl)
theorem dX0_needs_156 : decode cX0_needs 156 = .ok (.iconst 0, 1) := dk_3 (dk_at dksX0_needs_6 16 rfl rfl)
theorem dX0_needs_157 : decode cX0_needs 157 = .ok (.invokevirtual 392, 3) := dk_182 1 136 (dk_at dksX0_needs_6 17 rfl rfl)
theorem dX0_needs_160 : decode cX0_needs 160 = .ok (.aload_n 0, 1) := dk_42 (dk_at dksX0_needs_6 20 rfl rfl)
theorem dX0_needs_161 : decode cX0_needs 161 = .ok (.invokevirtual 395, 3) := dk_182 1 139 (dk_at dksX0_needs_6 21 rfl rfl)
theorem dX0_needs_164 : decode cX0_needs 164 = .ok (.istore 8, 2) := dk_54 8 (dk_at dksX0_needs_7 0 rfl rfl)
theorem dX0_needs_166 : decode cX0_needs 166 = .ok (.iload 5, 2) := dk_21 5 (dk_at dksX0_needs_7 2 rfl rfl)
theorem dX0_needs_168 : decode cX0_needs 168 = .ok (.iload 8, 2) := dk_21 8 (dk_at dksX0_needs_7 4 rfl rfl)
theorem dX0_needs_170 : decode cX0_needs 170 = .ok (.iadd, 1) := dk_96 (dk_at dksX0_needs_7 6 rfl rfl)
theorem dX0_needs_171 : decode cX0_needs 171 = .ok (.istore 5, 2) := dk_54 5 (dk_at dksX0_needs_7 7 rfl rfl)
theorem dX0_needs_173 : decode cX0_needs 173 = .ok (.iload 6, 2) := dk_21 6 (dk_at dksX0_needs_7 9 rfl rfl)
theorem dX0_needs_175 : decode cX0_needs 175 = .ok (.iload 8, 2) := dk_21 8 (dk_at dksX0_needs_7 11 rfl rfl)
theorem dX0_needs_177 : decode cX0_needs 177 = .ok (.invokestatic 331, 3) := dk_184 1 75 (dk_at dksX0_needs_7 13 rfl rfl)
theorem dX0_needs_180 : decode cX0_needs 180 = .ok (.istore 6, 2) := dk_54 6 (dk_at dksX0_needs_7 16 rfl rfl)
theorem dX0_needs_182 : decode cX0_needs 182 = .ok (.iinc 7 1, 3) := dk_132 7 1 (dk_at dksX0_needs_7 18 rfl rfl)
theorem dX0_needs_185 : decode cX0_needs 185 = .ok (.goto (-111), 3) := dk_167 255 145 (dk_at dksX0_needs_7 21 rfl rfl)
theorem dX0_needs_188 : decode cX0_needs 188 = .ok (.iconst 0, 1) := dk_3 (dk_at dksX0_needs_8 0 rfl rfl)
theorem dX0_needs_189 : decode cX0_needs 189 = .ok (.istore 7, 2) := dk_54 7 (dk_at dksX0_needs_8 1 rfl rfl)
theorem dX0_needs_191 : decode cX0_needs 191 = .ok (.iload 7, 2) := dk_21 7 (dk_at dksX0_needs_8 3 rfl rfl)
theorem dX0_needs_193 : decode cX0_needs 193 = .ok (.aload_n 0, 1) := dk_42 (dk_at dksX0_needs_8 5 rfl rfl)
theorem dX0_needs_194 : decode cX0_needs 194 = .ok (.getfield 134, 3) := dk_180 0 134 (dk_at dksX0_needs_8 6 rfl rfl)
theorem dX0_needs_197 : decode cX0_needs 197 = .ok (.if_icmp .ge 29, 3) := dk_162 0 29 (dk_at dksX0_needs_8 9 rfl rfl)
theorem dX0_needs_200 : decode cX0_needs 200 = .ok (.aload_n 0, 1) := dk_42 (dk_at dksX0_needs_8 12 rfl rfl)
theorem dX0_needs_201 : decode cX0_needs 201 = .ok (.getfield 50, 3) := dk_180 0 50 (dk_at dksX0_needs_8 13 rfl rfl)
theorem dX0_needs_204 : decode cX0_needs 204 = .ok (.iload 7, 2) := dk_21 7 (dk_at dksX0_needs_8 16 rfl rfl)
theorem dX0_needs_206 : decode cX0_needs 206 = .ok (.aaload, 1) := dk_50 (dk_at dksX0_needs_8 18 rfl rfl)
theorem dX0_needs_207 : decode cX0_needs 207 = .ok (.getfield 214, 3) := dk_180 0 214 (dk_at dksX0_needs_8 19 rfl rfl)
theorem dX0_needs_210 : decode cX0_needs 210 = .ok (.aload_n 0, 1) := dk_42 (dk_at dksX0_needs_8 22 rfl rfl)
theorem dX0_needs_211 : decode cX0_needs 211 = .ok (.getfield 89, 3) := dk_180 0 89 (dk_at dksX0_needs_9 0 rfl rfl)
theorem dX0_needs_214 : decode cX0_needs 214 = .ok (.iload 7, 2) := dk_21 7 (dk_at dksX0_needs_9 3 rfl rfl)
theorem dX0_needs_216 : decode cX0_needs 216 = .ok (.iaload, 1) := dk_46 (dk_at dksX0_needs_9 5 rfl rfl)
theorem dX0_needs_217 : decode cX0_needs 217 = .ok (.putfield 1, 3) := dk_181 0 1 (dk_at dksX0_needs_9 6 rfl rfl)
theorem dX0_needs_220 : decode cX0_needs 220 = .ok (.iinc 7 1, 3) := dk_132 7 1 (dk_at dksX0_needs_9 9 rfl rfl)
theorem dX0_needs_223 : decode cX0_needs 223 = .ok (.goto (-32), 3) := dk_167 255 224 (dk_at dksX0_needs_9 12 rfl rfl)
theorem dX0_needs_226 : decode cX0_needs 226 = .ok (.iload_n 3, 1) := dk_29 (dk_at dksX0_needs_9 15 rfl rfl)
theorem dX0_needs_227 : decode cX0_needs 227 = .ok (.ifCond .ne 10, 3) := dk_154 0 10 (dk_at dksX0_needs_9 16 rfl rfl)
theorem dX0_needs_230 : decode cX0_needs 230 = .ok (.iload 5, 2) := dk_21 5 (dk_at dksX0_needs_9 19 rfl rfl)
theorem dX0_needs_232 : decode cX0_needs 232 = .ok (.iload_n 2, 1) := dk_28 (dk_at dksX0_needs_9 21 rfl rfl)
theorem dX0_needs_233 : decode cX0_needs 233 = .ok (.idiv, 1) := dk_108 (dk_at dksX0_needs_9 22 rfl rfl)
theorem dX0_needs_234 : decode cX0_needs 234 = .ok (.goto 5, 3) := dk_167 0 5 (dk_at dksX0_needs_10 0 rfl rfl)
theorem dX0_needs_237 : decode cX0_needs 237 = .ok (.iload 6, 2) := dk_21 6 (dk_at dksX0_needs_10 3 rfl rfl)
theorem dX0_needs_239 : decode cX0_needs 239 = .ok (.ireturn, 1) := dk_172 (dk_at dksX0_needs_10 5 rfl rfl)
abbrev cX0_image : ByteArray := prog_1_method_75_code
def yX0_image : MethodName := ⟨RX0, "image", "()I"⟩
def dkwX0_image_2 : List UInt8 := [172]
abbrev dktX0_image_2 : List UInt8 := dkwX0_image_2 ++ []
def dkwX0_image_1 : List UInt8 := [180, 0, 92, 27, 42, 180, 0, 50, 27, 50, 180, 0, 185, 79, 132, 1, 1, 167, 255, 230, 42, 180, 0, 134]
abbrev dktX0_image_1 : List UInt8 := dkwX0_image_1 ++ dktX0_image_2
def dkwX0_image_0 : List UInt8 := [42, 4, 181, 1, 146, 42, 42, 180, 0, 134, 181, 1, 150, 3, 60, 27, 42, 180, 0, 134, 162, 0, 24, 42]
abbrev dktX0_image_0 : List UInt8 := dkwX0_image_0 ++ dktX0_image_1
theorem dksX0_image_0 : cX0_image.data.toList.drop 0 = dktX0_image_0 := by decide +kernel
theorem dksX0_image_1 : cX0_image.data.toList.drop 24 = dktX0_image_1 := dk_seg dksX0_image_0 24 rfl rfl
theorem dksX0_image_2 : cX0_image.data.toList.drop 48 = dktX0_image_2 := dk_seg dksX0_image_1 24 rfl rfl
theorem dX0_image_0 : decode cX0_image 0 = .ok (.aload_n 0, 1) := dk_42 (dk_at dksX0_image_0 0 rfl rfl)
theorem dX0_image_1 : decode cX0_image 1 = .ok (.iconst 1, 1) := dk_4 (dk_at dksX0_image_0 1 rfl rfl)
theorem dX0_image_2 : decode cX0_image 2 = .ok (.putfield 402, 3) := dk_181 1 146 (dk_at dksX0_image_0 2 rfl rfl)
theorem dX0_image_5 : decode cX0_image 5 = .ok (.aload_n 0, 1) := dk_42 (dk_at dksX0_image_0 5 rfl rfl)
theorem dX0_image_6 : decode cX0_image 6 = .ok (.aload_n 0, 1) := dk_42 (dk_at dksX0_image_0 6 rfl rfl)
theorem dX0_image_7 : decode cX0_image 7 = .ok (.getfield 134, 3) := dk_180 0 134 (dk_at dksX0_image_0 7 rfl rfl)
theorem dX0_image_10 : decode cX0_image 10 = .ok (.putfield 406, 3) := dk_181 1 150 (dk_at dksX0_image_0 10 rfl rfl)
theorem dX0_image_13 : decode cX0_image 13 = .ok (.iconst 0, 1) := dk_3 (dk_at dksX0_image_0 13 rfl rfl)
theorem dX0_image_14 : decode cX0_image 14 = .ok (.istore_n 1, 1) := dk_60 (dk_at dksX0_image_0 14 rfl rfl)
theorem dX0_image_15 : decode cX0_image 15 = .ok (.iload_n 1, 1) := dk_27 (dk_at dksX0_image_0 15 rfl rfl)
theorem dX0_image_16 : decode cX0_image 16 = .ok (.aload_n 0, 1) := dk_42 (dk_at dksX0_image_0 16 rfl rfl)
theorem dX0_image_17 : decode cX0_image 17 = .ok (.getfield 134, 3) := dk_180 0 134 (dk_at dksX0_image_0 17 rfl rfl)
theorem dX0_image_20 : decode cX0_image 20 = .ok (.if_icmp .ge 24, 3) := dk_162 0 24 (dk_at dksX0_image_0 20 rfl rfl)
theorem dX0_image_23 : decode cX0_image 23 = .ok (.aload_n 0, 1) := dk_42 (dk_at dksX0_image_0 23 rfl rfl)
theorem dX0_image_24 : decode cX0_image 24 = .ok (.getfield 92, 3) := dk_180 0 92 (dk_at dksX0_image_1 0 rfl rfl)
theorem dX0_image_27 : decode cX0_image 27 = .ok (.iload_n 1, 1) := dk_27 (dk_at dksX0_image_1 3 rfl rfl)
theorem dX0_image_28 : decode cX0_image 28 = .ok (.aload_n 0, 1) := dk_42 (dk_at dksX0_image_1 4 rfl rfl)
theorem dX0_image_29 : decode cX0_image 29 = .ok (.getfield 50, 3) := dk_180 0 50 (dk_at dksX0_image_1 5 rfl rfl)
theorem dX0_image_32 : decode cX0_image 32 = .ok (.iload_n 1, 1) := dk_27 (dk_at dksX0_image_1 8 rfl rfl)
theorem dX0_image_33 : decode cX0_image 33 = .ok (.aaload, 1) := dk_50 (dk_at dksX0_image_1 9 rfl rfl)
theorem dX0_image_34 : decode cX0_image 34 = .ok (.getfield 185, 3) := dk_180 0 185 (dk_at dksX0_image_1 10 rfl rfl)
theorem dX0_image_37 : decode cX0_image 37 = .ok (.iastore, 1) := dk_79 (dk_at dksX0_image_1 13 rfl rfl)
theorem dX0_image_38 : decode cX0_image 38 = .ok (.iinc 1 1, 3) := dk_132 1 1 (dk_at dksX0_image_1 14 rfl rfl)
theorem dX0_image_41 : decode cX0_image 41 = .ok (.goto (-26), 3) := dk_167 255 230 (dk_at dksX0_image_1 17 rfl rfl)
theorem dX0_image_44 : decode cX0_image 44 = .ok (.aload_n 0, 1) := dk_42 (dk_at dksX0_image_1 20 rfl rfl)
theorem dX0_image_45 : decode cX0_image 45 = .ok (.getfield 134, 3) := dk_180 0 134 (dk_at dksX0_image_1 21 rfl rfl)
theorem dX0_image_48 : decode cX0_image 48 = .ok (.ireturn, 1) := dk_172 (dk_at dksX0_image_2 0 rfl rfl)
abbrev cX0_back : ByteArray := prog_1_method_76_code
def yX0_back : MethodName := ⟨RX0, "back", "()I"⟩
def dkwX0_back_1 : List UInt8 := [27, 50, 42, 180, 0, 92, 27, 46, 181, 0, 185, 132, 1, 1, 167, 255, 230, 42, 180, 1, 150, 172]
abbrev dktX0_back_1 : List UInt8 := dkwX0_back_1 ++ []
def dkwX0_back_0 : List UInt8 := [42, 180, 1, 146, 154, 0, 6, 16, 251, 172, 3, 60, 27, 42, 180, 1, 150, 162, 0, 24, 42, 180, 0, 50]
abbrev dktX0_back_0 : List UInt8 := dkwX0_back_0 ++ dktX0_back_1
theorem dksX0_back_0 : cX0_back.data.toList.drop 0 = dktX0_back_0 := by decide +kernel
theorem dksX0_back_1 : cX0_back.data.toList.drop 24 = dktX0_back_1 := dk_seg dksX0_back_0 24 rfl rfl
theorem dX0_back_0 : decode cX0_back 0 = .ok (.aload_n 0, 1) := dk_42 (dk_at dksX0_back_0 0 rfl rfl)
theorem dX0_back_1 : decode cX0_back 1 = .ok (.getfield 402, 3) := dk_180 1 146 (dk_at dksX0_back_0 1 rfl rfl)
theorem dX0_back_4 : decode cX0_back 4 = .ok (.ifCond .ne 6, 3) := dk_154 0 6 (dk_at dksX0_back_0 4 rfl rfl)
theorem dX0_back_7 : decode cX0_back 7 = .ok (.bipush (-5), 2) := dk_16 251 (dk_at dksX0_back_0 7 rfl rfl)
theorem dX0_back_9 : decode cX0_back 9 = .ok (.ireturn, 1) := dk_172 (dk_at dksX0_back_0 9 rfl rfl)
theorem dX0_back_10 : decode cX0_back 10 = .ok (.iconst 0, 1) := dk_3 (dk_at dksX0_back_0 10 rfl rfl)
theorem dX0_back_11 : decode cX0_back 11 = .ok (.istore_n 1, 1) := dk_60 (dk_at dksX0_back_0 11 rfl rfl)
theorem dX0_back_12 : decode cX0_back 12 = .ok (.iload_n 1, 1) := dk_27 (dk_at dksX0_back_0 12 rfl rfl)
theorem dX0_back_13 : decode cX0_back 13 = .ok (.aload_n 0, 1) := dk_42 (dk_at dksX0_back_0 13 rfl rfl)
theorem dX0_back_14 : decode cX0_back 14 = .ok (.getfield 406, 3) := dk_180 1 150 (dk_at dksX0_back_0 14 rfl rfl)
theorem dX0_back_17 : decode cX0_back 17 = .ok (.if_icmp .ge 24, 3) := dk_162 0 24 (dk_at dksX0_back_0 17 rfl rfl)
theorem dX0_back_20 : decode cX0_back 20 = .ok (.aload_n 0, 1) := dk_42 (dk_at dksX0_back_0 20 rfl rfl)
theorem dX0_back_21 : decode cX0_back 21 = .ok (.getfield 50, 3) := dk_180 0 50 (dk_at dksX0_back_0 21 rfl rfl)
theorem dX0_back_24 : decode cX0_back 24 = .ok (.iload_n 1, 1) := dk_27 (dk_at dksX0_back_1 0 rfl rfl)
theorem dX0_back_25 : decode cX0_back 25 = .ok (.aaload, 1) := dk_50 (dk_at dksX0_back_1 1 rfl rfl)
theorem dX0_back_26 : decode cX0_back 26 = .ok (.aload_n 0, 1) := dk_42 (dk_at dksX0_back_1 2 rfl rfl)
theorem dX0_back_27 : decode cX0_back 27 = .ok (.getfield 92, 3) := dk_180 0 92 (dk_at dksX0_back_1 3 rfl rfl)
theorem dX0_back_30 : decode cX0_back 30 = .ok (.iload_n 1, 1) := dk_27 (dk_at dksX0_back_1 6 rfl rfl)
theorem dX0_back_31 : decode cX0_back 31 = .ok (.iaload, 1) := dk_46 (dk_at dksX0_back_1 7 rfl rfl)
theorem dX0_back_32 : decode cX0_back 32 = .ok (.putfield 185, 3) := dk_181 0 185 (dk_at dksX0_back_1 8 rfl rfl)
theorem dX0_back_35 : decode cX0_back 35 = .ok (.iinc 1 1, 3) := dk_132 1 1 (dk_at dksX0_back_1 11 rfl rfl)
theorem dX0_back_38 : decode cX0_back 38 = .ok (.goto (-26), 3) := dk_167 255 230 (dk_at dksX0_back_1 14 rfl rfl)
theorem dX0_back_41 : decode cX0_back 41 = .ok (.aload_n 0, 1) := dk_42 (dk_at dksX0_back_1 17 rfl rfl)
theorem dX0_back_42 : decode cX0_back 42 = .ok (.getfield 406, 3) := dk_180 1 150 (dk_at dksX0_back_1 18 rfl rfl)
theorem dX0_back_45 : decode cX0_back 45 = .ok (.ireturn, 1) := dk_172 (dk_at dksX0_back_1 21 rfl rfl)
abbrev cX0_body : ByteArray := prog_1_method_79_code
def yX0_body : MethodName := ⟨RX0, "body", "(I)I"⟩
def dkwX0_body_2 : List UInt8 := [96, 181, 1, 153, 172]
abbrev dktX0_body_2 : List UInt8 := dkwX0_body_2 ++ []
def dkwX0_body_1 : List UInt8 := [16, 253, 172, 42, 180, 0, 97, 42, 180, 1, 153, 42, 27, 182, 1, 180, 83, 42, 89, 180, 1, 153, 90, 4]
abbrev dktX0_body_1 : List UInt8 := dkwX0_body_1 ++ dktX0_body_2
def dkwX0_body_0 : List UInt8 := [27, 133, 9, 20, 1, 178, 184, 0, 112, 154, 0, 5, 2, 172, 42, 180, 1, 153, 16, 50, 160, 0, 6]
abbrev dktX0_body_0 : List UInt8 := dkwX0_body_0 ++ dktX0_body_1
theorem dksX0_body_0 : cX0_body.data.toList.drop 0 = dktX0_body_0 := by decide +kernel
theorem dksX0_body_1 : cX0_body.data.toList.drop 23 = dktX0_body_1 := dk_seg dksX0_body_0 23 rfl rfl
theorem dksX0_body_2 : cX0_body.data.toList.drop 47 = dktX0_body_2 := dk_seg dksX0_body_1 24 rfl rfl
theorem dX0_body_0 : decode cX0_body 0 = .ok (.iload_n 1, 1) := dk_27 (dk_at dksX0_body_0 0 rfl rfl)
theorem dX0_body_1 : decode cX0_body 1 = .ok (.i2l, 1) := dk_133 (dk_at dksX0_body_0 1 rfl rfl)
theorem dX0_body_2 : decode cX0_body 2 = .ok (.lconst 0, 1) := dk_9 (dk_at dksX0_body_0 2 rfl rfl)
theorem dX0_body_3 : decode cX0_body 3 = .ok (.ldc2_w 434, 3) := dk_20 1 178 (dk_at dksX0_body_0 3 rfl rfl)
theorem dX0_body_6 : decode cX0_body 6 = .ok (.invokestatic 112, 3) := dk_184 0 112 (dk_at dksX0_body_0 6 rfl rfl)
theorem dX0_body_9 : decode cX0_body 9 = .ok (.ifCond .ne 5, 3) := dk_154 0 5 (dk_at dksX0_body_0 9 rfl rfl)
theorem dX0_body_12 : decode cX0_body 12 = .ok (.iconst (-1), 1) := dk_2 (dk_at dksX0_body_0 12 rfl rfl)
theorem dX0_body_13 : decode cX0_body 13 = .ok (.ireturn, 1) := dk_172 (dk_at dksX0_body_0 13 rfl rfl)
theorem dX0_body_14 : decode cX0_body 14 = .ok (.aload_n 0, 1) := dk_42 (dk_at dksX0_body_0 14 rfl rfl)
theorem dX0_body_15 : decode cX0_body 15 = .ok (.getfield 409, 3) := dk_180 1 153 (dk_at dksX0_body_0 15 rfl rfl)
theorem dX0_body_18 : decode cX0_body 18 = .ok (.bipush 50, 2) := dk_16 50 (dk_at dksX0_body_0 18 rfl rfl)
theorem dX0_body_20 : decode cX0_body 20 = .ok (.if_icmp .ne 6, 3) := dk_160 0 6 (dk_at dksX0_body_0 20 rfl rfl)
theorem dX0_body_23 : decode cX0_body 23 = .ok (.bipush (-3), 2) := dk_16 253 (dk_at dksX0_body_1 0 rfl rfl)
theorem dX0_body_25 : decode cX0_body 25 = .ok (.ireturn, 1) := dk_172 (dk_at dksX0_body_1 2 rfl rfl)
theorem dX0_body_26 : decode cX0_body 26 = .ok (.aload_n 0, 1) := dk_42 (dk_at dksX0_body_1 3 rfl rfl)
theorem dX0_body_27 : decode cX0_body 27 = .ok (.getfield 97, 3) := dk_180 0 97 (dk_at dksX0_body_1 4 rfl rfl)
theorem dX0_body_30 : decode cX0_body 30 = .ok (.aload_n 0, 1) := dk_42 (dk_at dksX0_body_1 7 rfl rfl)
theorem dX0_body_31 : decode cX0_body 31 = .ok (.getfield 409, 3) := dk_180 1 153 (dk_at dksX0_body_1 8 rfl rfl)
theorem dX0_body_34 : decode cX0_body 34 = .ok (.aload_n 0, 1) := dk_42 (dk_at dksX0_body_1 11 rfl rfl)
theorem dX0_body_35 : decode cX0_body 35 = .ok (.iload_n 1, 1) := dk_27 (dk_at dksX0_body_1 12 rfl rfl)
theorem dX0_body_36 : decode cX0_body 36 = .ok (.invokevirtual 436, 3) := dk_182 1 180 (dk_at dksX0_body_1 13 rfl rfl)
theorem dX0_body_39 : decode cX0_body 39 = .ok (.aastore, 1) := dk_83 (dk_at dksX0_body_1 16 rfl rfl)
theorem dX0_body_40 : decode cX0_body 40 = .ok (.aload_n 0, 1) := dk_42 (dk_at dksX0_body_1 17 rfl rfl)
theorem dX0_body_41 : decode cX0_body 41 = .ok (.dup, 1) := dk_89 (dk_at dksX0_body_1 18 rfl rfl)
theorem dX0_body_42 : decode cX0_body 42 = .ok (.getfield 409, 3) := dk_180 1 153 (dk_at dksX0_body_1 19 rfl rfl)
theorem dX0_body_45 : decode cX0_body 45 = .ok (.dup_x1, 1) := dk_90 (dk_at dksX0_body_1 22 rfl rfl)
theorem dX0_body_46 : decode cX0_body 46 = .ok (.iconst 1, 1) := dk_4 (dk_at dksX0_body_1 23 rfl rfl)
theorem dX0_body_47 : decode cX0_body 47 = .ok (.iadd, 1) := dk_96 (dk_at dksX0_body_2 0 rfl rfl)
theorem dX0_body_48 : decode cX0_body 48 = .ok (.putfield 409, 3) := dk_181 1 153 (dk_at dksX0_body_2 1 rfl rfl)
theorem dX0_body_51 : decode cX0_body 51 = .ok (.ireturn, 1) := dk_172 (dk_at dksX0_body_2 4 rfl rfl)
abbrev cX0_made : ByteArray := prog_1_method_78_code
def yX0_made : MethodName := ⟨RX0, "made", "(I)LNameRests$Body;"⟩
def dkwX0_made_6 : List UInt8 := [187, 0, 95, 89, 42, 42, 180, 1, 153, 183, 1, 177, 176]
abbrev dktX0_made_6 : List UInt8 := dkwX0_made_6 ++ []
def dkwX0_made_5 : List UInt8 := [42, 42, 180, 1, 153, 183, 1, 173, 176, 187, 1, 174, 89, 42, 42, 180, 1, 153, 183, 1, 176, 176]
abbrev dktX0_made_5 : List UInt8 := dkwX0_made_5 ++ dktX0_made_6
def dkwX0_made_4 : List UInt8 := [180, 1, 153, 183, 1, 167, 176, 187, 1, 168, 89, 42, 42, 180, 1, 153, 183, 1, 170, 176, 187, 1, 171, 89]
abbrev dktX0_made_4 : List UInt8 := dkwX0_made_4 ++ dktX0_made_5
def dkwX0_made_3 : List UInt8 := [183, 1, 161, 176, 187, 1, 162, 89, 42, 42, 180, 1, 153, 183, 1, 164, 176, 187, 1, 165, 89, 42, 42]
abbrev dktX0_made_3 : List UInt8 := dkwX0_made_3 ++ dktX0_made_4
def dkwX0_made_2 : List UInt8 := [187, 1, 156, 89, 42, 42, 180, 1, 153, 183, 1, 158, 176, 187, 1, 159, 89, 42, 42, 180, 1, 153]
abbrev dktX0_made_2 : List UInt8 := dkwX0_made_2 ++ dktX0_made_3
def dkwX0_made_1 : List UInt8 := [170, 0, 0, 0, 0, 0, 134, 0, 0, 0, 1, 0, 0, 0, 7, 0, 0, 0, 43, 0, 0, 0, 56, 0, 0, 0, 69, 0, 0, 0, 82, 0, 0, 0, 95, 0, 0, 0, 108, 0, 0, 0, 121]
abbrev dktX0_made_1 : List UInt8 := dkwX0_made_1 ++ dktX0_made_2
def dkwX0_made_0 : List UInt8 := [27]
abbrev dktX0_made_0 : List UInt8 := dkwX0_made_0 ++ dktX0_made_1
theorem dksX0_made_0 : cX0_made.data.toList.drop 0 = dktX0_made_0 := by decide +kernel
theorem dksX0_made_1 : cX0_made.data.toList.drop 1 = dktX0_made_1 := dk_seg dksX0_made_0 1 rfl rfl
theorem dksX0_made_2 : cX0_made.data.toList.drop 44 = dktX0_made_2 := dk_seg dksX0_made_1 43 rfl rfl
theorem dksX0_made_3 : cX0_made.data.toList.drop 66 = dktX0_made_3 := dk_seg dksX0_made_2 22 rfl rfl
theorem dksX0_made_4 : cX0_made.data.toList.drop 89 = dktX0_made_4 := dk_seg dksX0_made_3 23 rfl rfl
theorem dksX0_made_5 : cX0_made.data.toList.drop 113 = dktX0_made_5 := dk_seg dksX0_made_4 24 rfl rfl
theorem dksX0_made_6 : cX0_made.data.toList.drop 135 = dktX0_made_6 := dk_seg dksX0_made_5 22 rfl rfl
theorem dX0_made_0 : decode cX0_made 0 = .ok (.iload_n 1, 1) := dk_27 (dk_at dksX0_made_0 0 rfl rfl)
theorem dX0_made_1 : decode cX0_made 1 = .ok (.tableswitch 134 1 7 #[43, 56, 69, 82, 95, 108, 121], 43) := by decide +kernel
theorem dX0_made_44 : decode cX0_made 44 = .ok (.new 412, 3) := dk_187 1 156 (dk_at dksX0_made_2 0 rfl rfl)
theorem dX0_made_47 : decode cX0_made 47 = .ok (.dup, 1) := dk_89 (dk_at dksX0_made_2 3 rfl rfl)
theorem dX0_made_48 : decode cX0_made 48 = .ok (.aload_n 0, 1) := dk_42 (dk_at dksX0_made_2 4 rfl rfl)
theorem dX0_made_49 : decode cX0_made 49 = .ok (.aload_n 0, 1) := dk_42 (dk_at dksX0_made_2 5 rfl rfl)
theorem dX0_made_50 : decode cX0_made 50 = .ok (.getfield 409, 3) := dk_180 1 153 (dk_at dksX0_made_2 6 rfl rfl)
theorem dX0_made_53 : decode cX0_made 53 = .ok (.invokespecial 414, 3) := dk_183 1 158 (dk_at dksX0_made_2 9 rfl rfl)
theorem dX0_made_56 : decode cX0_made 56 = .ok (.areturn, 1) := dk_176 (dk_at dksX0_made_2 12 rfl rfl)
theorem dX0_made_57 : decode cX0_made 57 = .ok (.new 415, 3) := dk_187 1 159 (dk_at dksX0_made_2 13 rfl rfl)
theorem dX0_made_60 : decode cX0_made 60 = .ok (.dup, 1) := dk_89 (dk_at dksX0_made_2 16 rfl rfl)
theorem dX0_made_61 : decode cX0_made 61 = .ok (.aload_n 0, 1) := dk_42 (dk_at dksX0_made_2 17 rfl rfl)
theorem dX0_made_62 : decode cX0_made 62 = .ok (.aload_n 0, 1) := dk_42 (dk_at dksX0_made_2 18 rfl rfl)
theorem dX0_made_63 : decode cX0_made 63 = .ok (.getfield 409, 3) := dk_180 1 153 (dk_at dksX0_made_2 19 rfl rfl)
theorem dX0_made_66 : decode cX0_made 66 = .ok (.invokespecial 417, 3) := dk_183 1 161 (dk_at dksX0_made_3 0 rfl rfl)
theorem dX0_made_69 : decode cX0_made 69 = .ok (.areturn, 1) := dk_176 (dk_at dksX0_made_3 3 rfl rfl)
theorem dX0_made_70 : decode cX0_made 70 = .ok (.new 418, 3) := dk_187 1 162 (dk_at dksX0_made_3 4 rfl rfl)
theorem dX0_made_73 : decode cX0_made 73 = .ok (.dup, 1) := dk_89 (dk_at dksX0_made_3 7 rfl rfl)
theorem dX0_made_74 : decode cX0_made 74 = .ok (.aload_n 0, 1) := dk_42 (dk_at dksX0_made_3 8 rfl rfl)
theorem dX0_made_75 : decode cX0_made 75 = .ok (.aload_n 0, 1) := dk_42 (dk_at dksX0_made_3 9 rfl rfl)
theorem dX0_made_76 : decode cX0_made 76 = .ok (.getfield 409, 3) := dk_180 1 153 (dk_at dksX0_made_3 10 rfl rfl)
theorem dX0_made_79 : decode cX0_made 79 = .ok (.invokespecial 420, 3) := dk_183 1 164 (dk_at dksX0_made_3 13 rfl rfl)
theorem dX0_made_82 : decode cX0_made 82 = .ok (.areturn, 1) := dk_176 (dk_at dksX0_made_3 16 rfl rfl)
theorem dX0_made_83 : decode cX0_made 83 = .ok (.new 421, 3) := dk_187 1 165 (dk_at dksX0_made_3 17 rfl rfl)
theorem dX0_made_86 : decode cX0_made 86 = .ok (.dup, 1) := dk_89 (dk_at dksX0_made_3 20 rfl rfl)
theorem dX0_made_87 : decode cX0_made 87 = .ok (.aload_n 0, 1) := dk_42 (dk_at dksX0_made_3 21 rfl rfl)
theorem dX0_made_88 : decode cX0_made 88 = .ok (.aload_n 0, 1) := dk_42 (dk_at dksX0_made_3 22 rfl rfl)
theorem dX0_made_89 : decode cX0_made 89 = .ok (.getfield 409, 3) := dk_180 1 153 (dk_at dksX0_made_4 0 rfl rfl)
theorem dX0_made_92 : decode cX0_made 92 = .ok (.invokespecial 423, 3) := dk_183 1 167 (dk_at dksX0_made_4 3 rfl rfl)
theorem dX0_made_95 : decode cX0_made 95 = .ok (.areturn, 1) := dk_176 (dk_at dksX0_made_4 6 rfl rfl)
theorem dX0_made_96 : decode cX0_made 96 = .ok (.new 424, 3) := dk_187 1 168 (dk_at dksX0_made_4 7 rfl rfl)
theorem dX0_made_99 : decode cX0_made 99 = .ok (.dup, 1) := dk_89 (dk_at dksX0_made_4 10 rfl rfl)
theorem dX0_made_100 : decode cX0_made 100 = .ok (.aload_n 0, 1) := dk_42 (dk_at dksX0_made_4 11 rfl rfl)
theorem dX0_made_101 : decode cX0_made 101 = .ok (.aload_n 0, 1) := dk_42 (dk_at dksX0_made_4 12 rfl rfl)
theorem dX0_made_102 : decode cX0_made 102 = .ok (.getfield 409, 3) := dk_180 1 153 (dk_at dksX0_made_4 13 rfl rfl)
theorem dX0_made_105 : decode cX0_made 105 = .ok (.invokespecial 426, 3) := dk_183 1 170 (dk_at dksX0_made_4 16 rfl rfl)
theorem dX0_made_108 : decode cX0_made 108 = .ok (.areturn, 1) := dk_176 (dk_at dksX0_made_4 19 rfl rfl)
theorem dX0_made_109 : decode cX0_made 109 = .ok (.new 427, 3) := dk_187 1 171 (dk_at dksX0_made_4 20 rfl rfl)
theorem dX0_made_112 : decode cX0_made 112 = .ok (.dup, 1) := dk_89 (dk_at dksX0_made_4 23 rfl rfl)
theorem dX0_made_113 : decode cX0_made 113 = .ok (.aload_n 0, 1) := dk_42 (dk_at dksX0_made_5 0 rfl rfl)
theorem dX0_made_114 : decode cX0_made 114 = .ok (.aload_n 0, 1) := dk_42 (dk_at dksX0_made_5 1 rfl rfl)
theorem dX0_made_115 : decode cX0_made 115 = .ok (.getfield 409, 3) := dk_180 1 153 (dk_at dksX0_made_5 2 rfl rfl)
theorem dX0_made_118 : decode cX0_made 118 = .ok (.invokespecial 429, 3) := dk_183 1 173 (dk_at dksX0_made_5 5 rfl rfl)
theorem dX0_made_121 : decode cX0_made 121 = .ok (.areturn, 1) := dk_176 (dk_at dksX0_made_5 8 rfl rfl)
theorem dX0_made_122 : decode cX0_made 122 = .ok (.new 430, 3) := dk_187 1 174 (dk_at dksX0_made_5 9 rfl rfl)
theorem dX0_made_125 : decode cX0_made 125 = .ok (.dup, 1) := dk_89 (dk_at dksX0_made_5 12 rfl rfl)
theorem dX0_made_126 : decode cX0_made 126 = .ok (.aload_n 0, 1) := dk_42 (dk_at dksX0_made_5 13 rfl rfl)
theorem dX0_made_127 : decode cX0_made 127 = .ok (.aload_n 0, 1) := dk_42 (dk_at dksX0_made_5 14 rfl rfl)
theorem dX0_made_128 : decode cX0_made 128 = .ok (.getfield 409, 3) := dk_180 1 153 (dk_at dksX0_made_5 15 rfl rfl)
theorem dX0_made_131 : decode cX0_made 131 = .ok (.invokespecial 432, 3) := dk_183 1 176 (dk_at dksX0_made_5 18 rfl rfl)
theorem dX0_made_134 : decode cX0_made 134 = .ok (.areturn, 1) := dk_176 (dk_at dksX0_made_5 21 rfl rfl)
theorem dX0_made_135 : decode cX0_made 135 = .ok (.new 95, 3) := dk_187 0 95 (dk_at dksX0_made_6 0 rfl rfl)
theorem dX0_made_138 : decode cX0_made 138 = .ok (.dup, 1) := dk_89 (dk_at dksX0_made_6 3 rfl rfl)
theorem dX0_made_139 : decode cX0_made 139 = .ok (.aload_n 0, 1) := dk_42 (dk_at dksX0_made_6 4 rfl rfl)
theorem dX0_made_140 : decode cX0_made 140 = .ok (.aload_n 0, 1) := dk_42 (dk_at dksX0_made_6 5 rfl rfl)
theorem dX0_made_141 : decode cX0_made 141 = .ok (.getfield 409, 3) := dk_180 1 153 (dk_at dksX0_made_6 6 rfl rfl)
theorem dX0_made_144 : decode cX0_made 144 = .ok (.invokespecial 433, 3) := dk_183 1 177 (dk_at dksX0_made_6 9 rfl rfl)
theorem dX0_made_147 : decode cX0_made 147 = .ok (.areturn, 1) := dk_176 (dk_at dksX0_made_6 12 rfl rfl)
abbrev cX0_act : ByteArray := prog_1_method_80_code
def yX0_act : MethodName := ⟨RX0, "act", "(III)I"⟩
def dkwX0_act_4 : List UInt8 := [182, 1, 199, 172]
abbrev dktX0_act_4 : List UInt8 := dkwX0_act_4 ++ []
def dkwX0_act_3 : List UInt8 := [25, 4, 29, 182, 1, 190, 172, 25, 4, 29, 182, 1, 193, 172, 25, 4, 29, 182, 1, 196, 172, 25, 4, 29]
abbrev dktX0_act_3 : List UInt8 := dkwX0_act_3 ++ dktX0_act_4
def dkwX0_act_2 : List UInt8 := [170, 0, 0, 0, 0, 0, 0, 49, 0, 0, 0, 0, 0, 0, 0, 2, 0, 0, 0, 28, 0, 0, 0, 35, 0, 0, 0, 42]
abbrev dktX0_act_2 : List UInt8 := dkwX0_act_2 ++ dktX0_act_3
def dkwX0_act_1 : List UInt8 := [154, 0, 5, 3, 172, 42, 180, 0, 97, 27, 50, 58, 4, 28]
abbrev dktX0_act_1 : List UInt8 := dkwX0_act_1 ++ dktX0_act_2
def dkwX0_act_0 : List UInt8 := [42, 3, 181, 1, 184, 42, 27, 182, 1, 187, 153, 0, 15, 28, 133, 9, 20, 0, 174, 184, 0, 112]
abbrev dktX0_act_0 : List UInt8 := dkwX0_act_0 ++ dktX0_act_1
theorem dksX0_act_0 : cX0_act.data.toList.drop 0 = dktX0_act_0 := by decide +kernel
theorem dksX0_act_1 : cX0_act.data.toList.drop 22 = dktX0_act_1 := dk_seg dksX0_act_0 22 rfl rfl
theorem dksX0_act_2 : cX0_act.data.toList.drop 36 = dktX0_act_2 := dk_seg dksX0_act_1 14 rfl rfl
theorem dksX0_act_3 : cX0_act.data.toList.drop 64 = dktX0_act_3 := dk_seg dksX0_act_2 28 rfl rfl
theorem dksX0_act_4 : cX0_act.data.toList.drop 88 = dktX0_act_4 := dk_seg dksX0_act_3 24 rfl rfl
theorem dX0_act_0 : decode cX0_act 0 = .ok (.aload_n 0, 1) := dk_42 (dk_at dksX0_act_0 0 rfl rfl)
theorem dX0_act_1 : decode cX0_act 1 = .ok (.iconst 0, 1) := dk_3 (dk_at dksX0_act_0 1 rfl rfl)
theorem dX0_act_2 : decode cX0_act 2 = .ok (.putfield 440, 3) := dk_181 1 184 (dk_at dksX0_act_0 2 rfl rfl)
theorem dX0_act_5 : decode cX0_act 5 = .ok (.aload_n 0, 1) := dk_42 (dk_at dksX0_act_0 5 rfl rfl)
theorem dX0_act_6 : decode cX0_act 6 = .ok (.iload_n 1, 1) := dk_27 (dk_at dksX0_act_0 6 rfl rfl)
theorem dX0_act_7 : decode cX0_act 7 = .ok (.invokevirtual 443, 3) := dk_182 1 187 (dk_at dksX0_act_0 7 rfl rfl)
theorem dX0_act_10 : decode cX0_act 10 = .ok (.ifCond .eq 15, 3) := dk_153 0 15 (dk_at dksX0_act_0 10 rfl rfl)
theorem dX0_act_13 : decode cX0_act 13 = .ok (.iload_n 2, 1) := dk_28 (dk_at dksX0_act_0 13 rfl rfl)
theorem dX0_act_14 : decode cX0_act 14 = .ok (.i2l, 1) := dk_133 (dk_at dksX0_act_0 14 rfl rfl)
theorem dX0_act_15 : decode cX0_act 15 = .ok (.lconst 0, 1) := dk_9 (dk_at dksX0_act_0 15 rfl rfl)
theorem dX0_act_16 : decode cX0_act 16 = .ok (.ldc2_w 174, 3) := dk_20 0 174 (dk_at dksX0_act_0 16 rfl rfl)
theorem dX0_act_19 : decode cX0_act 19 = .ok (.invokestatic 112, 3) := dk_184 0 112 (dk_at dksX0_act_0 19 rfl rfl)
theorem dX0_act_22 : decode cX0_act 22 = .ok (.ifCond .ne 5, 3) := dk_154 0 5 (dk_at dksX0_act_1 0 rfl rfl)
theorem dX0_act_25 : decode cX0_act 25 = .ok (.iconst 0, 1) := dk_3 (dk_at dksX0_act_1 3 rfl rfl)
theorem dX0_act_26 : decode cX0_act 26 = .ok (.ireturn, 1) := dk_172 (dk_at dksX0_act_1 4 rfl rfl)
theorem dX0_act_27 : decode cX0_act 27 = .ok (.aload_n 0, 1) := dk_42 (dk_at dksX0_act_1 5 rfl rfl)
theorem dX0_act_28 : decode cX0_act 28 = .ok (.getfield 97, 3) := dk_180 0 97 (dk_at dksX0_act_1 6 rfl rfl)
theorem dX0_act_31 : decode cX0_act 31 = .ok (.iload_n 1, 1) := dk_27 (dk_at dksX0_act_1 9 rfl rfl)
theorem dX0_act_32 : decode cX0_act 32 = .ok (.aaload, 1) := dk_50 (dk_at dksX0_act_1 10 rfl rfl)
theorem dX0_act_33 : decode cX0_act 33 = .ok (.astore 4, 2) := dk_58 4 (dk_at dksX0_act_1 11 rfl rfl)
theorem dX0_act_35 : decode cX0_act 35 = .ok (.iload_n 2, 1) := dk_28 (dk_at dksX0_act_1 13 rfl rfl)
theorem dX0_act_36 : decode cX0_act 36 = .ok (.tableswitch 49 0 2 #[28, 35, 42], 28) := by decide +kernel
theorem dX0_act_64 : decode cX0_act 64 = .ok (.aload 4, 2) := dk_25 4 (dk_at dksX0_act_3 0 rfl rfl)
theorem dX0_act_66 : decode cX0_act 66 = .ok (.iload_n 3, 1) := dk_29 (dk_at dksX0_act_3 2 rfl rfl)
theorem dX0_act_67 : decode cX0_act 67 = .ok (.invokevirtual 446, 3) := dk_182 1 190 (dk_at dksX0_act_3 3 rfl rfl)
theorem dX0_act_70 : decode cX0_act 70 = .ok (.ireturn, 1) := dk_172 (dk_at dksX0_act_3 6 rfl rfl)
theorem dX0_act_71 : decode cX0_act 71 = .ok (.aload 4, 2) := dk_25 4 (dk_at dksX0_act_3 7 rfl rfl)
theorem dX0_act_73 : decode cX0_act 73 = .ok (.iload_n 3, 1) := dk_29 (dk_at dksX0_act_3 9 rfl rfl)
theorem dX0_act_74 : decode cX0_act 74 = .ok (.invokevirtual 449, 3) := dk_182 1 193 (dk_at dksX0_act_3 10 rfl rfl)
theorem dX0_act_77 : decode cX0_act 77 = .ok (.ireturn, 1) := dk_172 (dk_at dksX0_act_3 13 rfl rfl)
theorem dX0_act_78 : decode cX0_act 78 = .ok (.aload 4, 2) := dk_25 4 (dk_at dksX0_act_3 14 rfl rfl)
theorem dX0_act_80 : decode cX0_act 80 = .ok (.iload_n 3, 1) := dk_29 (dk_at dksX0_act_3 16 rfl rfl)
theorem dX0_act_81 : decode cX0_act 81 = .ok (.invokevirtual 452, 3) := dk_182 1 196 (dk_at dksX0_act_3 17 rfl rfl)
theorem dX0_act_84 : decode cX0_act 84 = .ok (.ireturn, 1) := dk_172 (dk_at dksX0_act_3 20 rfl rfl)
theorem dX0_act_85 : decode cX0_act 85 = .ok (.aload 4, 2) := dk_25 4 (dk_at dksX0_act_3 21 rfl rfl)
theorem dX0_act_87 : decode cX0_act 87 = .ok (.iload_n 3, 1) := dk_29 (dk_at dksX0_act_3 23 rfl rfl)
theorem dX0_act_88 : decode cX0_act 88 = .ok (.invokevirtual 455, 3) := dk_182 1 199 (dk_at dksX0_act_4 0 rfl rfl)
theorem dX0_act_91 : decode cX0_act 91 = .ok (.ireturn, 1) := dk_172 (dk_at dksX0_act_4 3 rfl rfl)
abbrev cX0_isBody : ByteArray := prog_1_method_77_code
def yX0_isBody : MethodName := ⟨RX0, "isBody", "(I)Z"⟩
def dkwX0_isBody_0 : List UInt8 := [27, 133, 9, 42, 180, 1, 153, 4, 100, 133, 184, 0, 112, 172]
abbrev dktX0_isBody_0 : List UInt8 := dkwX0_isBody_0 ++ []
theorem dksX0_isBody_0 : cX0_isBody.data.toList.drop 0 = dktX0_isBody_0 := by decide +kernel
theorem dX0_isBody_0 : decode cX0_isBody 0 = .ok (.iload_n 1, 1) := dk_27 (dk_at dksX0_isBody_0 0 rfl rfl)
theorem dX0_isBody_1 : decode cX0_isBody 1 = .ok (.i2l, 1) := dk_133 (dk_at dksX0_isBody_0 1 rfl rfl)
theorem dX0_isBody_2 : decode cX0_isBody 2 = .ok (.lconst 0, 1) := dk_9 (dk_at dksX0_isBody_0 2 rfl rfl)
theorem dX0_isBody_3 : decode cX0_isBody 3 = .ok (.aload_n 0, 1) := dk_42 (dk_at dksX0_isBody_0 3 rfl rfl)
theorem dX0_isBody_4 : decode cX0_isBody 4 = .ok (.getfield 409, 3) := dk_180 1 153 (dk_at dksX0_isBody_0 4 rfl rfl)
theorem dX0_isBody_7 : decode cX0_isBody 7 = .ok (.iconst 1, 1) := dk_4 (dk_at dksX0_isBody_0 7 rfl rfl)
theorem dX0_isBody_8 : decode cX0_isBody 8 = .ok (.isub, 1) := dk_100 (dk_at dksX0_isBody_0 8 rfl rfl)
theorem dX0_isBody_9 : decode cX0_isBody 9 = .ok (.i2l, 1) := dk_133 (dk_at dksX0_isBody_0 9 rfl rfl)
theorem dX0_isBody_10 : decode cX0_isBody 10 = .ok (.invokestatic 112, 3) := dk_184 0 112 (dk_at dksX0_isBody_0 10 rfl rfl)
theorem dX0_isBody_13 : decode cX0_isBody 13 = .ok (.ireturn, 1) := dk_172 (dk_at dksX0_isBody_0 13 rfl rfl)
abbrev cX0_trace : ByteArray := prog_1_method_81_code
def yX0_trace : MethodName := ⟨RX0, "trace", "(I)I"⟩
def dkwX0_trace_1 : List UInt8 := [180, 0, 101, 27, 46, 167, 0, 4, 2, 172]
abbrev dktX0_trace_1 : List UInt8 := dkwX0_trace_1 ++ []
def dkwX0_trace_0 : List UInt8 := [27, 133, 9, 42, 180, 1, 184, 16, 24, 184, 1, 202, 4, 100, 133, 184, 0, 112, 153, 0, 12, 42]
abbrev dktX0_trace_0 : List UInt8 := dkwX0_trace_0 ++ dktX0_trace_1
theorem dksX0_trace_0 : cX0_trace.data.toList.drop 0 = dktX0_trace_0 := by decide +kernel
theorem dksX0_trace_1 : cX0_trace.data.toList.drop 22 = dktX0_trace_1 := dk_seg dksX0_trace_0 22 rfl rfl
theorem dX0_trace_0 : decode cX0_trace 0 = .ok (.iload_n 1, 1) := dk_27 (dk_at dksX0_trace_0 0 rfl rfl)
theorem dX0_trace_1 : decode cX0_trace 1 = .ok (.i2l, 1) := dk_133 (dk_at dksX0_trace_0 1 rfl rfl)
theorem dX0_trace_2 : decode cX0_trace 2 = .ok (.lconst 0, 1) := dk_9 (dk_at dksX0_trace_0 2 rfl rfl)
theorem dX0_trace_3 : decode cX0_trace 3 = .ok (.aload_n 0, 1) := dk_42 (dk_at dksX0_trace_0 3 rfl rfl)
theorem dX0_trace_4 : decode cX0_trace 4 = .ok (.getfield 440, 3) := dk_180 1 184 (dk_at dksX0_trace_0 4 rfl rfl)
theorem dX0_trace_7 : decode cX0_trace 7 = .ok (.bipush 24, 2) := dk_16 24 (dk_at dksX0_trace_0 7 rfl rfl)
theorem dX0_trace_9 : decode cX0_trace 9 = .ok (.invokestatic 458, 3) := dk_184 1 202 (dk_at dksX0_trace_0 9 rfl rfl)
theorem dX0_trace_12 : decode cX0_trace 12 = .ok (.iconst 1, 1) := dk_4 (dk_at dksX0_trace_0 12 rfl rfl)
theorem dX0_trace_13 : decode cX0_trace 13 = .ok (.isub, 1) := dk_100 (dk_at dksX0_trace_0 13 rfl rfl)
theorem dX0_trace_14 : decode cX0_trace 14 = .ok (.i2l, 1) := dk_133 (dk_at dksX0_trace_0 14 rfl rfl)
theorem dX0_trace_15 : decode cX0_trace 15 = .ok (.invokestatic 112, 3) := dk_184 0 112 (dk_at dksX0_trace_0 15 rfl rfl)
theorem dX0_trace_18 : decode cX0_trace 18 = .ok (.ifCond .eq 12, 3) := dk_153 0 12 (dk_at dksX0_trace_0 18 rfl rfl)
theorem dX0_trace_21 : decode cX0_trace 21 = .ok (.aload_n 0, 1) := dk_42 (dk_at dksX0_trace_0 21 rfl rfl)
theorem dX0_trace_22 : decode cX0_trace 22 = .ok (.getfield 101, 3) := dk_180 0 101 (dk_at dksX0_trace_1 0 rfl rfl)
theorem dX0_trace_25 : decode cX0_trace 25 = .ok (.iload_n 1, 1) := dk_27 (dk_at dksX0_trace_1 3 rfl rfl)
theorem dX0_trace_26 : decode cX0_trace 26 = .ok (.iaload, 1) := dk_46 (dk_at dksX0_trace_1 4 rfl rfl)
theorem dX0_trace_27 : decode cX0_trace 27 = .ok (.goto 4, 3) := dk_167 0 4 (dk_at dksX0_trace_1 5 rfl rfl)
theorem dX0_trace_30 : decode cX0_trace 30 = .ok (.iconst (-1), 1) := dk_2 (dk_at dksX0_trace_1 8 rfl rfl)
theorem dX0_trace_31 : decode cX0_trace 31 = .ok (.ireturn, 1) := dk_172 (dk_at dksX0_trace_1 9 rfl rfl)
abbrev cX0_keep : ByteArray := prog_1_method_83_code
def yX0_keep : MethodName := ⟨RX0, "keep", "(II)I"⟩
def dkwX0_keep_1 : List UInt8 := [180, 0, 104, 27, 28, 2, 160, 0, 7, 1, 167, 0, 9, 42, 180, 0, 97, 28, 50, 83, 4, 172]
abbrev dktX0_keep_1 : List UInt8 := dkwX0_keep_1 ++ []
def dkwX0_keep_0 : List UInt8 := [27, 184, 0, 165, 153, 0, 16, 28, 2, 159, 0, 13, 42, 28, 182, 1, 187, 154, 0, 5, 2, 172, 42]
abbrev dktX0_keep_0 : List UInt8 := dkwX0_keep_0 ++ dktX0_keep_1
theorem dksX0_keep_0 : cX0_keep.data.toList.drop 0 = dktX0_keep_0 := by decide +kernel
theorem dksX0_keep_1 : cX0_keep.data.toList.drop 23 = dktX0_keep_1 := dk_seg dksX0_keep_0 23 rfl rfl
theorem dX0_keep_0 : decode cX0_keep 0 = .ok (.iload_n 1, 1) := dk_27 (dk_at dksX0_keep_0 0 rfl rfl)
theorem dX0_keep_1 : decode cX0_keep 1 = .ok (.invokestatic 165, 3) := dk_184 0 165 (dk_at dksX0_keep_0 1 rfl rfl)
theorem dX0_keep_4 : decode cX0_keep 4 = .ok (.ifCond .eq 16, 3) := dk_153 0 16 (dk_at dksX0_keep_0 4 rfl rfl)
theorem dX0_keep_7 : decode cX0_keep 7 = .ok (.iload_n 2, 1) := dk_28 (dk_at dksX0_keep_0 7 rfl rfl)
theorem dX0_keep_8 : decode cX0_keep 8 = .ok (.iconst (-1), 1) := dk_2 (dk_at dksX0_keep_0 8 rfl rfl)
theorem dX0_keep_9 : decode cX0_keep 9 = .ok (.if_icmp .eq 13, 3) := dk_159 0 13 (dk_at dksX0_keep_0 9 rfl rfl)
theorem dX0_keep_12 : decode cX0_keep 12 = .ok (.aload_n 0, 1) := dk_42 (dk_at dksX0_keep_0 12 rfl rfl)
theorem dX0_keep_13 : decode cX0_keep 13 = .ok (.iload_n 2, 1) := dk_28 (dk_at dksX0_keep_0 13 rfl rfl)
theorem dX0_keep_14 : decode cX0_keep 14 = .ok (.invokevirtual 443, 3) := dk_182 1 187 (dk_at dksX0_keep_0 14 rfl rfl)
theorem dX0_keep_17 : decode cX0_keep 17 = .ok (.ifCond .ne 5, 3) := dk_154 0 5 (dk_at dksX0_keep_0 17 rfl rfl)
theorem dX0_keep_20 : decode cX0_keep 20 = .ok (.iconst (-1), 1) := dk_2 (dk_at dksX0_keep_0 20 rfl rfl)
theorem dX0_keep_21 : decode cX0_keep 21 = .ok (.ireturn, 1) := dk_172 (dk_at dksX0_keep_0 21 rfl rfl)
theorem dX0_keep_22 : decode cX0_keep 22 = .ok (.aload_n 0, 1) := dk_42 (dk_at dksX0_keep_0 22 rfl rfl)
theorem dX0_keep_23 : decode cX0_keep 23 = .ok (.getfield 104, 3) := dk_180 0 104 (dk_at dksX0_keep_1 0 rfl rfl)
theorem dX0_keep_26 : decode cX0_keep 26 = .ok (.iload_n 1, 1) := dk_27 (dk_at dksX0_keep_1 3 rfl rfl)
theorem dX0_keep_27 : decode cX0_keep 27 = .ok (.iload_n 2, 1) := dk_28 (dk_at dksX0_keep_1 4 rfl rfl)
theorem dX0_keep_28 : decode cX0_keep 28 = .ok (.iconst (-1), 1) := dk_2 (dk_at dksX0_keep_1 5 rfl rfl)
theorem dX0_keep_29 : decode cX0_keep 29 = .ok (.if_icmp .ne 7, 3) := dk_160 0 7 (dk_at dksX0_keep_1 6 rfl rfl)
theorem dX0_keep_32 : decode cX0_keep 32 = .ok (.aconst_null, 1) := dk_1 (dk_at dksX0_keep_1 9 rfl rfl)
theorem dX0_keep_33 : decode cX0_keep 33 = .ok (.goto 9, 3) := dk_167 0 9 (dk_at dksX0_keep_1 10 rfl rfl)
theorem dX0_keep_36 : decode cX0_keep 36 = .ok (.aload_n 0, 1) := dk_42 (dk_at dksX0_keep_1 13 rfl rfl)
theorem dX0_keep_37 : decode cX0_keep 37 = .ok (.getfield 97, 3) := dk_180 0 97 (dk_at dksX0_keep_1 14 rfl rfl)
theorem dX0_keep_40 : decode cX0_keep 40 = .ok (.iload_n 2, 1) := dk_28 (dk_at dksX0_keep_1 17 rfl rfl)
theorem dX0_keep_41 : decode cX0_keep 41 = .ok (.aaload, 1) := dk_50 (dk_at dksX0_keep_1 18 rfl rfl)
theorem dX0_keep_42 : decode cX0_keep 42 = .ok (.aastore, 1) := dk_83 (dk_at dksX0_keep_1 19 rfl rfl)
theorem dX0_keep_43 : decode cX0_keep 43 = .ok (.iconst 1, 1) := dk_4 (dk_at dksX0_keep_1 20 rfl rfl)
theorem dX0_keep_44 : decode cX0_keep 44 = .ok (.ireturn, 1) := dk_172 (dk_at dksX0_keep_1 21 rfl rfl)
abbrev cX0_row : ByteArray := prog_1_method_84_code
def yX0_row : MethodName := ⟨RX0, "row", "(III)I"⟩
def dkwX0_row_5 : List UInt8 := [42, 180, 0, 104, 27, 29, 188, 4, 83, 4, 172]
abbrev dktX0_row_5 : List UInt8 := dkwX0_row_5 ++ []
def dkwX0_row_4 : List UInt8 := [42, 180, 0, 104, 27, 29, 188, 10, 83, 167, 0, 24, 42, 180, 0, 104, 27, 29, 188, 11, 83, 167, 0, 12]
abbrev dktX0_row_4 : List UInt8 := dkwX0_row_4 ++ dktX0_row_5
def dkwX0_row_3 : List UInt8 := [42, 180, 0, 104, 27, 29, 188, 8, 83, 167, 0, 48, 42, 180, 0, 104, 27, 29, 188, 9, 83, 167, 0, 36]
abbrev dktX0_row_3 : List UInt8 := dkwX0_row_3 ++ dktX0_row_4
def dkwX0_row_2 : List UInt8 := [170, 0, 0, 0, 77, 0, 0, 0, 0, 0, 0, 0, 3, 0, 0, 0, 29, 0, 0, 0, 41, 0, 0, 0, 53, 0, 0, 0, 65]
abbrev dktX0_row_2 : List UInt8 := dkwX0_row_2 ++ dktX0_row_3
def dkwX0_row_1 : List UInt8 := [164, 0, 5, 2, 172, 29, 156, 0, 6, 16, 242, 172, 28]
abbrev dktX0_row_1 : List UInt8 := dkwX0_row_1 ++ dktX0_row_2
def dkwX0_row_0 : List UInt8 := [27, 184, 0, 165, 153, 0, 21, 28, 133, 9, 20, 1, 207, 184, 0, 112, 153, 0, 9, 29, 16, 60]
abbrev dktX0_row_0 : List UInt8 := dkwX0_row_0 ++ dktX0_row_1
theorem dksX0_row_0 : cX0_row.data.toList.drop 0 = dktX0_row_0 := by decide +kernel
theorem dksX0_row_1 : cX0_row.data.toList.drop 22 = dktX0_row_1 := dk_seg dksX0_row_0 22 rfl rfl
theorem dksX0_row_2 : cX0_row.data.toList.drop 35 = dktX0_row_2 := dk_seg dksX0_row_1 13 rfl rfl
theorem dksX0_row_3 : cX0_row.data.toList.drop 64 = dktX0_row_3 := dk_seg dksX0_row_2 29 rfl rfl
theorem dksX0_row_4 : cX0_row.data.toList.drop 88 = dktX0_row_4 := dk_seg dksX0_row_3 24 rfl rfl
theorem dksX0_row_5 : cX0_row.data.toList.drop 112 = dktX0_row_5 := dk_seg dksX0_row_4 24 rfl rfl
theorem dX0_row_0 : decode cX0_row 0 = .ok (.iload_n 1, 1) := dk_27 (dk_at dksX0_row_0 0 rfl rfl)
theorem dX0_row_1 : decode cX0_row 1 = .ok (.invokestatic 165, 3) := dk_184 0 165 (dk_at dksX0_row_0 1 rfl rfl)
theorem dX0_row_4 : decode cX0_row 4 = .ok (.ifCond .eq 21, 3) := dk_153 0 21 (dk_at dksX0_row_0 4 rfl rfl)
theorem dX0_row_7 : decode cX0_row 7 = .ok (.iload_n 2, 1) := dk_28 (dk_at dksX0_row_0 7 rfl rfl)
theorem dX0_row_8 : decode cX0_row 8 = .ok (.i2l, 1) := dk_133 (dk_at dksX0_row_0 8 rfl rfl)
theorem dX0_row_9 : decode cX0_row 9 = .ok (.lconst 0, 1) := dk_9 (dk_at dksX0_row_0 9 rfl rfl)
theorem dX0_row_10 : decode cX0_row 10 = .ok (.ldc2_w 463, 3) := dk_20 1 207 (dk_at dksX0_row_0 10 rfl rfl)
theorem dX0_row_13 : decode cX0_row 13 = .ok (.invokestatic 112, 3) := dk_184 0 112 (dk_at dksX0_row_0 13 rfl rfl)
theorem dX0_row_16 : decode cX0_row 16 = .ok (.ifCond .eq 9, 3) := dk_153 0 9 (dk_at dksX0_row_0 16 rfl rfl)
theorem dX0_row_19 : decode cX0_row 19 = .ok (.iload_n 3, 1) := dk_29 (dk_at dksX0_row_0 19 rfl rfl)
theorem dX0_row_20 : decode cX0_row 20 = .ok (.bipush 60, 2) := dk_16 60 (dk_at dksX0_row_0 20 rfl rfl)
theorem dX0_row_22 : decode cX0_row 22 = .ok (.if_icmp .le 5, 3) := dk_164 0 5 (dk_at dksX0_row_1 0 rfl rfl)
theorem dX0_row_25 : decode cX0_row 25 = .ok (.iconst (-1), 1) := dk_2 (dk_at dksX0_row_1 3 rfl rfl)
theorem dX0_row_26 : decode cX0_row 26 = .ok (.ireturn, 1) := dk_172 (dk_at dksX0_row_1 4 rfl rfl)
theorem dX0_row_27 : decode cX0_row 27 = .ok (.iload_n 3, 1) := dk_29 (dk_at dksX0_row_1 5 rfl rfl)
theorem dX0_row_28 : decode cX0_row 28 = .ok (.ifCond .ge 6, 3) := dk_156 0 6 (dk_at dksX0_row_1 6 rfl rfl)
theorem dX0_row_31 : decode cX0_row 31 = .ok (.bipush (-14), 2) := dk_16 242 (dk_at dksX0_row_1 9 rfl rfl)
theorem dX0_row_33 : decode cX0_row 33 = .ok (.ireturn, 1) := dk_172 (dk_at dksX0_row_1 11 rfl rfl)
theorem dX0_row_34 : decode cX0_row 34 = .ok (.iload_n 2, 1) := dk_28 (dk_at dksX0_row_1 12 rfl rfl)
theorem dX0_row_35 : decode cX0_row 35 = .ok (.tableswitch 77 0 3 #[29, 41, 53, 65], 29) := by decide +kernel
theorem dX0_row_64 : decode cX0_row 64 = .ok (.aload_n 0, 1) := dk_42 (dk_at dksX0_row_3 0 rfl rfl)
theorem dX0_row_65 : decode cX0_row 65 = .ok (.getfield 104, 3) := dk_180 0 104 (dk_at dksX0_row_3 1 rfl rfl)
theorem dX0_row_68 : decode cX0_row 68 = .ok (.iload_n 1, 1) := dk_27 (dk_at dksX0_row_3 4 rfl rfl)
theorem dX0_row_69 : decode cX0_row 69 = .ok (.iload_n 3, 1) := dk_29 (dk_at dksX0_row_3 5 rfl rfl)
theorem dX0_row_70 : decode cX0_row 70 = .ok (.newarray .byte, 2) := dk_188_8 (dk_at dksX0_row_3 6 rfl rfl)
theorem dX0_row_72 : decode cX0_row 72 = .ok (.aastore, 1) := dk_83 (dk_at dksX0_row_3 8 rfl rfl)
theorem dX0_row_73 : decode cX0_row 73 = .ok (.goto 48, 3) := dk_167 0 48 (dk_at dksX0_row_3 9 rfl rfl)
theorem dX0_row_76 : decode cX0_row 76 = .ok (.aload_n 0, 1) := dk_42 (dk_at dksX0_row_3 12 rfl rfl)
theorem dX0_row_77 : decode cX0_row 77 = .ok (.getfield 104, 3) := dk_180 0 104 (dk_at dksX0_row_3 13 rfl rfl)
theorem dX0_row_80 : decode cX0_row 80 = .ok (.iload_n 1, 1) := dk_27 (dk_at dksX0_row_3 16 rfl rfl)
theorem dX0_row_81 : decode cX0_row 81 = .ok (.iload_n 3, 1) := dk_29 (dk_at dksX0_row_3 17 rfl rfl)
theorem dX0_row_82 : decode cX0_row 82 = .ok (.newarray .short, 2) := dk_188_9 (dk_at dksX0_row_3 18 rfl rfl)
theorem dX0_row_84 : decode cX0_row 84 = .ok (.aastore, 1) := dk_83 (dk_at dksX0_row_3 20 rfl rfl)
theorem dX0_row_85 : decode cX0_row 85 = .ok (.goto 36, 3) := dk_167 0 36 (dk_at dksX0_row_3 21 rfl rfl)
theorem dX0_row_88 : decode cX0_row 88 = .ok (.aload_n 0, 1) := dk_42 (dk_at dksX0_row_4 0 rfl rfl)
theorem dX0_row_89 : decode cX0_row 89 = .ok (.getfield 104, 3) := dk_180 0 104 (dk_at dksX0_row_4 1 rfl rfl)
theorem dX0_row_92 : decode cX0_row 92 = .ok (.iload_n 1, 1) := dk_27 (dk_at dksX0_row_4 4 rfl rfl)
theorem dX0_row_93 : decode cX0_row 93 = .ok (.iload_n 3, 1) := dk_29 (dk_at dksX0_row_4 5 rfl rfl)
theorem dX0_row_94 : decode cX0_row 94 = .ok (.newarray .int, 2) := dk_188_10 (dk_at dksX0_row_4 6 rfl rfl)
theorem dX0_row_96 : decode cX0_row 96 = .ok (.aastore, 1) := dk_83 (dk_at dksX0_row_4 8 rfl rfl)
theorem dX0_row_97 : decode cX0_row 97 = .ok (.goto 24, 3) := dk_167 0 24 (dk_at dksX0_row_4 9 rfl rfl)
theorem dX0_row_100 : decode cX0_row 100 = .ok (.aload_n 0, 1) := dk_42 (dk_at dksX0_row_4 12 rfl rfl)
theorem dX0_row_101 : decode cX0_row 101 = .ok (.getfield 104, 3) := dk_180 0 104 (dk_at dksX0_row_4 13 rfl rfl)
theorem dX0_row_104 : decode cX0_row 104 = .ok (.iload_n 1, 1) := dk_27 (dk_at dksX0_row_4 16 rfl rfl)
theorem dX0_row_105 : decode cX0_row 105 = .ok (.iload_n 3, 1) := dk_29 (dk_at dksX0_row_4 17 rfl rfl)
theorem dX0_row_106 : decode cX0_row 106 = .ok (.newarray .long, 2) := dk_188_11 (dk_at dksX0_row_4 18 rfl rfl)
theorem dX0_row_108 : decode cX0_row 108 = .ok (.aastore, 1) := dk_83 (dk_at dksX0_row_4 20 rfl rfl)
theorem dX0_row_109 : decode cX0_row 109 = .ok (.goto 12, 3) := dk_167 0 12 (dk_at dksX0_row_4 21 rfl rfl)
theorem dX0_row_112 : decode cX0_row 112 = .ok (.aload_n 0, 1) := dk_42 (dk_at dksX0_row_5 0 rfl rfl)
theorem dX0_row_113 : decode cX0_row 113 = .ok (.getfield 104, 3) := dk_180 0 104 (dk_at dksX0_row_5 1 rfl rfl)
theorem dX0_row_116 : decode cX0_row 116 = .ok (.iload_n 1, 1) := dk_27 (dk_at dksX0_row_5 4 rfl rfl)
theorem dX0_row_117 : decode cX0_row 117 = .ok (.iload_n 3, 1) := dk_29 (dk_at dksX0_row_5 5 rfl rfl)
theorem dX0_row_118 : decode cX0_row 118 = .ok (.newarray .boolean, 2) := dk_188_4 (dk_at dksX0_row_5 6 rfl rfl)
theorem dX0_row_120 : decode cX0_row 120 = .ok (.aastore, 1) := dk_83 (dk_at dksX0_row_5 8 rfl rfl)
theorem dX0_row_121 : decode cX0_row 121 = .ok (.iconst 1, 1) := dk_4 (dk_at dksX0_row_5 9 rfl rfl)
theorem dX0_row_122 : decode cX0_row 122 = .ok (.ireturn, 1) := dk_172 (dk_at dksX0_row_5 10 rfl rfl)
abbrev cX0_put : ByteArray := prog_1_method_88_code
def yX0_put : MethodName := ⟨RX0, "put", "(IIJ)I"⟩
def dkwX0_put_5 : List UInt8 := [167, 0, 21, 25, 6, 192, 1, 214, 28, 33, 9, 148, 153, 0, 7, 4, 167, 0, 4, 3, 84, 4, 172]
abbrev dktX0_put_5 : List UInt8 := dkwX0_put_5 ++ []
def dkwX0_put_4 : List UInt8 := [167, 0, 44, 25, 6, 192, 1, 211, 28, 33, 136, 79, 167, 0, 32, 25, 6, 192, 1, 212, 28, 33, 80]
abbrev dktX0_put_4 : List UInt8 := dkwX0_put_4 ++ dktX0_put_5
def dkwX0_put_3 : List UInt8 := [25, 6, 192, 0, 163, 28, 33, 136, 145, 84, 167, 0, 57, 25, 6, 192, 1, 209, 28, 33, 136, 147, 86]
abbrev dktX0_put_3 : List UInt8 := dkwX0_put_3 ++ dktX0_put_4
def dkwX0_put_2 : List UInt8 := [170, 0, 0, 0, 0, 0, 80, 0, 0, 0, 0, 0, 0, 0, 3, 0, 0, 0, 31, 0, 0, 0, 44, 0, 0, 0, 57, 0, 0, 0, 69]
abbrev dktX0_put_2 : List UInt8 := dkwX0_put_2 ++ dktX0_put_3
def dkwX0_put_1 : List UInt8 := [25, 6, 184, 0, 170]
abbrev dktX0_put_1 : List UInt8 := dkwX0_put_1 ++ dktX0_put_2
def dkwX0_put_0 : List UInt8 := [42, 27, 28, 182, 1, 219, 54, 5, 21, 5, 153, 0, 6, 21, 5, 172, 42, 180, 0, 104, 27, 50, 58, 6]
abbrev dktX0_put_0 : List UInt8 := dkwX0_put_0 ++ dktX0_put_1
theorem dksX0_put_0 : cX0_put.data.toList.drop 0 = dktX0_put_0 := by decide +kernel
theorem dksX0_put_1 : cX0_put.data.toList.drop 24 = dktX0_put_1 := dk_seg dksX0_put_0 24 rfl rfl
theorem dksX0_put_2 : cX0_put.data.toList.drop 29 = dktX0_put_2 := dk_seg dksX0_put_1 5 rfl rfl
theorem dksX0_put_3 : cX0_put.data.toList.drop 60 = dktX0_put_3 := dk_seg dksX0_put_2 31 rfl rfl
theorem dksX0_put_4 : cX0_put.data.toList.drop 83 = dktX0_put_4 := dk_seg dksX0_put_3 23 rfl rfl
theorem dksX0_put_5 : cX0_put.data.toList.drop 106 = dktX0_put_5 := dk_seg dksX0_put_4 23 rfl rfl
theorem dX0_put_0 : decode cX0_put 0 = .ok (.aload_n 0, 1) := dk_42 (dk_at dksX0_put_0 0 rfl rfl)
theorem dX0_put_1 : decode cX0_put 1 = .ok (.iload_n 1, 1) := dk_27 (dk_at dksX0_put_0 1 rfl rfl)
theorem dX0_put_2 : decode cX0_put 2 = .ok (.iload_n 2, 1) := dk_28 (dk_at dksX0_put_0 2 rfl rfl)
theorem dX0_put_3 : decode cX0_put 3 = .ok (.invokevirtual 475, 3) := dk_182 1 219 (dk_at dksX0_put_0 3 rfl rfl)
theorem dX0_put_6 : decode cX0_put 6 = .ok (.istore 5, 2) := dk_54 5 (dk_at dksX0_put_0 6 rfl rfl)
theorem dX0_put_8 : decode cX0_put 8 = .ok (.iload 5, 2) := dk_21 5 (dk_at dksX0_put_0 8 rfl rfl)
theorem dX0_put_10 : decode cX0_put 10 = .ok (.ifCond .eq 6, 3) := dk_153 0 6 (dk_at dksX0_put_0 10 rfl rfl)
theorem dX0_put_13 : decode cX0_put 13 = .ok (.iload 5, 2) := dk_21 5 (dk_at dksX0_put_0 13 rfl rfl)
theorem dX0_put_15 : decode cX0_put 15 = .ok (.ireturn, 1) := dk_172 (dk_at dksX0_put_0 15 rfl rfl)
theorem dX0_put_16 : decode cX0_put 16 = .ok (.aload_n 0, 1) := dk_42 (dk_at dksX0_put_0 16 rfl rfl)
theorem dX0_put_17 : decode cX0_put 17 = .ok (.getfield 104, 3) := dk_180 0 104 (dk_at dksX0_put_0 17 rfl rfl)
theorem dX0_put_20 : decode cX0_put 20 = .ok (.iload_n 1, 1) := dk_27 (dk_at dksX0_put_0 20 rfl rfl)
theorem dX0_put_21 : decode cX0_put 21 = .ok (.aaload, 1) := dk_50 (dk_at dksX0_put_0 21 rfl rfl)
theorem dX0_put_22 : decode cX0_put 22 = .ok (.astore 6, 2) := dk_58 6 (dk_at dksX0_put_0 22 rfl rfl)
theorem dX0_put_24 : decode cX0_put 24 = .ok (.aload 6, 2) := dk_25 6 (dk_at dksX0_put_1 0 rfl rfl)
theorem dX0_put_26 : decode cX0_put 26 = .ok (.invokestatic 170, 3) := dk_184 0 170 (dk_at dksX0_put_1 2 rfl rfl)
theorem dX0_put_29 : decode cX0_put 29 = .ok (.tableswitch 80 0 3 #[31, 44, 57, 69], 31) := by decide +kernel
theorem dX0_put_60 : decode cX0_put 60 = .ok (.aload 6, 2) := dk_25 6 (dk_at dksX0_put_3 0 rfl rfl)
theorem dX0_put_62 : decode cX0_put 62 = .ok (.checkcast 163, 3) := dk_192 0 163 (dk_at dksX0_put_3 2 rfl rfl)
theorem dX0_put_65 : decode cX0_put 65 = .ok (.iload_n 2, 1) := dk_28 (dk_at dksX0_put_3 5 rfl rfl)
theorem dX0_put_66 : decode cX0_put 66 = .ok (.lload_n 3, 1) := dk_33 (dk_at dksX0_put_3 6 rfl rfl)
theorem dX0_put_67 : decode cX0_put 67 = .ok (.l2i, 1) := dk_136 (dk_at dksX0_put_3 7 rfl rfl)
theorem dX0_put_68 : decode cX0_put 68 = .ok (.i2b, 1) := dk_145 (dk_at dksX0_put_3 8 rfl rfl)
theorem dX0_put_69 : decode cX0_put 69 = .ok (.bastore, 1) := dk_84 (dk_at dksX0_put_3 9 rfl rfl)
theorem dX0_put_70 : decode cX0_put 70 = .ok (.goto 57, 3) := dk_167 0 57 (dk_at dksX0_put_3 10 rfl rfl)
theorem dX0_put_73 : decode cX0_put 73 = .ok (.aload 6, 2) := dk_25 6 (dk_at dksX0_put_3 13 rfl rfl)
theorem dX0_put_75 : decode cX0_put 75 = .ok (.checkcast 465, 3) := dk_192 1 209 (dk_at dksX0_put_3 15 rfl rfl)
theorem dX0_put_78 : decode cX0_put 78 = .ok (.iload_n 2, 1) := dk_28 (dk_at dksX0_put_3 18 rfl rfl)
theorem dX0_put_79 : decode cX0_put 79 = .ok (.lload_n 3, 1) := dk_33 (dk_at dksX0_put_3 19 rfl rfl)
theorem dX0_put_80 : decode cX0_put 80 = .ok (.l2i, 1) := dk_136 (dk_at dksX0_put_3 20 rfl rfl)
theorem dX0_put_81 : decode cX0_put 81 = .ok (.i2s, 1) := dk_147 (dk_at dksX0_put_3 21 rfl rfl)
theorem dX0_put_82 : decode cX0_put 82 = .ok (.sastore, 1) := dk_86 (dk_at dksX0_put_3 22 rfl rfl)
theorem dX0_put_83 : decode cX0_put 83 = .ok (.goto 44, 3) := dk_167 0 44 (dk_at dksX0_put_4 0 rfl rfl)
theorem dX0_put_86 : decode cX0_put 86 = .ok (.aload 6, 2) := dk_25 6 (dk_at dksX0_put_4 3 rfl rfl)
theorem dX0_put_88 : decode cX0_put 88 = .ok (.checkcast 467, 3) := dk_192 1 211 (dk_at dksX0_put_4 5 rfl rfl)
theorem dX0_put_91 : decode cX0_put 91 = .ok (.iload_n 2, 1) := dk_28 (dk_at dksX0_put_4 8 rfl rfl)
theorem dX0_put_92 : decode cX0_put 92 = .ok (.lload_n 3, 1) := dk_33 (dk_at dksX0_put_4 9 rfl rfl)
theorem dX0_put_93 : decode cX0_put 93 = .ok (.l2i, 1) := dk_136 (dk_at dksX0_put_4 10 rfl rfl)
theorem dX0_put_94 : decode cX0_put 94 = .ok (.iastore, 1) := dk_79 (dk_at dksX0_put_4 11 rfl rfl)
theorem dX0_put_95 : decode cX0_put 95 = .ok (.goto 32, 3) := dk_167 0 32 (dk_at dksX0_put_4 12 rfl rfl)
theorem dX0_put_98 : decode cX0_put 98 = .ok (.aload 6, 2) := dk_25 6 (dk_at dksX0_put_4 15 rfl rfl)
theorem dX0_put_100 : decode cX0_put 100 = .ok (.checkcast 468, 3) := dk_192 1 212 (dk_at dksX0_put_4 17 rfl rfl)
theorem dX0_put_103 : decode cX0_put 103 = .ok (.iload_n 2, 1) := dk_28 (dk_at dksX0_put_4 20 rfl rfl)
theorem dX0_put_104 : decode cX0_put 104 = .ok (.lload_n 3, 1) := dk_33 (dk_at dksX0_put_4 21 rfl rfl)
theorem dX0_put_105 : decode cX0_put 105 = .ok (.lastore, 1) := dk_80 (dk_at dksX0_put_4 22 rfl rfl)
theorem dX0_put_106 : decode cX0_put 106 = .ok (.goto 21, 3) := dk_167 0 21 (dk_at dksX0_put_5 0 rfl rfl)
theorem dX0_put_109 : decode cX0_put 109 = .ok (.aload 6, 2) := dk_25 6 (dk_at dksX0_put_5 3 rfl rfl)
theorem dX0_put_111 : decode cX0_put 111 = .ok (.checkcast 470, 3) := dk_192 1 214 (dk_at dksX0_put_5 5 rfl rfl)
theorem dX0_put_114 : decode cX0_put 114 = .ok (.iload_n 2, 1) := dk_28 (dk_at dksX0_put_5 8 rfl rfl)
theorem dX0_put_115 : decode cX0_put 115 = .ok (.lload_n 3, 1) := dk_33 (dk_at dksX0_put_5 9 rfl rfl)
theorem dX0_put_116 : decode cX0_put 116 = .ok (.lconst 0, 1) := dk_9 (dk_at dksX0_put_5 10 rfl rfl)
theorem dX0_put_117 : decode cX0_put 117 = .ok (.lcmp, 1) := dk_148 (dk_at dksX0_put_5 11 rfl rfl)
theorem dX0_put_118 : decode cX0_put 118 = .ok (.ifCond .eq 7, 3) := dk_153 0 7 (dk_at dksX0_put_5 12 rfl rfl)
theorem dX0_put_121 : decode cX0_put 121 = .ok (.iconst 1, 1) := dk_4 (dk_at dksX0_put_5 15 rfl rfl)
theorem dX0_put_122 : decode cX0_put 122 = .ok (.goto 4, 3) := dk_167 0 4 (dk_at dksX0_put_5 16 rfl rfl)
theorem dX0_put_125 : decode cX0_put 125 = .ok (.iconst 0, 1) := dk_3 (dk_at dksX0_put_5 19 rfl rfl)
theorem dX0_put_126 : decode cX0_put 126 = .ok (.bastore, 1) := dk_84 (dk_at dksX0_put_5 20 rfl rfl)
theorem dX0_put_127 : decode cX0_put 127 = .ok (.iconst 1, 1) := dk_4 (dk_at dksX0_put_5 21 rfl rfl)
theorem dX0_put_128 : decode cX0_put 128 = .ok (.ireturn, 1) := dk_172 (dk_at dksX0_put_5 22 rfl rfl)
abbrev cX0_refusal : ByteArray := prog_1_method_87_code
def yX0_refusal : MethodName := ⟨RX0, "refusal", "(II)I"⟩
def dkwX0_refusal_2 : List UInt8 := [153, 0, 7, 3, 167, 0, 5, 16, 243, 172]
abbrev dktX0_refusal_2 : List UInt8 := dkwX0_refusal_2 ++ []
def dkwX0_refusal_1 : List UInt8 := [184, 0, 170, 2, 160, 0, 6, 16, 244, 172, 28, 133, 9, 45, 184, 1, 216, 4, 100, 133, 184, 0, 112]
abbrev dktX0_refusal_1 : List UInt8 := dkwX0_refusal_1 ++ dktX0_refusal_2
def dkwX0_refusal_0 : List UInt8 := [27, 184, 0, 165, 154, 0, 5, 2, 172, 42, 180, 0, 104, 27, 50, 78, 45, 199, 0, 6, 16, 245, 172, 45]
abbrev dktX0_refusal_0 : List UInt8 := dkwX0_refusal_0 ++ dktX0_refusal_1
theorem dksX0_refusal_0 : cX0_refusal.data.toList.drop 0 = dktX0_refusal_0 := by decide +kernel
theorem dksX0_refusal_1 : cX0_refusal.data.toList.drop 24 = dktX0_refusal_1 := dk_seg dksX0_refusal_0 24 rfl rfl
theorem dksX0_refusal_2 : cX0_refusal.data.toList.drop 47 = dktX0_refusal_2 := dk_seg dksX0_refusal_1 23 rfl rfl
theorem dX0_refusal_0 : decode cX0_refusal 0 = .ok (.iload_n 1, 1) := dk_27 (dk_at dksX0_refusal_0 0 rfl rfl)
theorem dX0_refusal_1 : decode cX0_refusal 1 = .ok (.invokestatic 165, 3) := dk_184 0 165 (dk_at dksX0_refusal_0 1 rfl rfl)
theorem dX0_refusal_4 : decode cX0_refusal 4 = .ok (.ifCond .ne 5, 3) := dk_154 0 5 (dk_at dksX0_refusal_0 4 rfl rfl)
theorem dX0_refusal_7 : decode cX0_refusal 7 = .ok (.iconst (-1), 1) := dk_2 (dk_at dksX0_refusal_0 7 rfl rfl)
theorem dX0_refusal_8 : decode cX0_refusal 8 = .ok (.ireturn, 1) := dk_172 (dk_at dksX0_refusal_0 8 rfl rfl)
theorem dX0_refusal_9 : decode cX0_refusal 9 = .ok (.aload_n 0, 1) := dk_42 (dk_at dksX0_refusal_0 9 rfl rfl)
theorem dX0_refusal_10 : decode cX0_refusal 10 = .ok (.getfield 104, 3) := dk_180 0 104 (dk_at dksX0_refusal_0 10 rfl rfl)
theorem dX0_refusal_13 : decode cX0_refusal 13 = .ok (.iload_n 1, 1) := dk_27 (dk_at dksX0_refusal_0 13 rfl rfl)
theorem dX0_refusal_14 : decode cX0_refusal 14 = .ok (.aaload, 1) := dk_50 (dk_at dksX0_refusal_0 14 rfl rfl)
theorem dX0_refusal_15 : decode cX0_refusal 15 = .ok (.astore_n 3, 1) := dk_78 (dk_at dksX0_refusal_0 15 rfl rfl)
theorem dX0_refusal_16 : decode cX0_refusal 16 = .ok (.aload_n 3, 1) := dk_45 (dk_at dksX0_refusal_0 16 rfl rfl)
theorem dX0_refusal_17 : decode cX0_refusal 17 = .ok (.ifnonnull 6, 3) := dk_199 0 6 (dk_at dksX0_refusal_0 17 rfl rfl)
theorem dX0_refusal_20 : decode cX0_refusal 20 = .ok (.bipush (-11), 2) := dk_16 245 (dk_at dksX0_refusal_0 20 rfl rfl)
theorem dX0_refusal_22 : decode cX0_refusal 22 = .ok (.ireturn, 1) := dk_172 (dk_at dksX0_refusal_0 22 rfl rfl)
theorem dX0_refusal_23 : decode cX0_refusal 23 = .ok (.aload_n 3, 1) := dk_45 (dk_at dksX0_refusal_0 23 rfl rfl)
theorem dX0_refusal_24 : decode cX0_refusal 24 = .ok (.invokestatic 170, 3) := dk_184 0 170 (dk_at dksX0_refusal_1 0 rfl rfl)
theorem dX0_refusal_27 : decode cX0_refusal 27 = .ok (.iconst (-1), 1) := dk_2 (dk_at dksX0_refusal_1 3 rfl rfl)
theorem dX0_refusal_28 : decode cX0_refusal 28 = .ok (.if_icmp .ne 6, 3) := dk_160 0 6 (dk_at dksX0_refusal_1 4 rfl rfl)
theorem dX0_refusal_31 : decode cX0_refusal 31 = .ok (.bipush (-12), 2) := dk_16 244 (dk_at dksX0_refusal_1 7 rfl rfl)
theorem dX0_refusal_33 : decode cX0_refusal 33 = .ok (.ireturn, 1) := dk_172 (dk_at dksX0_refusal_1 9 rfl rfl)
theorem dX0_refusal_34 : decode cX0_refusal 34 = .ok (.iload_n 2, 1) := dk_28 (dk_at dksX0_refusal_1 10 rfl rfl)
theorem dX0_refusal_35 : decode cX0_refusal 35 = .ok (.i2l, 1) := dk_133 (dk_at dksX0_refusal_1 11 rfl rfl)
theorem dX0_refusal_36 : decode cX0_refusal 36 = .ok (.lconst 0, 1) := dk_9 (dk_at dksX0_refusal_1 12 rfl rfl)
theorem dX0_refusal_37 : decode cX0_refusal 37 = .ok (.aload_n 3, 1) := dk_45 (dk_at dksX0_refusal_1 13 rfl rfl)
theorem dX0_refusal_38 : decode cX0_refusal 38 = .ok (.invokestatic 472, 3) := dk_184 1 216 (dk_at dksX0_refusal_1 14 rfl rfl)
theorem dX0_refusal_41 : decode cX0_refusal 41 = .ok (.iconst 1, 1) := dk_4 (dk_at dksX0_refusal_1 17 rfl rfl)
theorem dX0_refusal_42 : decode cX0_refusal 42 = .ok (.isub, 1) := dk_100 (dk_at dksX0_refusal_1 18 rfl rfl)
theorem dX0_refusal_43 : decode cX0_refusal 43 = .ok (.i2l, 1) := dk_133 (dk_at dksX0_refusal_1 19 rfl rfl)
theorem dX0_refusal_44 : decode cX0_refusal 44 = .ok (.invokestatic 112, 3) := dk_184 0 112 (dk_at dksX0_refusal_1 20 rfl rfl)
theorem dX0_refusal_47 : decode cX0_refusal 47 = .ok (.ifCond .eq 7, 3) := dk_153 0 7 (dk_at dksX0_refusal_2 0 rfl rfl)
theorem dX0_refusal_50 : decode cX0_refusal 50 = .ok (.iconst 0, 1) := dk_3 (dk_at dksX0_refusal_2 3 rfl rfl)
theorem dX0_refusal_51 : decode cX0_refusal 51 = .ok (.goto 5, 3) := dk_167 0 5 (dk_at dksX0_refusal_2 4 rfl rfl)
theorem dX0_refusal_54 : decode cX0_refusal 54 = .ok (.bipush (-13), 2) := dk_16 243 (dk_at dksX0_refusal_2 7 rfl rfl)
theorem dX0_refusal_56 : decode cX0_refusal 56 = .ok (.ireturn, 1) := dk_172 (dk_at dksX0_refusal_2 9 rfl rfl)
abbrev cX0_sizeOf : ByteArray := prog_1_method_86_code
def yX0_sizeOf : MethodName := ⟨RX0, "sizeOf", "(Ljava/lang/Object;)I"⟩
def dkwX0_sizeOf_3 : List UInt8 := [42, 192, 1, 214, 190, 172]
abbrev dktX0_sizeOf_3 : List UInt8 := dkwX0_sizeOf_3 ++ []
def dkwX0_sizeOf_2 : List UInt8 := [42, 192, 0, 163, 190, 172, 42, 192, 1, 209, 190, 172, 42, 192, 1, 211, 190, 172, 42, 192, 1, 212, 190, 172]
abbrev dktX0_sizeOf_2 : List UInt8 := dkwX0_sizeOf_2 ++ dktX0_sizeOf_3
def dkwX0_sizeOf_1 : List UInt8 := [170, 0, 0, 0, 0, 0, 0, 56, 0, 0, 0, 0, 0, 0, 0, 3, 0, 0, 0, 32, 0, 0, 0, 38, 0, 0, 0, 44, 0, 0, 0, 50]
abbrev dktX0_sizeOf_1 : List UInt8 := dkwX0_sizeOf_1 ++ dktX0_sizeOf_2
def dkwX0_sizeOf_0 : List UInt8 := [42, 184, 0, 170]
abbrev dktX0_sizeOf_0 : List UInt8 := dkwX0_sizeOf_0 ++ dktX0_sizeOf_1
theorem dksX0_sizeOf_0 : cX0_sizeOf.data.toList.drop 0 = dktX0_sizeOf_0 := by decide +kernel
theorem dksX0_sizeOf_1 : cX0_sizeOf.data.toList.drop 4 = dktX0_sizeOf_1 := dk_seg dksX0_sizeOf_0 4 rfl rfl
theorem dksX0_sizeOf_2 : cX0_sizeOf.data.toList.drop 36 = dktX0_sizeOf_2 := dk_seg dksX0_sizeOf_1 32 rfl rfl
theorem dksX0_sizeOf_3 : cX0_sizeOf.data.toList.drop 60 = dktX0_sizeOf_3 := dk_seg dksX0_sizeOf_2 24 rfl rfl
theorem dX0_sizeOf_0 : decode cX0_sizeOf 0 = .ok (.aload_n 0, 1) := dk_42 (dk_at dksX0_sizeOf_0 0 rfl rfl)
theorem dX0_sizeOf_1 : decode cX0_sizeOf 1 = .ok (.invokestatic 170, 3) := dk_184 0 170 (dk_at dksX0_sizeOf_0 1 rfl rfl)
theorem dX0_sizeOf_4 : decode cX0_sizeOf 4 = .ok (.tableswitch 56 0 3 #[32, 38, 44, 50], 32) := by decide +kernel
theorem dX0_sizeOf_36 : decode cX0_sizeOf 36 = .ok (.aload_n 0, 1) := dk_42 (dk_at dksX0_sizeOf_2 0 rfl rfl)
theorem dX0_sizeOf_37 : decode cX0_sizeOf 37 = .ok (.checkcast 163, 3) := dk_192 0 163 (dk_at dksX0_sizeOf_2 1 rfl rfl)
theorem dX0_sizeOf_40 : decode cX0_sizeOf 40 = .ok (.arraylength, 1) := dk_190 (dk_at dksX0_sizeOf_2 4 rfl rfl)
theorem dX0_sizeOf_41 : decode cX0_sizeOf 41 = .ok (.ireturn, 1) := dk_172 (dk_at dksX0_sizeOf_2 5 rfl rfl)
theorem dX0_sizeOf_42 : decode cX0_sizeOf 42 = .ok (.aload_n 0, 1) := dk_42 (dk_at dksX0_sizeOf_2 6 rfl rfl)
theorem dX0_sizeOf_43 : decode cX0_sizeOf 43 = .ok (.checkcast 465, 3) := dk_192 1 209 (dk_at dksX0_sizeOf_2 7 rfl rfl)
theorem dX0_sizeOf_46 : decode cX0_sizeOf 46 = .ok (.arraylength, 1) := dk_190 (dk_at dksX0_sizeOf_2 10 rfl rfl)
theorem dX0_sizeOf_47 : decode cX0_sizeOf 47 = .ok (.ireturn, 1) := dk_172 (dk_at dksX0_sizeOf_2 11 rfl rfl)
theorem dX0_sizeOf_48 : decode cX0_sizeOf 48 = .ok (.aload_n 0, 1) := dk_42 (dk_at dksX0_sizeOf_2 12 rfl rfl)
theorem dX0_sizeOf_49 : decode cX0_sizeOf 49 = .ok (.checkcast 467, 3) := dk_192 1 211 (dk_at dksX0_sizeOf_2 13 rfl rfl)
theorem dX0_sizeOf_52 : decode cX0_sizeOf 52 = .ok (.arraylength, 1) := dk_190 (dk_at dksX0_sizeOf_2 16 rfl rfl)
theorem dX0_sizeOf_53 : decode cX0_sizeOf 53 = .ok (.ireturn, 1) := dk_172 (dk_at dksX0_sizeOf_2 17 rfl rfl)
theorem dX0_sizeOf_54 : decode cX0_sizeOf 54 = .ok (.aload_n 0, 1) := dk_42 (dk_at dksX0_sizeOf_2 18 rfl rfl)
theorem dX0_sizeOf_55 : decode cX0_sizeOf 55 = .ok (.checkcast 468, 3) := dk_192 1 212 (dk_at dksX0_sizeOf_2 19 rfl rfl)
theorem dX0_sizeOf_58 : decode cX0_sizeOf 58 = .ok (.arraylength, 1) := dk_190 (dk_at dksX0_sizeOf_2 22 rfl rfl)
theorem dX0_sizeOf_59 : decode cX0_sizeOf 59 = .ok (.ireturn, 1) := dk_172 (dk_at dksX0_sizeOf_2 23 rfl rfl)
theorem dX0_sizeOf_60 : decode cX0_sizeOf 60 = .ok (.aload_n 0, 1) := dk_42 (dk_at dksX0_sizeOf_3 0 rfl rfl)
theorem dX0_sizeOf_61 : decode cX0_sizeOf 61 = .ok (.checkcast 470, 3) := dk_192 1 214 (dk_at dksX0_sizeOf_3 1 rfl rfl)
theorem dX0_sizeOf_64 : decode cX0_sizeOf 64 = .ok (.arraylength, 1) := dk_190 (dk_at dksX0_sizeOf_3 4 rfl rfl)
theorem dX0_sizeOf_65 : decode cX0_sizeOf 65 = .ok (.ireturn, 1) := dk_172 (dk_at dksX0_sizeOf_3 5 rfl rfl)
abbrev cX0_element : ByteArray := prog_1_method_89_code
def yX0_element : MethodName := ⟨RX0, "element", "(II)J"⟩
def dkwX0_element_3 : List UInt8 := [45, 192, 1, 212, 28, 47, 173, 45, 192, 1, 214, 28, 51, 153, 0, 7, 10, 167, 0, 4, 9, 173]
abbrev dktX0_element_3 : List UInt8 := dkwX0_element_3 ++ []
def dkwX0_element_2 : List UInt8 := [45, 192, 0, 163, 28, 51, 133, 173, 45, 192, 1, 209, 28, 53, 133, 173, 45, 192, 1, 211, 28, 46, 133, 173]
abbrev dktX0_element_2 : List UInt8 := dkwX0_element_2 ++ dktX0_element_3
def dkwX0_element_1 : List UInt8 := [170, 0, 0, 0, 0, 0, 0, 63, 0, 0, 0, 0, 0, 0, 0, 3, 0, 0, 0, 32, 0, 0, 0, 40, 0, 0, 0, 48, 0, 0, 0, 56]
abbrev dktX0_element_1 : List UInt8 := dkwX0_element_1 ++ dktX0_element_2
def dkwX0_element_0 : List UInt8 := [42, 27, 28, 182, 1, 219, 153, 0, 7, 20, 1, 224, 173, 42, 180, 0, 104, 27, 50, 78, 45, 184, 0, 170]
abbrev dktX0_element_0 : List UInt8 := dkwX0_element_0 ++ dktX0_element_1
theorem dksX0_element_0 : cX0_element.data.toList.drop 0 = dktX0_element_0 := by decide +kernel
theorem dksX0_element_1 : cX0_element.data.toList.drop 24 = dktX0_element_1 := dk_seg dksX0_element_0 24 rfl rfl
theorem dksX0_element_2 : cX0_element.data.toList.drop 56 = dktX0_element_2 := dk_seg dksX0_element_1 32 rfl rfl
theorem dksX0_element_3 : cX0_element.data.toList.drop 80 = dktX0_element_3 := dk_seg dksX0_element_2 24 rfl rfl
theorem dX0_element_0 : decode cX0_element 0 = .ok (.aload_n 0, 1) := dk_42 (dk_at dksX0_element_0 0 rfl rfl)
theorem dX0_element_1 : decode cX0_element 1 = .ok (.iload_n 1, 1) := dk_27 (dk_at dksX0_element_0 1 rfl rfl)
theorem dX0_element_2 : decode cX0_element 2 = .ok (.iload_n 2, 1) := dk_28 (dk_at dksX0_element_0 2 rfl rfl)
theorem dX0_element_3 : decode cX0_element 3 = .ok (.invokevirtual 475, 3) := dk_182 1 219 (dk_at dksX0_element_0 3 rfl rfl)
theorem dX0_element_6 : decode cX0_element 6 = .ok (.ifCond .eq 7, 3) := dk_153 0 7 (dk_at dksX0_element_0 6 rfl rfl)
theorem dX0_element_9 : decode cX0_element 9 = .ok (.ldc2_w 480, 3) := dk_20 1 224 (dk_at dksX0_element_0 9 rfl rfl)
theorem dX0_element_12 : decode cX0_element 12 = .ok (.lreturn, 1) := dk_173 (dk_at dksX0_element_0 12 rfl rfl)
theorem dX0_element_13 : decode cX0_element 13 = .ok (.aload_n 0, 1) := dk_42 (dk_at dksX0_element_0 13 rfl rfl)
theorem dX0_element_14 : decode cX0_element 14 = .ok (.getfield 104, 3) := dk_180 0 104 (dk_at dksX0_element_0 14 rfl rfl)
theorem dX0_element_17 : decode cX0_element 17 = .ok (.iload_n 1, 1) := dk_27 (dk_at dksX0_element_0 17 rfl rfl)
theorem dX0_element_18 : decode cX0_element 18 = .ok (.aaload, 1) := dk_50 (dk_at dksX0_element_0 18 rfl rfl)
theorem dX0_element_19 : decode cX0_element 19 = .ok (.astore_n 3, 1) := dk_78 (dk_at dksX0_element_0 19 rfl rfl)
theorem dX0_element_20 : decode cX0_element 20 = .ok (.aload_n 3, 1) := dk_45 (dk_at dksX0_element_0 20 rfl rfl)
theorem dX0_element_21 : decode cX0_element 21 = .ok (.invokestatic 170, 3) := dk_184 0 170 (dk_at dksX0_element_0 21 rfl rfl)
theorem dX0_element_24 : decode cX0_element 24 = .ok (.tableswitch 63 0 3 #[32, 40, 48, 56], 32) := by decide +kernel
theorem dX0_element_56 : decode cX0_element 56 = .ok (.aload_n 3, 1) := dk_45 (dk_at dksX0_element_2 0 rfl rfl)
theorem dX0_element_57 : decode cX0_element 57 = .ok (.checkcast 163, 3) := dk_192 0 163 (dk_at dksX0_element_2 1 rfl rfl)
theorem dX0_element_60 : decode cX0_element 60 = .ok (.iload_n 2, 1) := dk_28 (dk_at dksX0_element_2 4 rfl rfl)
theorem dX0_element_61 : decode cX0_element 61 = .ok (.baload, 1) := dk_51 (dk_at dksX0_element_2 5 rfl rfl)
theorem dX0_element_62 : decode cX0_element 62 = .ok (.i2l, 1) := dk_133 (dk_at dksX0_element_2 6 rfl rfl)
theorem dX0_element_63 : decode cX0_element 63 = .ok (.lreturn, 1) := dk_173 (dk_at dksX0_element_2 7 rfl rfl)
theorem dX0_element_64 : decode cX0_element 64 = .ok (.aload_n 3, 1) := dk_45 (dk_at dksX0_element_2 8 rfl rfl)
theorem dX0_element_65 : decode cX0_element 65 = .ok (.checkcast 465, 3) := dk_192 1 209 (dk_at dksX0_element_2 9 rfl rfl)
theorem dX0_element_68 : decode cX0_element 68 = .ok (.iload_n 2, 1) := dk_28 (dk_at dksX0_element_2 12 rfl rfl)
theorem dX0_element_69 : decode cX0_element 69 = .ok (.saload, 1) := dk_53 (dk_at dksX0_element_2 13 rfl rfl)
theorem dX0_element_70 : decode cX0_element 70 = .ok (.i2l, 1) := dk_133 (dk_at dksX0_element_2 14 rfl rfl)
theorem dX0_element_71 : decode cX0_element 71 = .ok (.lreturn, 1) := dk_173 (dk_at dksX0_element_2 15 rfl rfl)
theorem dX0_element_72 : decode cX0_element 72 = .ok (.aload_n 3, 1) := dk_45 (dk_at dksX0_element_2 16 rfl rfl)
theorem dX0_element_73 : decode cX0_element 73 = .ok (.checkcast 467, 3) := dk_192 1 211 (dk_at dksX0_element_2 17 rfl rfl)
theorem dX0_element_76 : decode cX0_element 76 = .ok (.iload_n 2, 1) := dk_28 (dk_at dksX0_element_2 20 rfl rfl)
theorem dX0_element_77 : decode cX0_element 77 = .ok (.iaload, 1) := dk_46 (dk_at dksX0_element_2 21 rfl rfl)
theorem dX0_element_78 : decode cX0_element 78 = .ok (.i2l, 1) := dk_133 (dk_at dksX0_element_2 22 rfl rfl)
theorem dX0_element_79 : decode cX0_element 79 = .ok (.lreturn, 1) := dk_173 (dk_at dksX0_element_2 23 rfl rfl)
theorem dX0_element_80 : decode cX0_element 80 = .ok (.aload_n 3, 1) := dk_45 (dk_at dksX0_element_3 0 rfl rfl)
theorem dX0_element_81 : decode cX0_element 81 = .ok (.checkcast 468, 3) := dk_192 1 212 (dk_at dksX0_element_3 1 rfl rfl)
theorem dX0_element_84 : decode cX0_element 84 = .ok (.iload_n 2, 1) := dk_28 (dk_at dksX0_element_3 4 rfl rfl)
theorem dX0_element_85 : decode cX0_element 85 = .ok (.laload, 1) := dk_47 (dk_at dksX0_element_3 5 rfl rfl)
theorem dX0_element_86 : decode cX0_element 86 = .ok (.lreturn, 1) := dk_173 (dk_at dksX0_element_3 6 rfl rfl)
theorem dX0_element_87 : decode cX0_element 87 = .ok (.aload_n 3, 1) := dk_45 (dk_at dksX0_element_3 7 rfl rfl)
theorem dX0_element_88 : decode cX0_element 88 = .ok (.checkcast 470, 3) := dk_192 1 214 (dk_at dksX0_element_3 8 rfl rfl)
theorem dX0_element_91 : decode cX0_element 91 = .ok (.iload_n 2, 1) := dk_28 (dk_at dksX0_element_3 11 rfl rfl)
theorem dX0_element_92 : decode cX0_element 92 = .ok (.baload, 1) := dk_51 (dk_at dksX0_element_3 12 rfl rfl)
theorem dX0_element_93 : decode cX0_element 93 = .ok (.ifCond .eq 7, 3) := dk_153 0 7 (dk_at dksX0_element_3 13 rfl rfl)
theorem dX0_element_96 : decode cX0_element 96 = .ok (.lconst 1, 1) := dk_10 (dk_at dksX0_element_3 16 rfl rfl)
theorem dX0_element_97 : decode cX0_element 97 = .ok (.goto 4, 3) := dk_167 0 4 (dk_at dksX0_element_3 17 rfl rfl)
theorem dX0_element_100 : decode cX0_element 100 = .ok (.lconst 0, 1) := dk_9 (dk_at dksX0_element_3 20 rfl rfl)
theorem dX0_element_101 : decode cX0_element 101 = .ok (.lreturn, 1) := dk_173 (dk_at dksX0_element_3 21 rfl rfl)
abbrev cX0_shift : ByteArray := prog_1_method_90_code
def yX0_shift : MethodName := ⟨RX0, "shift", "(IIIII)I"⟩
def dkwX0_shift_5 : List UInt8 := [21, 4, 21, 5, 184, 1, 226, 21, 5, 172]
abbrev dktX0_shift_5 : List UInt8 := dkwX0_shift_5 ++ []
def dkwX0_shift_4 : List UInt8 := [163, 0, 16, 21, 4, 25, 7, 184, 1, 216, 21, 5, 100, 164, 0, 6, 16, 243, 172, 25, 6, 28, 25, 7]
abbrev dktX0_shift_4 : List UInt8 := dkwX0_shift_4 ++ dktX0_shift_5
def dkwX0_shift_3 : List UInt8 := [21, 5, 155, 0, 37, 28, 155, 0, 33, 21, 4, 155, 0, 28, 28, 25, 6, 184, 1, 216, 21, 5, 100]
abbrev dktX0_shift_3 : List UInt8 := dkwX0_shift_3 ++ dktX0_shift_4
def dkwX0_shift_2 : List UInt8 := [184, 0, 170, 2, 159, 0, 16, 25, 6, 184, 0, 170, 25, 7, 184, 0, 170, 159, 0, 6, 16, 244, 172]
abbrev dktX0_shift_2 : List UInt8 := dkwX0_shift_2 ++ dktX0_shift_3
def dkwX0_shift_1 : List UInt8 := [42, 180, 0, 104, 29, 50, 58, 7, 25, 6, 198, 0, 8, 25, 7, 199, 0, 6, 16, 245, 172, 25, 6]
abbrev dktX0_shift_1 : List UInt8 := dkwX0_shift_1 ++ dktX0_shift_2
def dkwX0_shift_0 : List UInt8 := [27, 184, 0, 165, 153, 0, 10, 29, 184, 0, 165, 154, 0, 5, 2, 172, 42, 180, 0, 104, 27, 50, 58, 6]
abbrev dktX0_shift_0 : List UInt8 := dkwX0_shift_0 ++ dktX0_shift_1
theorem dksX0_shift_0 : cX0_shift.data.toList.drop 0 = dktX0_shift_0 := by decide +kernel
theorem dksX0_shift_1 : cX0_shift.data.toList.drop 24 = dktX0_shift_1 := dk_seg dksX0_shift_0 24 rfl rfl
theorem dksX0_shift_2 : cX0_shift.data.toList.drop 47 = dktX0_shift_2 := dk_seg dksX0_shift_1 23 rfl rfl
theorem dksX0_shift_3 : cX0_shift.data.toList.drop 70 = dktX0_shift_3 := dk_seg dksX0_shift_2 23 rfl rfl
theorem dksX0_shift_4 : cX0_shift.data.toList.drop 93 = dktX0_shift_4 := dk_seg dksX0_shift_3 23 rfl rfl
theorem dksX0_shift_5 : cX0_shift.data.toList.drop 117 = dktX0_shift_5 := dk_seg dksX0_shift_4 24 rfl rfl
theorem dX0_shift_0 : decode cX0_shift 0 = .ok (.iload_n 1, 1) := dk_27 (dk_at dksX0_shift_0 0 rfl rfl)
theorem dX0_shift_1 : decode cX0_shift 1 = .ok (.invokestatic 165, 3) := dk_184 0 165 (dk_at dksX0_shift_0 1 rfl rfl)
theorem dX0_shift_4 : decode cX0_shift 4 = .ok (.ifCond .eq 10, 3) := dk_153 0 10 (dk_at dksX0_shift_0 4 rfl rfl)
theorem dX0_shift_7 : decode cX0_shift 7 = .ok (.iload_n 3, 1) := dk_29 (dk_at dksX0_shift_0 7 rfl rfl)
theorem dX0_shift_8 : decode cX0_shift 8 = .ok (.invokestatic 165, 3) := dk_184 0 165 (dk_at dksX0_shift_0 8 rfl rfl)
theorem dX0_shift_11 : decode cX0_shift 11 = .ok (.ifCond .ne 5, 3) := dk_154 0 5 (dk_at dksX0_shift_0 11 rfl rfl)
theorem dX0_shift_14 : decode cX0_shift 14 = .ok (.iconst (-1), 1) := dk_2 (dk_at dksX0_shift_0 14 rfl rfl)
theorem dX0_shift_15 : decode cX0_shift 15 = .ok (.ireturn, 1) := dk_172 (dk_at dksX0_shift_0 15 rfl rfl)
theorem dX0_shift_16 : decode cX0_shift 16 = .ok (.aload_n 0, 1) := dk_42 (dk_at dksX0_shift_0 16 rfl rfl)
theorem dX0_shift_17 : decode cX0_shift 17 = .ok (.getfield 104, 3) := dk_180 0 104 (dk_at dksX0_shift_0 17 rfl rfl)
theorem dX0_shift_20 : decode cX0_shift 20 = .ok (.iload_n 1, 1) := dk_27 (dk_at dksX0_shift_0 20 rfl rfl)
theorem dX0_shift_21 : decode cX0_shift 21 = .ok (.aaload, 1) := dk_50 (dk_at dksX0_shift_0 21 rfl rfl)
theorem dX0_shift_22 : decode cX0_shift 22 = .ok (.astore 6, 2) := dk_58 6 (dk_at dksX0_shift_0 22 rfl rfl)
theorem dX0_shift_24 : decode cX0_shift 24 = .ok (.aload_n 0, 1) := dk_42 (dk_at dksX0_shift_1 0 rfl rfl)
theorem dX0_shift_25 : decode cX0_shift 25 = .ok (.getfield 104, 3) := dk_180 0 104 (dk_at dksX0_shift_1 1 rfl rfl)
theorem dX0_shift_28 : decode cX0_shift 28 = .ok (.iload_n 3, 1) := dk_29 (dk_at dksX0_shift_1 4 rfl rfl)
theorem dX0_shift_29 : decode cX0_shift 29 = .ok (.aaload, 1) := dk_50 (dk_at dksX0_shift_1 5 rfl rfl)
theorem dX0_shift_30 : decode cX0_shift 30 = .ok (.astore 7, 2) := dk_58 7 (dk_at dksX0_shift_1 6 rfl rfl)
theorem dX0_shift_32 : decode cX0_shift 32 = .ok (.aload 6, 2) := dk_25 6 (dk_at dksX0_shift_1 8 rfl rfl)
theorem dX0_shift_34 : decode cX0_shift 34 = .ok (.ifnull 8, 3) := dk_198 0 8 (dk_at dksX0_shift_1 10 rfl rfl)
theorem dX0_shift_37 : decode cX0_shift 37 = .ok (.aload 7, 2) := dk_25 7 (dk_at dksX0_shift_1 13 rfl rfl)
theorem dX0_shift_39 : decode cX0_shift 39 = .ok (.ifnonnull 6, 3) := dk_199 0 6 (dk_at dksX0_shift_1 15 rfl rfl)
theorem dX0_shift_42 : decode cX0_shift 42 = .ok (.bipush (-11), 2) := dk_16 245 (dk_at dksX0_shift_1 18 rfl rfl)
theorem dX0_shift_44 : decode cX0_shift 44 = .ok (.ireturn, 1) := dk_172 (dk_at dksX0_shift_1 20 rfl rfl)
theorem dX0_shift_45 : decode cX0_shift 45 = .ok (.aload 6, 2) := dk_25 6 (dk_at dksX0_shift_1 21 rfl rfl)
theorem dX0_shift_47 : decode cX0_shift 47 = .ok (.invokestatic 170, 3) := dk_184 0 170 (dk_at dksX0_shift_2 0 rfl rfl)
theorem dX0_shift_50 : decode cX0_shift 50 = .ok (.iconst (-1), 1) := dk_2 (dk_at dksX0_shift_2 3 rfl rfl)
theorem dX0_shift_51 : decode cX0_shift 51 = .ok (.if_icmp .eq 16, 3) := dk_159 0 16 (dk_at dksX0_shift_2 4 rfl rfl)
theorem dX0_shift_54 : decode cX0_shift 54 = .ok (.aload 6, 2) := dk_25 6 (dk_at dksX0_shift_2 7 rfl rfl)
theorem dX0_shift_56 : decode cX0_shift 56 = .ok (.invokestatic 170, 3) := dk_184 0 170 (dk_at dksX0_shift_2 9 rfl rfl)
theorem dX0_shift_59 : decode cX0_shift 59 = .ok (.aload 7, 2) := dk_25 7 (dk_at dksX0_shift_2 12 rfl rfl)
theorem dX0_shift_61 : decode cX0_shift 61 = .ok (.invokestatic 170, 3) := dk_184 0 170 (dk_at dksX0_shift_2 14 rfl rfl)
theorem dX0_shift_64 : decode cX0_shift 64 = .ok (.if_icmp .eq 6, 3) := dk_159 0 6 (dk_at dksX0_shift_2 17 rfl rfl)
theorem dX0_shift_67 : decode cX0_shift 67 = .ok (.bipush (-12), 2) := dk_16 244 (dk_at dksX0_shift_2 20 rfl rfl)
theorem dX0_shift_69 : decode cX0_shift 69 = .ok (.ireturn, 1) := dk_172 (dk_at dksX0_shift_2 22 rfl rfl)
theorem dX0_shift_70 : decode cX0_shift 70 = .ok (.iload 5, 2) := dk_21 5 (dk_at dksX0_shift_3 0 rfl rfl)
theorem dX0_shift_72 : decode cX0_shift 72 = .ok (.ifCond .lt 37, 3) := dk_155 0 37 (dk_at dksX0_shift_3 2 rfl rfl)
theorem dX0_shift_75 : decode cX0_shift 75 = .ok (.iload_n 2, 1) := dk_28 (dk_at dksX0_shift_3 5 rfl rfl)
theorem dX0_shift_76 : decode cX0_shift 76 = .ok (.ifCond .lt 33, 3) := dk_155 0 33 (dk_at dksX0_shift_3 6 rfl rfl)
theorem dX0_shift_79 : decode cX0_shift 79 = .ok (.iload 4, 2) := dk_21 4 (dk_at dksX0_shift_3 9 rfl rfl)
theorem dX0_shift_81 : decode cX0_shift 81 = .ok (.ifCond .lt 28, 3) := dk_155 0 28 (dk_at dksX0_shift_3 11 rfl rfl)
theorem dX0_shift_84 : decode cX0_shift 84 = .ok (.iload_n 2, 1) := dk_28 (dk_at dksX0_shift_3 14 rfl rfl)
theorem dX0_shift_85 : decode cX0_shift 85 = .ok (.aload 6, 2) := dk_25 6 (dk_at dksX0_shift_3 15 rfl rfl)
theorem dX0_shift_87 : decode cX0_shift 87 = .ok (.invokestatic 472, 3) := dk_184 1 216 (dk_at dksX0_shift_3 17 rfl rfl)
theorem dX0_shift_90 : decode cX0_shift 90 = .ok (.iload 5, 2) := dk_21 5 (dk_at dksX0_shift_3 20 rfl rfl)
theorem dX0_shift_92 : decode cX0_shift 92 = .ok (.isub, 1) := dk_100 (dk_at dksX0_shift_3 22 rfl rfl)
theorem dX0_shift_93 : decode cX0_shift 93 = .ok (.if_icmp .gt 16, 3) := dk_163 0 16 (dk_at dksX0_shift_4 0 rfl rfl)
theorem dX0_shift_96 : decode cX0_shift 96 = .ok (.iload 4, 2) := dk_21 4 (dk_at dksX0_shift_4 3 rfl rfl)
theorem dX0_shift_98 : decode cX0_shift 98 = .ok (.aload 7, 2) := dk_25 7 (dk_at dksX0_shift_4 5 rfl rfl)
theorem dX0_shift_100 : decode cX0_shift 100 = .ok (.invokestatic 472, 3) := dk_184 1 216 (dk_at dksX0_shift_4 7 rfl rfl)
theorem dX0_shift_103 : decode cX0_shift 103 = .ok (.iload 5, 2) := dk_21 5 (dk_at dksX0_shift_4 10 rfl rfl)
theorem dX0_shift_105 : decode cX0_shift 105 = .ok (.isub, 1) := dk_100 (dk_at dksX0_shift_4 12 rfl rfl)
theorem dX0_shift_106 : decode cX0_shift 106 = .ok (.if_icmp .le 6, 3) := dk_164 0 6 (dk_at dksX0_shift_4 13 rfl rfl)
theorem dX0_shift_109 : decode cX0_shift 109 = .ok (.bipush (-13), 2) := dk_16 243 (dk_at dksX0_shift_4 16 rfl rfl)
theorem dX0_shift_111 : decode cX0_shift 111 = .ok (.ireturn, 1) := dk_172 (dk_at dksX0_shift_4 18 rfl rfl)
theorem dX0_shift_112 : decode cX0_shift 112 = .ok (.aload 6, 2) := dk_25 6 (dk_at dksX0_shift_4 19 rfl rfl)
theorem dX0_shift_114 : decode cX0_shift 114 = .ok (.iload_n 2, 1) := dk_28 (dk_at dksX0_shift_4 21 rfl rfl)
theorem dX0_shift_115 : decode cX0_shift 115 = .ok (.aload 7, 2) := dk_25 7 (dk_at dksX0_shift_4 22 rfl rfl)
theorem dX0_shift_117 : decode cX0_shift 117 = .ok (.iload 4, 2) := dk_21 4 (dk_at dksX0_shift_5 0 rfl rfl)
theorem dX0_shift_119 : decode cX0_shift 119 = .ok (.iload 5, 2) := dk_21 5 (dk_at dksX0_shift_5 2 rfl rfl)
theorem dX0_shift_121 : decode cX0_shift 121 = .ok (.invokestatic 482, 3) := dk_184 1 226 (dk_at dksX0_shift_5 4 rfl rfl)
theorem dX0_shift_124 : decode cX0_shift 124 = .ok (.iload 5, 2) := dk_21 5 (dk_at dksX0_shift_5 7 rfl rfl)
theorem dX0_shift_126 : decode cX0_shift 126 = .ok (.ireturn, 1) := dk_172 (dk_at dksX0_shift_5 9 rfl rfl)
abbrev cX0_taken : ByteArray := prog_1_method_91_code
def yX0_taken : MethodName := ⟨RX0, "taken", "(II)I"⟩
def dkwX0_taken_3 : List UInt8 := [172]
abbrev dktX0_taken_3 : List UInt8 := dkwX0_taken_3 ++ []
def dkwX0_taken_2 : List UInt8 := [192, 0, 95, 58, 4, 25, 4, 28, 182, 1, 232, 153, 0, 11, 25, 4, 182, 1, 235, 167, 0, 5, 16, 244]
abbrev dktX0_taken_2 : List UInt8 := dkwX0_taken_2 ++ dktX0_taken_3
def dkwX0_taken_1 : List UInt8 := [180, 0, 104, 27, 50, 78, 45, 199, 0, 6, 16, 245, 172, 45, 193, 0, 95, 154, 0, 6, 16, 244, 172, 45]
abbrev dktX0_taken_1 : List UInt8 := dkwX0_taken_1 ++ dktX0_taken_2
def dkwX0_taken_0 : List UInt8 := [27, 184, 0, 165, 153, 0, 15, 28, 133, 9, 20, 1, 178, 184, 0, 112, 154, 0, 5, 2, 172, 42]
abbrev dktX0_taken_0 : List UInt8 := dkwX0_taken_0 ++ dktX0_taken_1
theorem dksX0_taken_0 : cX0_taken.data.toList.drop 0 = dktX0_taken_0 := by decide +kernel
theorem dksX0_taken_1 : cX0_taken.data.toList.drop 22 = dktX0_taken_1 := dk_seg dksX0_taken_0 22 rfl rfl
theorem dksX0_taken_2 : cX0_taken.data.toList.drop 46 = dktX0_taken_2 := dk_seg dksX0_taken_1 24 rfl rfl
theorem dksX0_taken_3 : cX0_taken.data.toList.drop 70 = dktX0_taken_3 := dk_seg dksX0_taken_2 24 rfl rfl
theorem dX0_taken_0 : decode cX0_taken 0 = .ok (.iload_n 1, 1) := dk_27 (dk_at dksX0_taken_0 0 rfl rfl)
theorem dX0_taken_1 : decode cX0_taken 1 = .ok (.invokestatic 165, 3) := dk_184 0 165 (dk_at dksX0_taken_0 1 rfl rfl)
theorem dX0_taken_4 : decode cX0_taken 4 = .ok (.ifCond .eq 15, 3) := dk_153 0 15 (dk_at dksX0_taken_0 4 rfl rfl)
theorem dX0_taken_7 : decode cX0_taken 7 = .ok (.iload_n 2, 1) := dk_28 (dk_at dksX0_taken_0 7 rfl rfl)
theorem dX0_taken_8 : decode cX0_taken 8 = .ok (.i2l, 1) := dk_133 (dk_at dksX0_taken_0 8 rfl rfl)
theorem dX0_taken_9 : decode cX0_taken 9 = .ok (.lconst 0, 1) := dk_9 (dk_at dksX0_taken_0 9 rfl rfl)
theorem dX0_taken_10 : decode cX0_taken 10 = .ok (.ldc2_w 434, 3) := dk_20 1 178 (dk_at dksX0_taken_0 10 rfl rfl)
theorem dX0_taken_13 : decode cX0_taken 13 = .ok (.invokestatic 112, 3) := dk_184 0 112 (dk_at dksX0_taken_0 13 rfl rfl)
theorem dX0_taken_16 : decode cX0_taken 16 = .ok (.ifCond .ne 5, 3) := dk_154 0 5 (dk_at dksX0_taken_0 16 rfl rfl)
theorem dX0_taken_19 : decode cX0_taken 19 = .ok (.iconst (-1), 1) := dk_2 (dk_at dksX0_taken_0 19 rfl rfl)
theorem dX0_taken_20 : decode cX0_taken 20 = .ok (.ireturn, 1) := dk_172 (dk_at dksX0_taken_0 20 rfl rfl)
theorem dX0_taken_21 : decode cX0_taken 21 = .ok (.aload_n 0, 1) := dk_42 (dk_at dksX0_taken_0 21 rfl rfl)
theorem dX0_taken_22 : decode cX0_taken 22 = .ok (.getfield 104, 3) := dk_180 0 104 (dk_at dksX0_taken_1 0 rfl rfl)
theorem dX0_taken_25 : decode cX0_taken 25 = .ok (.iload_n 1, 1) := dk_27 (dk_at dksX0_taken_1 3 rfl rfl)
theorem dX0_taken_26 : decode cX0_taken 26 = .ok (.aaload, 1) := dk_50 (dk_at dksX0_taken_1 4 rfl rfl)
theorem dX0_taken_27 : decode cX0_taken 27 = .ok (.astore_n 3, 1) := dk_78 (dk_at dksX0_taken_1 5 rfl rfl)
theorem dX0_taken_28 : decode cX0_taken 28 = .ok (.aload_n 3, 1) := dk_45 (dk_at dksX0_taken_1 6 rfl rfl)
theorem dX0_taken_29 : decode cX0_taken 29 = .ok (.ifnonnull 6, 3) := dk_199 0 6 (dk_at dksX0_taken_1 7 rfl rfl)
theorem dX0_taken_32 : decode cX0_taken 32 = .ok (.bipush (-11), 2) := dk_16 245 (dk_at dksX0_taken_1 10 rfl rfl)
theorem dX0_taken_34 : decode cX0_taken 34 = .ok (.ireturn, 1) := dk_172 (dk_at dksX0_taken_1 12 rfl rfl)
theorem dX0_taken_35 : decode cX0_taken 35 = .ok (.aload_n 3, 1) := dk_45 (dk_at dksX0_taken_1 13 rfl rfl)
theorem dX0_taken_36 : decode cX0_taken 36 = .ok (.instanceof 95, 3) := dk_193 0 95 (dk_at dksX0_taken_1 14 rfl rfl)
theorem dX0_taken_39 : decode cX0_taken 39 = .ok (.ifCond .ne 6, 3) := dk_154 0 6 (dk_at dksX0_taken_1 17 rfl rfl)
theorem dX0_taken_42 : decode cX0_taken 42 = .ok (.bipush (-12), 2) := dk_16 244 (dk_at dksX0_taken_1 20 rfl rfl)
theorem dX0_taken_44 : decode cX0_taken 44 = .ok (.ireturn, 1) := dk_172 (dk_at dksX0_taken_1 22 rfl rfl)
theorem dX0_taken_45 : decode cX0_taken 45 = .ok (.aload_n 3, 1) := dk_45 (dk_at dksX0_taken_1 23 rfl rfl)
theorem dX0_taken_46 : decode cX0_taken 46 = .ok (.checkcast 95, 3) := dk_192 0 95 (dk_at dksX0_taken_2 0 rfl rfl)
theorem dX0_taken_49 : decode cX0_taken 49 = .ok (.astore 4, 2) := dk_58 4 (dk_at dksX0_taken_2 3 rfl rfl)
theorem dX0_taken_51 : decode cX0_taken 51 = .ok (.aload 4, 2) := dk_25 4 (dk_at dksX0_taken_2 5 rfl rfl)
theorem dX0_taken_53 : decode cX0_taken 53 = .ok (.iload_n 2, 1) := dk_28 (dk_at dksX0_taken_2 7 rfl rfl)
theorem dX0_taken_54 : decode cX0_taken 54 = .ok (.invokevirtual 488, 3) := dk_182 1 232 (dk_at dksX0_taken_2 8 rfl rfl)
theorem dX0_taken_57 : decode cX0_taken 57 = .ok (.ifCond .eq 11, 3) := dk_153 0 11 (dk_at dksX0_taken_2 11 rfl rfl)
theorem dX0_taken_60 : decode cX0_taken 60 = .ok (.aload 4, 2) := dk_25 4 (dk_at dksX0_taken_2 14 rfl rfl)
theorem dX0_taken_62 : decode cX0_taken 62 = .ok (.invokevirtual 491, 3) := dk_182 1 235 (dk_at dksX0_taken_2 16 rfl rfl)
theorem dX0_taken_65 : decode cX0_taken 65 = .ok (.goto 5, 3) := dk_167 0 5 (dk_at dksX0_taken_2 19 rfl rfl)
theorem dX0_taken_68 : decode cX0_taken 68 = .ok (.bipush (-12), 2) := dk_16 244 (dk_at dksX0_taken_2 22 rfl rfl)
theorem dX0_taken_70 : decode cX0_taken 70 = .ok (.ireturn, 1) := dk_172 (dk_at dksX0_taken_3 0 rfl rfl)
abbrev cX0_count : ByteArray := prog_1_method_93_code
def yX0_count : MethodName := ⟨RX0, "count", "(I)I"⟩
def dkwX0_count_3 : List UInt8 := [172, 42, 180, 1, 153, 172, 42, 180, 1, 184, 172, 2, 172]
abbrev dktX0_count_3 : List UInt8 := dkwX0_count_3 ++ []
def dkwX0_count_2 : List UInt8 := [42, 180, 0, 134, 172, 42, 180, 0, 141, 172, 42, 182, 1, 238, 172, 42, 180, 0, 116, 172, 42, 180, 0, 7]
abbrev dktX0_count_2 : List UInt8 := dkwX0_count_2 ++ dktX0_count_3
def dkwX0_count_1 : List UInt8 := [170, 0, 0, 0, 0, 0, 78, 0, 0, 0, 0, 0, 0, 0, 6, 0, 0, 0, 43, 0, 0, 0, 48, 0, 0, 0, 53, 0, 0, 0, 58, 0, 0, 0, 63, 0, 0, 0, 68, 0, 0, 0, 73]
abbrev dktX0_count_1 : List UInt8 := dkwX0_count_1 ++ dktX0_count_2
def dkwX0_count_0 : List UInt8 := [27]
abbrev dktX0_count_0 : List UInt8 := dkwX0_count_0 ++ dktX0_count_1
theorem dksX0_count_0 : cX0_count.data.toList.drop 0 = dktX0_count_0 := by decide +kernel
theorem dksX0_count_1 : cX0_count.data.toList.drop 1 = dktX0_count_1 := dk_seg dksX0_count_0 1 rfl rfl
theorem dksX0_count_2 : cX0_count.data.toList.drop 44 = dktX0_count_2 := dk_seg dksX0_count_1 43 rfl rfl
theorem dksX0_count_3 : cX0_count.data.toList.drop 68 = dktX0_count_3 := dk_seg dksX0_count_2 24 rfl rfl
theorem dX0_count_0 : decode cX0_count 0 = .ok (.iload_n 1, 1) := dk_27 (dk_at dksX0_count_0 0 rfl rfl)
theorem dX0_count_1 : decode cX0_count 1 = .ok (.tableswitch 78 0 6 #[43, 48, 53, 58, 63, 68, 73], 43) := by decide +kernel
theorem dX0_count_44 : decode cX0_count 44 = .ok (.aload_n 0, 1) := dk_42 (dk_at dksX0_count_2 0 rfl rfl)
theorem dX0_count_45 : decode cX0_count 45 = .ok (.getfield 134, 3) := dk_180 0 134 (dk_at dksX0_count_2 1 rfl rfl)
theorem dX0_count_48 : decode cX0_count 48 = .ok (.ireturn, 1) := dk_172 (dk_at dksX0_count_2 4 rfl rfl)
theorem dX0_count_49 : decode cX0_count 49 = .ok (.aload_n 0, 1) := dk_42 (dk_at dksX0_count_2 5 rfl rfl)
theorem dX0_count_50 : decode cX0_count 50 = .ok (.getfield 141, 3) := dk_180 0 141 (dk_at dksX0_count_2 6 rfl rfl)
theorem dX0_count_53 : decode cX0_count 53 = .ok (.ireturn, 1) := dk_172 (dk_at dksX0_count_2 9 rfl rfl)
theorem dX0_count_54 : decode cX0_count 54 = .ok (.aload_n 0, 1) := dk_42 (dk_at dksX0_count_2 10 rfl rfl)
theorem dX0_count_55 : decode cX0_count 55 = .ok (.invokevirtual 494, 3) := dk_182 1 238 (dk_at dksX0_count_2 11 rfl rfl)
theorem dX0_count_58 : decode cX0_count 58 = .ok (.ireturn, 1) := dk_172 (dk_at dksX0_count_2 14 rfl rfl)
theorem dX0_count_59 : decode cX0_count 59 = .ok (.aload_n 0, 1) := dk_42 (dk_at dksX0_count_2 15 rfl rfl)
theorem dX0_count_60 : decode cX0_count 60 = .ok (.getfield 116, 3) := dk_180 0 116 (dk_at dksX0_count_2 16 rfl rfl)
theorem dX0_count_63 : decode cX0_count 63 = .ok (.ireturn, 1) := dk_172 (dk_at dksX0_count_2 19 rfl rfl)
theorem dX0_count_64 : decode cX0_count 64 = .ok (.aload_n 0, 1) := dk_42 (dk_at dksX0_count_2 20 rfl rfl)
theorem dX0_count_65 : decode cX0_count 65 = .ok (.getfield 7, 3) := dk_180 0 7 (dk_at dksX0_count_2 21 rfl rfl)
theorem dX0_count_68 : decode cX0_count 68 = .ok (.ireturn, 1) := dk_172 (dk_at dksX0_count_3 0 rfl rfl)
theorem dX0_count_69 : decode cX0_count 69 = .ok (.aload_n 0, 1) := dk_42 (dk_at dksX0_count_3 1 rfl rfl)
theorem dX0_count_70 : decode cX0_count 70 = .ok (.getfield 409, 3) := dk_180 1 153 (dk_at dksX0_count_3 2 rfl rfl)
theorem dX0_count_73 : decode cX0_count 73 = .ok (.ireturn, 1) := dk_172 (dk_at dksX0_count_3 5 rfl rfl)
theorem dX0_count_74 : decode cX0_count 74 = .ok (.aload_n 0, 1) := dk_42 (dk_at dksX0_count_3 6 rfl rfl)
theorem dX0_count_75 : decode cX0_count 75 = .ok (.getfield 440, 3) := dk_180 1 184 (dk_at dksX0_count_3 7 rfl rfl)
theorem dX0_count_78 : decode cX0_count 78 = .ok (.ireturn, 1) := dk_172 (dk_at dksX0_count_3 10 rfl rfl)
theorem dX0_count_79 : decode cX0_count 79 = .ok (.iconst (-1), 1) := dk_2 (dk_at dksX0_count_3 11 rfl rfl)
theorem dX0_count_80 : decode cX0_count 80 = .ok (.ireturn, 1) := dk_172 (dk_at dksX0_count_3 12 rfl rfl)
abbrev cX0_namedMany : ByteArray := prog_1_method_92_code
def yX0_namedMany : MethodName := ⟨RX0, "namedMany", "()I"⟩
def dkwX0_namedMany_1 : List UInt8 := [159, 0, 7, 4, 167, 0, 4, 3, 184, 0, 223, 96, 60, 132, 2, 1, 167, 255, 221, 27, 172]
abbrev dktX0_namedMany_1 : List UInt8 := dkwX0_namedMany_1 ++ []
def dkwX0_namedMany_0 : List UInt8 := [3, 60, 3, 61, 28, 42, 180, 0, 134, 162, 0, 33, 27, 42, 180, 0, 50, 28, 50, 180, 0, 185, 2]
abbrev dktX0_namedMany_0 : List UInt8 := dkwX0_namedMany_0 ++ dktX0_namedMany_1
theorem dksX0_namedMany_0 : cX0_namedMany.data.toList.drop 0 = dktX0_namedMany_0 := by decide +kernel
theorem dksX0_namedMany_1 : cX0_namedMany.data.toList.drop 23 = dktX0_namedMany_1 := dk_seg dksX0_namedMany_0 23 rfl rfl
theorem dX0_namedMany_0 : decode cX0_namedMany 0 = .ok (.iconst 0, 1) := dk_3 (dk_at dksX0_namedMany_0 0 rfl rfl)
theorem dX0_namedMany_1 : decode cX0_namedMany 1 = .ok (.istore_n 1, 1) := dk_60 (dk_at dksX0_namedMany_0 1 rfl rfl)
theorem dX0_namedMany_2 : decode cX0_namedMany 2 = .ok (.iconst 0, 1) := dk_3 (dk_at dksX0_namedMany_0 2 rfl rfl)
theorem dX0_namedMany_3 : decode cX0_namedMany 3 = .ok (.istore_n 2, 1) := dk_61 (dk_at dksX0_namedMany_0 3 rfl rfl)
theorem dX0_namedMany_4 : decode cX0_namedMany 4 = .ok (.iload_n 2, 1) := dk_28 (dk_at dksX0_namedMany_0 4 rfl rfl)
theorem dX0_namedMany_5 : decode cX0_namedMany 5 = .ok (.aload_n 0, 1) := dk_42 (dk_at dksX0_namedMany_0 5 rfl rfl)
theorem dX0_namedMany_6 : decode cX0_namedMany 6 = .ok (.getfield 134, 3) := dk_180 0 134 (dk_at dksX0_namedMany_0 6 rfl rfl)
theorem dX0_namedMany_9 : decode cX0_namedMany 9 = .ok (.if_icmp .ge 33, 3) := dk_162 0 33 (dk_at dksX0_namedMany_0 9 rfl rfl)
theorem dX0_namedMany_12 : decode cX0_namedMany 12 = .ok (.iload_n 1, 1) := dk_27 (dk_at dksX0_namedMany_0 12 rfl rfl)
theorem dX0_namedMany_13 : decode cX0_namedMany 13 = .ok (.aload_n 0, 1) := dk_42 (dk_at dksX0_namedMany_0 13 rfl rfl)
theorem dX0_namedMany_14 : decode cX0_namedMany 14 = .ok (.getfield 50, 3) := dk_180 0 50 (dk_at dksX0_namedMany_0 14 rfl rfl)
theorem dX0_namedMany_17 : decode cX0_namedMany 17 = .ok (.iload_n 2, 1) := dk_28 (dk_at dksX0_namedMany_0 17 rfl rfl)
theorem dX0_namedMany_18 : decode cX0_namedMany 18 = .ok (.aaload, 1) := dk_50 (dk_at dksX0_namedMany_0 18 rfl rfl)
theorem dX0_namedMany_19 : decode cX0_namedMany 19 = .ok (.getfield 185, 3) := dk_180 0 185 (dk_at dksX0_namedMany_0 19 rfl rfl)
theorem dX0_namedMany_22 : decode cX0_namedMany 22 = .ok (.iconst (-1), 1) := dk_2 (dk_at dksX0_namedMany_0 22 rfl rfl)
theorem dX0_namedMany_23 : decode cX0_namedMany 23 = .ok (.if_icmp .eq 7, 3) := dk_159 0 7 (dk_at dksX0_namedMany_1 0 rfl rfl)
theorem dX0_namedMany_26 : decode cX0_namedMany 26 = .ok (.iconst 1, 1) := dk_4 (dk_at dksX0_namedMany_1 3 rfl rfl)
theorem dX0_namedMany_27 : decode cX0_namedMany 27 = .ok (.goto 4, 3) := dk_167 0 4 (dk_at dksX0_namedMany_1 4 rfl rfl)
theorem dX0_namedMany_30 : decode cX0_namedMany 30 = .ok (.iconst 0, 1) := dk_3 (dk_at dksX0_namedMany_1 7 rfl rfl)
theorem dX0_namedMany_31 : decode cX0_namedMany 31 = .ok (.invokestatic 223, 3) := dk_184 0 223 (dk_at dksX0_namedMany_1 8 rfl rfl)
theorem dX0_namedMany_34 : decode cX0_namedMany 34 = .ok (.iadd, 1) := dk_96 (dk_at dksX0_namedMany_1 11 rfl rfl)
theorem dX0_namedMany_35 : decode cX0_namedMany 35 = .ok (.istore_n 1, 1) := dk_60 (dk_at dksX0_namedMany_1 12 rfl rfl)
theorem dX0_namedMany_36 : decode cX0_namedMany 36 = .ok (.iinc 2 1, 3) := dk_132 2 1 (dk_at dksX0_namedMany_1 13 rfl rfl)
theorem dX0_namedMany_39 : decode cX0_namedMany 39 = .ok (.goto (-35), 3) := dk_167 255 221 (dk_at dksX0_namedMany_1 16 rfl rfl)
theorem dX0_namedMany_42 : decode cX0_namedMany 42 = .ok (.iload_n 1, 1) := dk_27 (dk_at dksX0_namedMany_1 19 rfl rfl)
theorem dX0_namedMany_43 : decode cX0_namedMany 43 = .ok (.ireturn, 1) := dk_172 (dk_at dksX0_namedMany_1 20 rfl rfl)
theorem q103 : (Jvm.Cond.initialized "NameRests") ∈ lw_all := lw_g (lw_at lw_m1 1 rfl) rfl
theorem q131 : (Jvm.Cond.instanceMethod ({ cls := "NameRests", name := "undo", desc := "()I" } : Jvm.MethodName)) ∈ lw_all := lw_g (lw_at lw_m1 29 rfl) rfl
theorem q132 : (Jvm.Cond.selects "NameRests" ({ cls := "NameRests", name := "undo", desc := "()I" } : Jvm.MethodName) ({ cls := "NameRests", name := "undo", desc := "()I" } : Jvm.MethodName)) ∈ lw_all := lw_g (lw_at lw_m1 30 rfl) rfl
theorem q133 : (Jvm.Cond.code ({ cls := "NameRests", name := "undo", desc := "()I" } : Jvm.MethodName) prog_1_method_6_code (1 : Nat) (Option.some Jvm.ClassFile.FieldType.int)) ∈ lw_all := lw_g (lw_at lw_m1 31 rfl) rfl
theorem q135 : (Jvm.Cond.instanceMethod ({ cls := "NameRests", name := "redo", desc := "()I" } : Jvm.MethodName)) ∈ lw_all := lw_g (lw_at lw_m1 33 rfl) rfl
theorem q136 : (Jvm.Cond.selects "NameRests" ({ cls := "NameRests", name := "redo", desc := "()I" } : Jvm.MethodName) ({ cls := "NameRests", name := "redo", desc := "()I" } : Jvm.MethodName)) ∈ lw_all := lw_g (lw_at lw_m1 34 rfl) rfl
theorem q137 : (Jvm.Cond.code ({ cls := "NameRests", name := "redo", desc := "()I" } : Jvm.MethodName) prog_1_method_7_code (1 : Nat) (Option.some Jvm.ClassFile.FieldType.int)) ∈ lw_all := lw_g (lw_at lw_m1 35 rfl) rfl
theorem q139 : (Jvm.Cond.instantiable "NameRests" (31 : Nat)) ∈ lw_all := lw_g (lw_at lw_m1 37 rfl) rfl
theorem q141 : (Jvm.Cond.instanceMethod ({ cls := "NameRests", name := "<init>", desc := "()V" } : Jvm.MethodName)) ∈ lw_all := lw_g (lw_at lw_m1 39 rfl) rfl
theorem q142 : (Jvm.Cond.code ({ cls := "NameRests", name := "<init>", desc := "()V" } : Jvm.MethodName) prog_1_method_8_code (2 : Nat) (Option.none : Option Jvm.ClassFile.FieldType)) ∈ lw_all := lw_g (lw_at lw_m1 40 rfl) rfl
theorem q143 : (Jvm.Cond.methodLink "NameRests" (31 : Nat) ({ cls := "java/lang/Object", name := "<init>", desc := "()V" } : Jvm.MethodName)) ∈ lw_all := lw_g (lw_at lw_m1 41 rfl) rfl
theorem q146 : (Jvm.Cond.classLink "NameRests" (17 : Nat) "NameRests$Change") ∈ lw_all := lw_g (lw_at lw_m1 44 rfl) rfl
theorem q148 : (Jvm.Cond.classLink "NameRests" (41 : Nat) "NameRests$Fault") ∈ lw_all := lw_g (lw_at lw_m1 46 rfl) rfl
theorem q188 : (Jvm.Cond.methodLink "NameRests" (43 : Nat) ({ cls := "NameRests$Fault", name := "<init>", desc := "()V" } : Jvm.MethodName)) ∈ lw_all := lw_g (lw_at lw_m1 86 rfl) rfl
theorem q214 : (Jvm.Cond.classLink "NameRests" (48 : Nat) "NameRests$Person") ∈ lw_all := lw_g (lw_at lw_m1 112 rfl) rfl
theorem q216 : (Jvm.Cond.classLink "NameRests" (57 : Nat) "NameRests$Meeting") ∈ lw_all := lw_g (lw_at lw_m1 114 rfl) rfl
theorem q218 : (Jvm.Cond.classLink "NameRests" (2 : Nat) "NameRests$Held") ∈ lw_all := lw_g (lw_at lw_m1 116 rfl) rfl
theorem q220 : (Jvm.Cond.classLink "NameRests" (73 : Nat) "NameRests$Torn") ∈ lw_all := lw_g (lw_at lw_m1 118 rfl) rfl
theorem q229 : (Jvm.Cond.methodLink "NameRests" (75 : Nat) ({ cls := "NameRests$Torn", name := "<init>", desc := "()V" } : Jvm.MethodName)) ∈ lw_all := lw_g (lw_at lw_m1 127 rfl) rfl
theorem q235 : (Jvm.Cond.classLink "NameRests" (95 : Nat) "NameRests$Body") ∈ lw_all := lw_g (lw_at lw_m1 133 rfl) rfl
theorem q237 : (Jvm.Cond.classLink "NameRests" (32 : Nat) "java/lang/Object") ∈ lw_all := lw_g (lw_at lw_m1 135 rfl) rfl
theorem q240 : (Jvm.Cond.methodLinkNest "NameRests" (108 : Nat) ({ cls := "NameRests$Change", name := "<init>", desc := "()V" } : Jvm.MethodName) "NameRests") ∈ lw_tbl := lw_at lw_m1 138 rfl
theorem q244 : (Jvm.Cond.fieldLinkNest "NameRests" (16 : Nat) "NameRests$Change" "of" "LNameRests$Held;" "NameRests") ∈ lw_tbl := lw_at lw_m1 142 rfl
theorem q245 : (Jvm.Cond.fieldLinkNest "NameRests" (22 : Nat) "NameRests$Change" "was" "I" "NameRests") ∈ lw_tbl := lw_at lw_m1 143 rfl
theorem q246 : (Jvm.Cond.fieldLinkNest "NameRests" (25 : Nat) "NameRests$Change" "is" "I" "NameRests") ∈ lw_tbl := lw_at lw_m1 144 rfl
theorem q255 : (Jvm.Cond.methodLinkNest "NameRests" (109 : Nat) ({ cls := "NameRests$Held", name := "<init>", desc := "()V" } : Jvm.MethodName) "NameRests") ∈ lw_tbl := lw_at lw_m1 153 rfl
theorem q260 : (Jvm.Cond.fieldLinkNest "NameRests" (1 : Nat) "NameRests$Held" "v" "I" "NameRests") ∈ lw_tbl := lw_at lw_m1 158 rfl
theorem q264 : (Jvm.Cond.fieldLink "NameRests" (12 : Nat) "NameRests" "changes" "[LNameRests$Change;") ∈ lw_all := lw_g (lw_at lw_m1 162 rfl) rfl
theorem q265 : (Jvm.Cond.fieldLink "NameRests" (28 : Nat) "NameRests" "changeMany" "I") ∈ lw_all := lw_g (lw_at lw_m1 163 rfl) rfl
theorem q266 : (Jvm.Cond.fieldLink "NameRests" (7 : Nat) "NameRests" "done" "I") ∈ lw_all := lw_g (lw_at lw_m1 164 rfl) rfl
theorem q267 : (Jvm.Cond.fieldLink "NameRests" (37 : Nat) "NameRests" "tape" "[I") ∈ lw_all := lw_g (lw_at lw_m1 165 rfl) rfl
theorem q268 : (Jvm.Cond.fieldLink "NameRests" (116 : Nat) "NameRests" "length" "I") ∈ lw_all := lw_g (lw_at lw_m1 166 rfl) rfl
theorem q269 : (Jvm.Cond.fieldLink "NameRests" (44 : Nat) "NameRests" "fault" "LNameRests$Fault;") ∈ lw_all := lw_g (lw_at lw_m1 167 rfl) rfl
theorem q270 : (Jvm.Cond.fieldLink "NameRests" (119 : Nat) "NameRests" "at" "I") ∈ lw_all := lw_g (lw_at lw_m1 168 rfl) rfl
theorem q271 : (Jvm.Cond.fieldLink "NameRests" (50 : Nat) "NameRests" "people" "[LNameRests$Person;") ∈ lw_all := lw_g (lw_at lw_m1 169 rfl) rfl
theorem q272 : (Jvm.Cond.fieldLink "NameRests" (134 : Nat) "NameRests" "personMany" "I") ∈ lw_all := lw_g (lw_at lw_m1 170 rfl) rfl
theorem q273 : (Jvm.Cond.fieldLink "NameRests" (54 : Nat) "NameRests" "order" "[I") ∈ lw_all := lw_g (lw_at lw_m1 171 rfl) rfl
theorem q274 : (Jvm.Cond.fieldLink "NameRests" (59 : Nat) "NameRests" "meetings" "[LNameRests$Meeting;") ∈ lw_all := lw_g (lw_at lw_m1 172 rfl) rfl
theorem q275 : (Jvm.Cond.fieldLink "NameRests" (141 : Nat) "NameRests" "meetingMany" "I") ∈ lw_all := lw_g (lw_at lw_m1 173 rfl) rfl
theorem q276 : (Jvm.Cond.fieldLink "NameRests" (63 : Nat) "NameRests" "byYear" "[I") ∈ lw_all := lw_g (lw_at lw_m1 174 rfl) rfl
theorem q277 : (Jvm.Cond.fieldLink "NameRests" (210 : Nat) "NameRests" "hearing" "I") ∈ lw_all := lw_g (lw_at lw_m1 175 rfl) rfl
theorem q278 : (Jvm.Cond.fieldLink "NameRests" (66 : Nat) "NameRests" "worths" "[LNameRests$Held;") ∈ lw_all := lw_g (lw_at lw_m1 176 rfl) rfl
theorem q279 : (Jvm.Cond.fieldLink "NameRests" (70 : Nat) "NameRests" "fame" "[I") ∈ lw_all := lw_g (lw_at lw_m1 177 rfl) rfl
theorem q280 : (Jvm.Cond.fieldLink "NameRests" (76 : Nat) "NameRests" "torn" "LNameRests$Torn;") ∈ lw_all := lw_g (lw_at lw_m1 178 rfl) rfl
theorem q282 : (Jvm.Cond.fieldLink "NameRests" (80 : Nat) "NameRests" "names" "[I") ∈ lw_all := lw_g (lw_at lw_m1 180 rfl) rfl
theorem q283 : (Jvm.Cond.fieldLink "NameRests" (267 : Nat) "NameRests" "opened" "I") ∈ lw_all := lw_g (lw_at lw_m1 181 rfl) rfl
theorem q284 : (Jvm.Cond.fieldLink "NameRests" (323 : Nat) "NameRests" "holding" "LNameRests$Line;") ∈ lw_all := lw_g (lw_at lw_m1 182 rfl) rfl
theorem q285 : (Jvm.Cond.fieldLink "NameRests" (83 : Nat) "NameRests" "known" "[I") ∈ lw_all := lw_g (lw_at lw_m1 183 rfl) rfl
theorem q286 : (Jvm.Cond.fieldLink "NameRests" (86 : Nat) "NameRests" "bears" "[I") ∈ lw_all := lw_g (lw_at lw_m1 184 rfl) rfl
theorem q287 : (Jvm.Cond.fieldLink "NameRests" (89 : Nat) "NameRests" "diesToo" "[I") ∈ lw_all := lw_g (lw_at lw_m1 185 rfl) rfl
theorem q288 : (Jvm.Cond.fieldLink "NameRests" (402 : Nat) "NameRests" "isKept" "Z") ∈ lw_all := lw_g (lw_at lw_m1 186 rfl) rfl
theorem q289 : (Jvm.Cond.fieldLink "NameRests" (406 : Nat) "NameRests" "imagePeople" "I") ∈ lw_all := lw_g (lw_at lw_m1 187 rfl) rfl
theorem q290 : (Jvm.Cond.fieldLink "NameRests" (92 : Nat) "NameRests" "imageNames" "[I") ∈ lw_all := lw_g (lw_at lw_m1 188 rfl) rfl
theorem q291 : (Jvm.Cond.fieldLink "NameRests" (97 : Nat) "NameRests" "bodies" "[LNameRests$Body;") ∈ lw_all := lw_g (lw_at lw_m1 189 rfl) rfl
theorem q292 : (Jvm.Cond.fieldLink "NameRests" (409 : Nat) "NameRests" "bodyMany" "I") ∈ lw_all := lw_g (lw_at lw_m1 190 rfl) rfl
theorem q294 : (Jvm.Cond.fieldLink "NameRests" (101 : Nat) "NameRests" "trace" "[I") ∈ lw_all := lw_g (lw_at lw_m1 192 rfl) rfl
theorem q296 : (Jvm.Cond.fieldLink "NameRests" (440 : Nat) "NameRests" "ran" "I") ∈ lw_all := lw_g (lw_at lw_m1 194 rfl) rfl
theorem q297 : (Jvm.Cond.fieldLink "NameRests" (104 : Nat) "NameRests" "shelves" "[Ljava/lang/Object;") ∈ lw_all := lw_g (lw_at lw_m1 195 rfl) rfl
theorem q298 : (Jvm.Cond.laysFinal "NameRests" "NameRests" "changes" "[LNameRests$Change;") ∈ lw_all := lw_g (lw_at lw_m1 196 rfl) rfl
theorem q299 : (Jvm.Cond.soleField "NameRests" "changes") ∈ lw_all := lw_g (lw_at lw_m1 197 rfl) rfl
theorem q300 : (Jvm.Cond.lays "NameRests" "NameRests" "changeMany" "I") ∈ lw_all := lw_g (lw_at lw_m1 198 rfl) rfl
theorem q301 : (Jvm.Cond.soleField "NameRests" "changeMany") ∈ lw_all := lw_g (lw_at lw_m1 199 rfl) rfl
theorem q302 : (Jvm.Cond.lays "NameRests" "NameRests" "done" "I") ∈ lw_all := lw_g (lw_at lw_m1 200 rfl) rfl
theorem q303 : (Jvm.Cond.soleField "NameRests" "done") ∈ lw_all := lw_g (lw_at lw_m1 201 rfl) rfl
theorem q304 : (Jvm.Cond.laysFinal "NameRests" "NameRests" "tape" "[I") ∈ lw_all := lw_g (lw_at lw_m1 202 rfl) rfl
theorem q305 : (Jvm.Cond.soleField "NameRests" "tape") ∈ lw_all := lw_g (lw_at lw_m1 203 rfl) rfl
theorem q306 : (Jvm.Cond.lays "NameRests" "NameRests" "length" "I") ∈ lw_all := lw_g (lw_at lw_m1 204 rfl) rfl
theorem q307 : (Jvm.Cond.soleField "NameRests" "length") ∈ lw_all := lw_g (lw_at lw_m1 205 rfl) rfl
theorem q308 : (Jvm.Cond.laysFinal "NameRests" "NameRests" "fault" "LNameRests$Fault;") ∈ lw_all := lw_g (lw_at lw_m1 206 rfl) rfl
theorem q309 : (Jvm.Cond.soleField "NameRests" "fault") ∈ lw_all := lw_g (lw_at lw_m1 207 rfl) rfl
theorem q310 : (Jvm.Cond.lays "NameRests" "NameRests" "at" "I") ∈ lw_all := lw_g (lw_at lw_m1 208 rfl) rfl
theorem q311 : (Jvm.Cond.soleField "NameRests" "at") ∈ lw_all := lw_g (lw_at lw_m1 209 rfl) rfl
theorem q312 : (Jvm.Cond.laysFinal "NameRests" "NameRests" "people" "[LNameRests$Person;") ∈ lw_all := lw_g (lw_at lw_m1 210 rfl) rfl
theorem q313 : (Jvm.Cond.soleField "NameRests" "people") ∈ lw_all := lw_g (lw_at lw_m1 211 rfl) rfl
theorem q314 : (Jvm.Cond.lays "NameRests" "NameRests" "personMany" "I") ∈ lw_all := lw_g (lw_at lw_m1 212 rfl) rfl
theorem q315 : (Jvm.Cond.soleField "NameRests" "personMany") ∈ lw_all := lw_g (lw_at lw_m1 213 rfl) rfl
theorem q316 : (Jvm.Cond.laysFinal "NameRests" "NameRests" "order" "[I") ∈ lw_all := lw_g (lw_at lw_m1 214 rfl) rfl
theorem q317 : (Jvm.Cond.soleField "NameRests" "order") ∈ lw_all := lw_g (lw_at lw_m1 215 rfl) rfl
theorem q318 : (Jvm.Cond.laysFinal "NameRests" "NameRests" "meetings" "[LNameRests$Meeting;") ∈ lw_all := lw_g (lw_at lw_m1 216 rfl) rfl
theorem q319 : (Jvm.Cond.soleField "NameRests" "meetings") ∈ lw_all := lw_g (lw_at lw_m1 217 rfl) rfl
theorem q320 : (Jvm.Cond.lays "NameRests" "NameRests" "meetingMany" "I") ∈ lw_all := lw_g (lw_at lw_m1 218 rfl) rfl
theorem q321 : (Jvm.Cond.soleField "NameRests" "meetingMany") ∈ lw_all := lw_g (lw_at lw_m1 219 rfl) rfl
theorem q322 : (Jvm.Cond.laysFinal "NameRests" "NameRests" "byYear" "[I") ∈ lw_all := lw_g (lw_at lw_m1 220 rfl) rfl
theorem q323 : (Jvm.Cond.soleField "NameRests" "byYear") ∈ lw_all := lw_g (lw_at lw_m1 221 rfl) rfl
theorem q324 : (Jvm.Cond.lays "NameRests" "NameRests" "hearing" "I") ∈ lw_all := lw_g (lw_at lw_m1 222 rfl) rfl
theorem q325 : (Jvm.Cond.soleField "NameRests" "hearing") ∈ lw_all := lw_g (lw_at lw_m1 223 rfl) rfl
theorem q326 : (Jvm.Cond.laysFinal "NameRests" "NameRests" "worths" "[LNameRests$Held;") ∈ lw_all := lw_g (lw_at lw_m1 224 rfl) rfl
theorem q327 : (Jvm.Cond.soleField "NameRests" "worths") ∈ lw_all := lw_g (lw_at lw_m1 225 rfl) rfl
theorem q328 : (Jvm.Cond.laysFinal "NameRests" "NameRests" "fame" "[I") ∈ lw_all := lw_g (lw_at lw_m1 226 rfl) rfl
theorem q329 : (Jvm.Cond.soleField "NameRests" "fame") ∈ lw_all := lw_g (lw_at lw_m1 227 rfl) rfl
theorem q330 : (Jvm.Cond.laysFinal "NameRests" "NameRests" "torn" "LNameRests$Torn;") ∈ lw_all := lw_g (lw_at lw_m1 228 rfl) rfl
theorem q331 : (Jvm.Cond.soleField "NameRests" "torn") ∈ lw_all := lw_g (lw_at lw_m1 229 rfl) rfl
theorem q332 : (Jvm.Cond.laysFinal "NameRests" "NameRests" "names" "[I") ∈ lw_all := lw_g (lw_at lw_m1 230 rfl) rfl
theorem q333 : (Jvm.Cond.soleField "NameRests" "names") ∈ lw_all := lw_g (lw_at lw_m1 231 rfl) rfl
theorem q334 : (Jvm.Cond.lays "NameRests" "NameRests" "opened" "I") ∈ lw_all := lw_g (lw_at lw_m1 232 rfl) rfl
theorem q335 : (Jvm.Cond.soleField "NameRests" "opened") ∈ lw_all := lw_g (lw_at lw_m1 233 rfl) rfl
theorem q336 : (Jvm.Cond.lays "NameRests" "NameRests" "holding" "LNameRests$Line;") ∈ lw_all := lw_g (lw_at lw_m1 234 rfl) rfl
theorem q337 : (Jvm.Cond.soleField "NameRests" "holding") ∈ lw_all := lw_g (lw_at lw_m1 235 rfl) rfl
theorem q338 : (Jvm.Cond.laysFinal "NameRests" "NameRests" "known" "[I") ∈ lw_all := lw_g (lw_at lw_m1 236 rfl) rfl
theorem q339 : (Jvm.Cond.soleField "NameRests" "known") ∈ lw_all := lw_g (lw_at lw_m1 237 rfl) rfl
theorem q340 : (Jvm.Cond.laysFinal "NameRests" "NameRests" "bears" "[I") ∈ lw_all := lw_g (lw_at lw_m1 238 rfl) rfl
theorem q341 : (Jvm.Cond.soleField "NameRests" "bears") ∈ lw_all := lw_g (lw_at lw_m1 239 rfl) rfl
theorem q342 : (Jvm.Cond.laysFinal "NameRests" "NameRests" "diesToo" "[I") ∈ lw_all := lw_g (lw_at lw_m2 0 rfl) rfl
theorem q343 : (Jvm.Cond.soleField "NameRests" "diesToo") ∈ lw_all := lw_g (lw_at lw_m2 1 rfl) rfl
theorem q344 : (Jvm.Cond.lays "NameRests" "NameRests" "isKept" "Z") ∈ lw_all := lw_g (lw_at lw_m2 2 rfl) rfl
theorem q345 : (Jvm.Cond.soleField "NameRests" "isKept") ∈ lw_all := lw_g (lw_at lw_m2 3 rfl) rfl
theorem q346 : (Jvm.Cond.lays "NameRests" "NameRests" "imagePeople" "I") ∈ lw_all := lw_g (lw_at lw_m2 4 rfl) rfl
theorem q347 : (Jvm.Cond.soleField "NameRests" "imagePeople") ∈ lw_all := lw_g (lw_at lw_m2 5 rfl) rfl
theorem q348 : (Jvm.Cond.laysFinal "NameRests" "NameRests" "imageNames" "[I") ∈ lw_all := lw_g (lw_at lw_m2 6 rfl) rfl
theorem q349 : (Jvm.Cond.soleField "NameRests" "imageNames") ∈ lw_all := lw_g (lw_at lw_m2 7 rfl) rfl
theorem q350 : (Jvm.Cond.laysFinal "NameRests" "NameRests" "bodies" "[LNameRests$Body;") ∈ lw_all := lw_g (lw_at lw_m2 8 rfl) rfl
theorem q351 : (Jvm.Cond.soleField "NameRests" "bodies") ∈ lw_all := lw_g (lw_at lw_m2 9 rfl) rfl
theorem q352 : (Jvm.Cond.lays "NameRests" "NameRests" "bodyMany" "I") ∈ lw_all := lw_g (lw_at lw_m2 10 rfl) rfl
theorem q353 : (Jvm.Cond.soleField "NameRests" "bodyMany") ∈ lw_all := lw_g (lw_at lw_m2 11 rfl) rfl
theorem q354 : (Jvm.Cond.laysFinal "NameRests" "NameRests" "trace" "[I") ∈ lw_all := lw_g (lw_at lw_m2 12 rfl) rfl
theorem q355 : (Jvm.Cond.soleField "NameRests" "trace") ∈ lw_all := lw_g (lw_at lw_m2 13 rfl) rfl
theorem q356 : (Jvm.Cond.lays "NameRests" "NameRests" "ran" "I") ∈ lw_all := lw_g (lw_at lw_m2 14 rfl) rfl
theorem q357 : (Jvm.Cond.soleField "NameRests" "ran") ∈ lw_all := lw_g (lw_at lw_m2 15 rfl) rfl
theorem q358 : (Jvm.Cond.laysFinal "NameRests" "NameRests" "shelves" "[Ljava/lang/Object;") ∈ lw_all := lw_g (lw_at lw_m2 16 rfl) rfl
theorem q359 : (Jvm.Cond.soleField "NameRests" "shelves") ∈ lw_all := lw_g (lw_at lw_m2 17 rfl) rfl
theorem q360 : (Jvm.Cond.superclass "NameRests" "java/lang/Object") ∈ lw_all := lw_g (lw_at lw_m2 18 rfl) rfl
theorem q362 : (Jvm.Cond.instanceMethod ({ cls := "NameRests", name := "feed", desc := "(I)I" } : Jvm.MethodName)) ∈ lw_all := lw_g (lw_at lw_m2 20 rfl) rfl
theorem q363 : (Jvm.Cond.selects "NameRests" ({ cls := "NameRests", name := "feed", desc := "(I)I" } : Jvm.MethodName) ({ cls := "NameRests", name := "feed", desc := "(I)I" } : Jvm.MethodName)) ∈ lw_all := lw_g (lw_at lw_m2 21 rfl) rfl
theorem q364 : (Jvm.Cond.code ({ cls := "NameRests", name := "feed", desc := "(I)I" } : Jvm.MethodName) prog_1_method_9_code (2 : Nat) (Option.some Jvm.ClassFile.FieldType.int)) ∈ lw_all := lw_g (lw_at lw_m2 22 rfl) rfl
theorem q365 : (Jvm.Cond.constantLong "NameRests" (110 : Nat) (255 : Int64)) ∈ lw_all := lw_g (lw_at lw_m2 23 rfl) rfl
theorem q366 : (Jvm.Cond.methodLink "NameRests" (112 : Nat) ({ cls := "NameRests", name := "within", desc := "(JJJ)Z" } : Jvm.MethodName)) ∈ lw_all := lw_g (lw_at lw_m2 24 rfl) rfl
theorem q367 : (Jvm.Cond.static ({ cls := "NameRests", name := "within", desc := "(JJJ)Z" } : Jvm.MethodName)) ∈ lw_all := lw_g (lw_at lw_m2 25 rfl) rfl
theorem q368 : (Jvm.Cond.code ({ cls := "NameRests", name := "within", desc := "(JJJ)Z" } : Jvm.MethodName) prog_1_method_1_code (6 : Nat) (Option.some Jvm.ClassFile.FieldType.boolean)) ∈ lw_all := lw_g (lw_at lw_m2 26 rfl) rfl
theorem q370 : (Jvm.Cond.instanceMethod ({ cls := "NameRests", name := "person", desc := "(II)I" } : Jvm.MethodName)) ∈ lw_all := lw_g (lw_at lw_m2 28 rfl) rfl
theorem q371 : (Jvm.Cond.selects "NameRests" ({ cls := "NameRests", name := "person", desc := "(II)I" } : Jvm.MethodName) ({ cls := "NameRests", name := "person", desc := "(II)I" } : Jvm.MethodName)) ∈ lw_all := lw_g (lw_at lw_m2 29 rfl) rfl
theorem q372 : (Jvm.Cond.code ({ cls := "NameRests", name := "person", desc := "(II)I" } : Jvm.MethodName) prog_1_method_20_code (3 : Nat) (Option.some Jvm.ClassFile.FieldType.int)) ∈ lw_all := lw_g (lw_at lw_m2 30 rfl) rfl
theorem q373 : (Jvm.Cond.methodLink "NameRests" (152 : Nat) ({ cls := "NameRests", name := "mayLive", desc := "(II)Z" } : Jvm.MethodName)) ∈ lw_all := lw_g (lw_at lw_m2 31 rfl) rfl
theorem q374 : (Jvm.Cond.static ({ cls := "NameRests", name := "mayLive", desc := "(II)Z" } : Jvm.MethodName)) ∈ lw_all := lw_g (lw_at lw_m2 32 rfl) rfl
theorem q375 : (Jvm.Cond.code ({ cls := "NameRests", name := "mayLive", desc := "(II)Z" } : Jvm.MethodName) prog_1_method_18_code (2 : Nat) (Option.some Jvm.ClassFile.FieldType.boolean)) ∈ lw_all := lw_g (lw_at lw_m2 33 rfl) rfl
theorem q376 : (Jvm.Cond.methodLink "NameRests" (144 : Nat) ({ cls := "NameRests", name := "isYear", desc := "(I)Z" } : Jvm.MethodName)) ∈ lw_all := lw_g (lw_at lw_m2 34 rfl) rfl
theorem q377 : (Jvm.Cond.static ({ cls := "NameRests", name := "isYear", desc := "(I)Z" } : Jvm.MethodName)) ∈ lw_all := lw_g (lw_at lw_m2 35 rfl) rfl
theorem q378 : (Jvm.Cond.code ({ cls := "NameRests", name := "isYear", desc := "(I)Z" } : Jvm.MethodName) prog_1_method_16_code (1 : Nat) (Option.some Jvm.ClassFile.FieldType.boolean)) ∈ lw_all := lw_g (lw_at lw_m2 36 rfl) rfl
theorem q379 : (Jvm.Cond.constantLong "NameRests" (139 : Nat) (99 : Int64)) ∈ lw_all := lw_g (lw_at lw_m2 37 rfl) rfl
theorem q380 : (Jvm.Cond.constantLong "NameRests" (147 : Nat) (100 : Int64)) ∈ lw_all := lw_g (lw_at lw_m2 38 rfl) rfl
theorem q382 : (Jvm.Cond.methodLink "NameRests" (156 : Nat) ({ cls := "NameRests$Person", name := "<init>", desc := "(II)V" } : Jvm.MethodName)) ∈ lw_all := lw_g (lw_at lw_m2 40 rfl) rfl
theorem q389 : (Jvm.Cond.fieldLinkNest "NameRests" (149 : Nat) "NameRests$Person" "born" "I" "NameRests") ∈ lw_tbl := lw_at lw_m2 47 rfl
theorem q391 : (Jvm.Cond.fieldLinkNest "NameRests" (214 : Nat) "NameRests$Person" "dies" "LNameRests$Held;" "NameRests") ∈ lw_tbl := lw_at lw_m2 49 rfl
theorem q393 : (Jvm.Cond.fieldLinkNest "NameRests" (185 : Nat) "NameRests$Person" "name" "I" "NameRests") ∈ lw_tbl := lw_at lw_m2 51 rfl
theorem q401 : (Jvm.Cond.methodLink "NameRests" (159 : Nat) ({ cls := "NameRests", name := "add", desc := "(LNameRests$Person;)V" } : Jvm.MethodName)) ∈ lw_all := lw_g (lw_at lw_m2 59 rfl) rfl
theorem q402 : (Jvm.Cond.privateMethod ({ cls := "NameRests", name := "add", desc := "(LNameRests$Person;)V" } : Jvm.MethodName)) ∈ lw_tbl := lw_at lw_m2 60 rfl
theorem q403 : (Jvm.Cond.instanceMethod ({ cls := "NameRests", name := "add", desc := "(LNameRests$Person;)V" } : Jvm.MethodName)) ∈ lw_all := lw_g (lw_at lw_m2 61 rfl) rfl
theorem q404 : (Jvm.Cond.code ({ cls := "NameRests", name := "add", desc := "(LNameRests$Person;)V" } : Jvm.MethodName) prog_1_method_19_code (3 : Nat) (Option.none : Option Jvm.ClassFile.FieldType)) ∈ lw_all := lw_g (lw_at lw_m2 62 rfl) rfl
theorem q406 : (Jvm.Cond.instanceMethod ({ cls := "NameRests", name := "people", desc := "(III)I" } : Jvm.MethodName)) ∈ lw_all := lw_g (lw_at lw_m2 64 rfl) rfl
theorem q407 : (Jvm.Cond.selects "NameRests" ({ cls := "NameRests", name := "people", desc := "(III)I" } : Jvm.MethodName) ({ cls := "NameRests", name := "people", desc := "(III)I" } : Jvm.MethodName)) ∈ lw_all := lw_g (lw_at lw_m2 65 rfl) rfl
theorem q408 : (Jvm.Cond.codeWith ({ cls := "NameRests", name := "people", desc := "(III)I" } : Jvm.MethodName) prog_1_method_22_code (13 : Nat) (Option.some Jvm.ClassFile.FieldType.int) [((54 : Nat), (178 : Nat), (181 : Nat), (73 : Nat))]) ∈ lw_all := lw_g (lw_at lw_m2 66 rfl) rfl
theorem q409 : (Jvm.Cond.methodLink "NameRests" (165 : Nat) ({ cls := "NameRests", name := "isShelf", desc := "(I)Z" } : Jvm.MethodName)) ∈ lw_all := lw_g (lw_at lw_m2 67 rfl) rfl
theorem q410 : (Jvm.Cond.static ({ cls := "NameRests", name := "isShelf", desc := "(I)Z" } : Jvm.MethodName)) ∈ lw_all := lw_g (lw_at lw_m2 68 rfl) rfl
theorem q411 : (Jvm.Cond.code ({ cls := "NameRests", name := "isShelf", desc := "(I)Z" } : Jvm.MethodName) prog_1_method_82_code (1 : Nat) (Option.some Jvm.ClassFile.FieldType.boolean)) ∈ lw_all := lw_g (lw_at lw_m2 69 rfl) rfl
theorem q412 : (Jvm.Cond.constantLong "NameRests" (461 : Nat) (5 : Int64)) ∈ lw_all := lw_g (lw_at lw_m2 70 rfl) rfl
theorem q413 : (Jvm.Cond.constantLong "NameRests" (168 : Nat) (12 : Int64)) ∈ lw_all := lw_g (lw_at lw_m2 71 rfl) rfl
theorem q414 : (Jvm.Cond.methodLink "NameRests" (170 : Nat) ({ cls := "NameRests", name := "sortOf", desc := "(Ljava/lang/Object;)I" } : Jvm.MethodName)) ∈ lw_all := lw_g (lw_at lw_m2 72 rfl) rfl
theorem q415 : (Jvm.Cond.static ({ cls := "NameRests", name := "sortOf", desc := "(Ljava/lang/Object;)I" } : Jvm.MethodName)) ∈ lw_all := lw_g (lw_at lw_m2 73 rfl) rfl
theorem q416 : (Jvm.Cond.code ({ cls := "NameRests", name := "sortOf", desc := "(Ljava/lang/Object;)I" } : Jvm.MethodName) prog_1_method_85_code (1 : Nat) (Option.some Jvm.ClassFile.FieldType.int)) ∈ lw_all := lw_g (lw_at lw_m2 74 rfl) rfl
theorem q417 : (Jvm.Cond.classLink "NameRests" (163 : Nat) "[B") ∈ lw_all := lw_g (lw_at lw_m2 75 rfl) rfl
theorem q418 : (Jvm.Cond.classLink "NameRests" (465 : Nat) "[S") ∈ lw_all := lw_g (lw_at lw_m2 76 rfl) rfl
theorem q419 : (Jvm.Cond.classLink "NameRests" (467 : Nat) "[I") ∈ lw_all := lw_g (lw_at lw_m2 77 rfl) rfl
theorem q420 : (Jvm.Cond.classLink "NameRests" (468 : Nat) "[J") ∈ lw_all := lw_g (lw_at lw_m2 78 rfl) rfl
theorem q421 : (Jvm.Cond.classLink "NameRests" (470 : Nat) "[Z") ∈ lw_all := lw_g (lw_at lw_m2 79 rfl) rfl
theorem q422 : (Jvm.Cond.constantLong "NameRests" (174 : Nat) (3 : Int64)) ∈ lw_all := lw_g (lw_at lw_m2 80 rfl) rfl
theorem q423 : (Jvm.Cond.methodLink "NameRests" (176 : Nat) ({ cls := "NameRests", name := "toldIn", desc := "(Ljava/lang/Object;J)I" } : Jvm.MethodName)) ∈ lw_all := lw_g (lw_at lw_m2 81 rfl) rfl
theorem q424 : (Jvm.Cond.privateMethod ({ cls := "NameRests", name := "toldIn", desc := "(Ljava/lang/Object;J)I" } : Jvm.MethodName)) ∈ lw_tbl := lw_at lw_m2 82 rfl
theorem q425 : (Jvm.Cond.instanceMethod ({ cls := "NameRests", name := "toldIn", desc := "(Ljava/lang/Object;J)I" } : Jvm.MethodName)) ∈ lw_all := lw_g (lw_at lw_m2 83 rfl) rfl
theorem q426 : (Jvm.Cond.code ({ cls := "NameRests", name := "toldIn", desc := "(Ljava/lang/Object;J)I" } : Jvm.MethodName) prog_1_method_21_code (4 : Nat) (Option.some Jvm.ClassFile.FieldType.int)) ∈ lw_all := lw_g (lw_at lw_m2 84 rfl) rfl
theorem q427 : (Jvm.Cond.constantLong "NameRests" (180 : Nat) (2 : Int64)) ∈ lw_all := lw_g (lw_at lw_m2 85 rfl) rfl
theorem q428 : (Jvm.Cond.methodLink "NameRests" (182 : Nat) ({ cls := "NameRests", name := "isName", desc := "(I)Z" } : Jvm.MethodName)) ∈ lw_all := lw_g (lw_at lw_m2 86 rfl) rfl
theorem q429 : (Jvm.Cond.static ({ cls := "NameRests", name := "isName", desc := "(I)Z" } : Jvm.MethodName)) ∈ lw_all := lw_g (lw_at lw_m2 87 rfl) rfl
theorem q430 : (Jvm.Cond.code ({ cls := "NameRests", name := "isName", desc := "(I)Z" } : Jvm.MethodName) prog_1_method_15_code (1 : Nat) (Option.some Jvm.ClassFile.FieldType.boolean)) ∈ lw_all := lw_g (lw_at lw_m2 88 rfl) rfl
theorem q431 : (Jvm.Cond.constantLong "NameRests" (137 : Nat) (11 : Int64)) ∈ lw_all := lw_g (lw_at lw_m2 89 rfl) rfl
theorem q433 : (Jvm.Cond.instanceMethod ({ cls := "NameRests", name := "meet", desc := "(II)I" } : Jvm.MethodName)) ∈ lw_all := lw_g (lw_at lw_m2 91 rfl) rfl
theorem q434 : (Jvm.Cond.selects "NameRests" ({ cls := "NameRests", name := "meet", desc := "(II)I" } : Jvm.MethodName) ({ cls := "NameRests", name := "meet", desc := "(II)I" } : Jvm.MethodName)) ∈ lw_all := lw_g (lw_at lw_m2 92 rfl) rfl
theorem q435 : (Jvm.Cond.code ({ cls := "NameRests", name := "meet", desc := "(II)I" } : Jvm.MethodName) prog_1_method_24_code (4 : Nat) (Option.some Jvm.ClassFile.FieldType.int)) ∈ lw_all := lw_g (lw_at lw_m2 93 rfl) rfl
theorem q436 : (Jvm.Cond.methodLink "NameRests" (191 : Nat) ({ cls := "NameRests", name := "isPerson", desc := "(I)Z" } : Jvm.MethodName)) ∈ lw_all := lw_g (lw_at lw_m2 94 rfl) rfl
theorem q437 : (Jvm.Cond.privateMethod ({ cls := "NameRests", name := "isPerson", desc := "(I)Z" } : Jvm.MethodName)) ∈ lw_tbl := lw_at lw_m2 95 rfl
theorem q438 : (Jvm.Cond.instanceMethod ({ cls := "NameRests", name := "isPerson", desc := "(I)Z" } : Jvm.MethodName)) ∈ lw_all := lw_g (lw_at lw_m2 96 rfl) rfl
theorem q439 : (Jvm.Cond.code ({ cls := "NameRests", name := "isPerson", desc := "(I)Z" } : Jvm.MethodName) prog_1_method_14_code (2 : Nat) (Option.some Jvm.ClassFile.FieldType.boolean)) ∈ lw_all := lw_g (lw_at lw_m2 97 rfl) rfl
theorem q440 : (Jvm.Cond.methodLink "NameRests" (194 : Nat) ({ cls := "NameRests", name := "doLive", desc := "(III)Z" } : Jvm.MethodName)) ∈ lw_all := lw_g (lw_at lw_m2 98 rfl) rfl
theorem q441 : (Jvm.Cond.privateMethod ({ cls := "NameRests", name := "doLive", desc := "(III)Z" } : Jvm.MethodName)) ∈ lw_tbl := lw_at lw_m2 99 rfl
theorem q442 : (Jvm.Cond.instanceMethod ({ cls := "NameRests", name := "doLive", desc := "(III)Z" } : Jvm.MethodName)) ∈ lw_all := lw_g (lw_at lw_m2 100 rfl) rfl
theorem q443 : (Jvm.Cond.code ({ cls := "NameRests", name := "doLive", desc := "(III)Z" } : Jvm.MethodName) prog_1_method_23_code (4 : Nat) (Option.some Jvm.ClassFile.FieldType.boolean)) ∈ lw_all := lw_g (lw_at lw_m2 101 rfl) rfl
theorem q444 : (Jvm.Cond.methodLink "NameRests" (188 : Nat) ({ cls := "NameRests$Person", name := "lives", desc := "(I)Z" } : Jvm.MethodName)) ∈ lw_all := lw_g (lw_at lw_m2 102 rfl) rfl
theorem q449 : (Jvm.Cond.methodLink "NameRests" (198 : Nat) ({ cls := "NameRests$Meeting", name := "<init>", desc := "(III)V" } : Jvm.MethodName)) ∈ lw_all := lw_g (lw_at lw_m2 107 rfl) rfl
theorem q454 : (Jvm.Cond.fieldLinkNest "NameRests" (204 : Nat) "NameRests$Meeting" "a" "I" "NameRests") ∈ lw_tbl := lw_at lw_m2 112 rfl
theorem q456 : (Jvm.Cond.fieldLinkNest "NameRests" (207 : Nat) "NameRests$Meeting" "b" "I" "NameRests") ∈ lw_tbl := lw_at lw_m2 114 rfl
theorem q458 : (Jvm.Cond.fieldLinkNest "NameRests" (201 : Nat) "NameRests$Meeting" "year" "I" "NameRests") ∈ lw_tbl := lw_at lw_m2 116 rfl
theorem q467 : (Jvm.Cond.instanceMethod ({ cls := "NameRests", name := "hearing", desc := "(I)I" } : Jvm.MethodName)) ∈ lw_all := lw_g (lw_at lw_m2 125 rfl) rfl
theorem q468 : (Jvm.Cond.selects "NameRests" ({ cls := "NameRests", name := "hearing", desc := "(I)I" } : Jvm.MethodName) ({ cls := "NameRests", name := "hearing", desc := "(I)I" } : Jvm.MethodName)) ∈ lw_all := lw_g (lw_at lw_m2 126 rfl) rfl
theorem q469 : (Jvm.Cond.code ({ cls := "NameRests", name := "hearing", desc := "(I)I" } : Jvm.MethodName) prog_1_method_26_code (3 : Nat) (Option.some Jvm.ClassFile.FieldType.int)) ∈ lw_all := lw_g (lw_at lw_m2 127 rfl) rfl
theorem q471 : (Jvm.Cond.instanceMethod ({ cls := "NameRests", name := "name", desc := "(II)I" } : Jvm.MethodName)) ∈ lw_all := lw_g (lw_at lw_m2 129 rfl) rfl
theorem q472 : (Jvm.Cond.selects "NameRests" ({ cls := "NameRests", name := "name", desc := "(II)I" } : Jvm.MethodName) ({ cls := "NameRests", name := "name", desc := "(II)I" } : Jvm.MethodName)) ∈ lw_all := lw_g (lw_at lw_m2 130 rfl) rfl
theorem q473 : (Jvm.Cond.code ({ cls := "NameRests", name := "name", desc := "(II)I" } : Jvm.MethodName) prog_1_method_27_code (4 : Nat) (Option.some Jvm.ClassFile.FieldType.int)) ∈ lw_all := lw_g (lw_at lw_m2 131 rfl) rfl
theorem q474 : (Jvm.Cond.constant "NameRests" (213 : Nat) (-2000000000 : Int32)) ∈ lw_all := lw_g (lw_at lw_m2 132 rfl) rfl
theorem q476 : (Jvm.Cond.instanceMethod ({ cls := "NameRests", name := "fame", desc := "(II)I" } : Jvm.MethodName)) ∈ lw_all := lw_g (lw_at lw_m2 134 rfl) rfl
theorem q477 : (Jvm.Cond.selects "NameRests" ({ cls := "NameRests", name := "fame", desc := "(II)I" } : Jvm.MethodName) ({ cls := "NameRests", name := "fame", desc := "(II)I" } : Jvm.MethodName)) ∈ lw_all := lw_g (lw_at lw_m2 135 rfl) rfl
theorem q478 : (Jvm.Cond.code ({ cls := "NameRests", name := "fame", desc := "(II)I" } : Jvm.MethodName) prog_1_method_28_code (4 : Nat) (Option.some Jvm.ClassFile.FieldType.int)) ∈ lw_all := lw_g (lw_at lw_m2 136 rfl) rfl
theorem q480 : (Jvm.Cond.instanceMethod ({ cls := "NameRests", name := "mend", desc := "(III)I" } : Jvm.MethodName)) ∈ lw_all := lw_g (lw_at lw_m2 138 rfl) rfl
theorem q481 : (Jvm.Cond.selects "NameRests" ({ cls := "NameRests", name := "mend", desc := "(III)I" } : Jvm.MethodName) ({ cls := "NameRests", name := "mend", desc := "(III)I" } : Jvm.MethodName)) ∈ lw_all := lw_g (lw_at lw_m2 139 rfl) rfl
theorem q482 : (Jvm.Cond.code ({ cls := "NameRests", name := "mend", desc := "(III)I" } : Jvm.MethodName) prog_1_method_29_code (4 : Nat) (Option.some Jvm.ClassFile.FieldType.int)) ∈ lw_all := lw_g (lw_at lw_m2 140 rfl) rfl
theorem q483 : (Jvm.Cond.methodLink "NameRests" (217 : Nat) ({ cls := "NameRests", name := "become", desc := "(LNameRests$Held;I)I" } : Jvm.MethodName)) ∈ lw_all := lw_g (lw_at lw_m2 141 rfl) rfl
theorem q484 : (Jvm.Cond.privateMethod ({ cls := "NameRests", name := "become", desc := "(LNameRests$Held;I)I" } : Jvm.MethodName)) ∈ lw_tbl := lw_at lw_m2 142 rfl
theorem q485 : (Jvm.Cond.instanceMethod ({ cls := "NameRests", name := "become", desc := "(LNameRests$Held;I)I" } : Jvm.MethodName)) ∈ lw_all := lw_g (lw_at lw_m2 143 rfl) rfl
theorem q486 : (Jvm.Cond.code ({ cls := "NameRests", name := "become", desc := "(LNameRests$Held;I)I" } : Jvm.MethodName) prog_1_method_5_code (6 : Nat) (Option.some Jvm.ClassFile.FieldType.int)) ∈ lw_all := lw_g (lw_at lw_m2 144 rfl) rfl
theorem q487 : (Jvm.Cond.constantLong "NameRests" (221 : Nat) (9 : Int64)) ∈ lw_all := lw_g (lw_at lw_m2 145 rfl) rfl
theorem q489 : (Jvm.Cond.instanceMethod ({ cls := "NameRests", name := "of", desc := "(II)I" } : Jvm.MethodName)) ∈ lw_all := lw_g (lw_at lw_m2 147 rfl) rfl
theorem q490 : (Jvm.Cond.selects "NameRests" ({ cls := "NameRests", name := "of", desc := "(II)I" } : Jvm.MethodName) ({ cls := "NameRests", name := "of", desc := "(II)I" } : Jvm.MethodName)) ∈ lw_all := lw_g (lw_at lw_m2 148 rfl) rfl
theorem q491 : (Jvm.Cond.code ({ cls := "NameRests", name := "of", desc := "(II)I" } : Jvm.MethodName) prog_1_method_33_code (3 : Nat) (Option.some Jvm.ClassFile.FieldType.int)) ∈ lw_all := lw_g (lw_at lw_m2 149 rfl) rfl
theorem q492 : (Jvm.Cond.methodLink "NameRests" (231 : Nat) ({ cls := "NameRests", name := "ofPerson", desc := "(II)I" } : Jvm.MethodName)) ∈ lw_all := lw_g (lw_at lw_m2 150 rfl) rfl
theorem q493 : (Jvm.Cond.privateMethod ({ cls := "NameRests", name := "ofPerson", desc := "(II)I" } : Jvm.MethodName)) ∈ lw_tbl := lw_at lw_m2 151 rfl
theorem q494 : (Jvm.Cond.instanceMethod ({ cls := "NameRests", name := "ofPerson", desc := "(II)I" } : Jvm.MethodName)) ∈ lw_all := lw_g (lw_at lw_m2 152 rfl) rfl
theorem q495 : (Jvm.Cond.code ({ cls := "NameRests", name := "ofPerson", desc := "(II)I" } : Jvm.MethodName) prog_1_method_32_code (3 : Nat) (Option.some Jvm.ClassFile.FieldType.int)) ∈ lw_all := lw_g (lw_at lw_m2 153 rfl) rfl
theorem q496 : (Jvm.Cond.methodLink "NameRests" (227 : Nat) ({ cls := "NameRests", name := "placeOf", desc := "(I)I" } : Jvm.MethodName)) ∈ lw_all := lw_g (lw_at lw_m2 154 rfl) rfl
theorem q497 : (Jvm.Cond.privateMethod ({ cls := "NameRests", name := "placeOf", desc := "(I)I" } : Jvm.MethodName)) ∈ lw_tbl := lw_at lw_m2 155 rfl
theorem q498 : (Jvm.Cond.instanceMethod ({ cls := "NameRests", name := "placeOf", desc := "(I)I" } : Jvm.MethodName)) ∈ lw_all := lw_g (lw_at lw_m2 156 rfl) rfl
theorem q499 : (Jvm.Cond.code ({ cls := "NameRests", name := "placeOf", desc := "(I)I" } : Jvm.MethodName) prog_1_method_30_code (3 : Nat) (Option.some Jvm.ClassFile.FieldType.int)) ∈ lw_all := lw_g (lw_at lw_m2 157 rfl) rfl
theorem q500 : (Jvm.Cond.constantLong "NameRests" (235 : Nat) (10 : Int64)) ∈ lw_all := lw_g (lw_at lw_m2 158 rfl) rfl
theorem q501 : (Jvm.Cond.methodLink "NameRests" (237 : Nat) ({ cls := "NameRests", name := "bearersOf", desc := "(I)I" } : Jvm.MethodName)) ∈ lw_all := lw_g (lw_at lw_m2 159 rfl) rfl
theorem q502 : (Jvm.Cond.privateMethod ({ cls := "NameRests", name := "bearersOf", desc := "(I)I" } : Jvm.MethodName)) ∈ lw_tbl := lw_at lw_m2 160 rfl
theorem q503 : (Jvm.Cond.instanceMethod ({ cls := "NameRests", name := "bearersOf", desc := "(I)I" } : Jvm.MethodName)) ∈ lw_all := lw_g (lw_at lw_m2 161 rfl) rfl
theorem q504 : (Jvm.Cond.code ({ cls := "NameRests", name := "bearersOf", desc := "(I)I" } : Jvm.MethodName) prog_1_method_31_code (4 : Nat) (Option.some Jvm.ClassFile.FieldType.int)) ∈ lw_all := lw_g (lw_at lw_m2 162 rfl) rfl
theorem q505 : (Jvm.Cond.methodLink "NameRests" (223 : Nat) ({ cls := "NameRests", name := "bit", desc := "(Z)I" } : Jvm.MethodName)) ∈ lw_all := lw_g (lw_at lw_m2 163 rfl) rfl
theorem q506 : (Jvm.Cond.static ({ cls := "NameRests", name := "bit", desc := "(Z)I" } : Jvm.MethodName)) ∈ lw_all := lw_g (lw_at lw_m2 164 rfl) rfl
theorem q507 : (Jvm.Cond.code ({ cls := "NameRests", name := "bit", desc := "(Z)I" } : Jvm.MethodName) prog_1_method_2_code (1 : Nat) (Option.some Jvm.ClassFile.FieldType.int)) ∈ lw_all := lw_g (lw_at lw_m2 165 rfl) rfl
theorem q508 : (Jvm.Cond.constantLong "NameRests" (240 : Nat) (20 : Int64)) ∈ lw_all := lw_g (lw_at lw_m2 166 rfl) rfl
theorem q509 : (Jvm.Cond.constantLong "NameRests" (242 : Nat) (22 : Int64)) ∈ lw_all := lw_g (lw_at lw_m2 167 rfl) rfl
theorem q510 : (Jvm.Cond.methodLink "NameRests" (244 : Nat) ({ cls := "NameRests", name := "isMeeting", desc := "(I)Z" } : Jvm.MethodName)) ∈ lw_all := lw_g (lw_at lw_m2 168 rfl) rfl
theorem q511 : (Jvm.Cond.privateMethod ({ cls := "NameRests", name := "isMeeting", desc := "(I)Z" } : Jvm.MethodName)) ∈ lw_tbl := lw_at lw_m2 169 rfl
theorem q512 : (Jvm.Cond.instanceMethod ({ cls := "NameRests", name := "isMeeting", desc := "(I)Z" } : Jvm.MethodName)) ∈ lw_all := lw_g (lw_at lw_m2 170 rfl) rfl
theorem q513 : (Jvm.Cond.code ({ cls := "NameRests", name := "isMeeting", desc := "(I)Z" } : Jvm.MethodName) prog_1_method_17_code (2 : Nat) (Option.some Jvm.ClassFile.FieldType.boolean)) ∈ lw_all := lw_g (lw_at lw_m2 171 rfl) rfl
theorem q514 : (Jvm.Cond.methodLink "NameRests" (247 : Nat) ({ cls := "NameRests", name := "doesCount", desc := "(I)Z" } : Jvm.MethodName)) ∈ lw_all := lw_g (lw_at lw_m2 172 rfl) rfl
theorem q515 : (Jvm.Cond.privateMethod ({ cls := "NameRests", name := "doesCount", desc := "(I)Z" } : Jvm.MethodName)) ∈ lw_tbl := lw_at lw_m2 173 rfl
theorem q516 : (Jvm.Cond.instanceMethod ({ cls := "NameRests", name := "doesCount", desc := "(I)Z" } : Jvm.MethodName)) ∈ lw_all := lw_g (lw_at lw_m2 174 rfl) rfl
theorem q517 : (Jvm.Cond.code ({ cls := "NameRests", name := "doesCount", desc := "(I)Z" } : Jvm.MethodName) prog_1_method_25_code (2 : Nat) (Option.some Jvm.ClassFile.FieldType.boolean)) ∈ lw_all := lw_g (lw_at lw_m2 175 rfl) rfl
theorem q519 : (Jvm.Cond.instanceMethod ({ cls := "NameRests", name := "law", desc := "()I" } : Jvm.MethodName)) ∈ lw_all := lw_g (lw_at lw_m2 177 rfl) rfl
theorem q520 : (Jvm.Cond.selects "NameRests" ({ cls := "NameRests", name := "law", desc := "()I" } : Jvm.MethodName) ({ cls := "NameRests", name := "law", desc := "()I" } : Jvm.MethodName)) ∈ lw_all := lw_g (lw_at lw_m2 178 rfl) rfl
theorem q521 : (Jvm.Cond.codeWith ({ cls := "NameRests", name := "law", desc := "()I" } : Jvm.MethodName) prog_1_method_43_code (4 : Nat) (Option.some Jvm.ClassFile.FieldType.int) [((5 : Nat), (15 : Nat), (22 : Nat), (41 : Nat)), ((5 : Nat), (15 : Nat), (38 : Nat), (0 : Nat)), ((22 : Nat), (31 : Nat), (38 : Nat), (0 : Nat))]) ∈ lw_all := lw_g (lw_at lw_m2 179 rfl) rfl
theorem q522 : (Jvm.Cond.methodLink "NameRests" (320 : Nat) ({ cls := "NameRests", name := "readLaw", desc := "()LNameRests$Line;" } : Jvm.MethodName)) ∈ lw_all := lw_g (lw_at lw_m2 180 rfl) rfl
theorem q523 : (Jvm.Cond.privateMethod ({ cls := "NameRests", name := "readLaw", desc := "()LNameRests$Line;" } : Jvm.MethodName)) ∈ lw_tbl := lw_at lw_m2 181 rfl
theorem q524 : (Jvm.Cond.instanceMethod ({ cls := "NameRests", name := "readLaw", desc := "()LNameRests$Line;" } : Jvm.MethodName)) ∈ lw_all := lw_g (lw_at lw_m2 182 rfl) rfl
theorem q525 : (Jvm.Cond.code ({ cls := "NameRests", name := "readLaw", desc := "()LNameRests$Line;" } : Jvm.MethodName) prog_1_method_42_code (3 : Nat) (Option.some (Jvm.ClassFile.FieldType.object "NameRests$Line"))) ∈ lw_all := lw_g (lw_at lw_m2 183 rfl) rfl
theorem q526 : (Jvm.Cond.methodLink "NameRests" (312 : Nat) ({ cls := "NameRests", name := "readLine", desc := "()LNameRests$Line;" } : Jvm.MethodName)) ∈ lw_all := lw_g (lw_at lw_m2 184 rfl) rfl
theorem q527 : (Jvm.Cond.privateMethod ({ cls := "NameRests", name := "readLine", desc := "()LNameRests$Line;" } : Jvm.MethodName)) ∈ lw_tbl := lw_at lw_m2 185 rfl
theorem q528 : (Jvm.Cond.instanceMethod ({ cls := "NameRests", name := "readLine", desc := "()LNameRests$Line;" } : Jvm.MethodName)) ∈ lw_all := lw_g (lw_at lw_m2 186 rfl) rfl
theorem q529 : (Jvm.Cond.code ({ cls := "NameRests", name := "readLine", desc := "()LNameRests$Line;" } : Jvm.MethodName) prog_1_method_41_code (2 : Nat) (Option.some (Jvm.ClassFile.FieldType.object "NameRests$Line"))) ∈ lw_all := lw_g (lw_at lw_m2 187 rfl) rfl
theorem q530 : (Jvm.Cond.classLink "NameRests" (302 : Nat) "NameRests$Line") ∈ lw_all := lw_g (lw_at lw_m2 188 rfl) rfl
theorem q532 : (Jvm.Cond.methodLinkNest "NameRests" (304 : Nat) ({ cls := "NameRests$Line", name := "<init>", desc := "()V" } : Jvm.MethodName) "NameRests") ∈ lw_tbl := lw_at lw_m2 190 rfl
theorem q536 : (Jvm.Cond.fieldLinkNest "NameRests" (309 : Nat) "NameRests$Line" "asked" "LNameRests$Term;" "NameRests") ∈ lw_tbl := lw_at lw_m2 194 rfl
theorem q537 : (Jvm.Cond.fieldLinkNest "NameRests" (305 : Nat) "NameRests$Line" "counts" "LNameRests$Term;" "NameRests") ∈ lw_tbl := lw_at lw_m2 195 rfl
theorem q538 : (Jvm.Cond.fieldLinkNest "NameRests" (316 : Nat) "NameRests$Line" "next" "LNameRests$Line;" "NameRests") ∈ lw_tbl := lw_at lw_m2 196 rfl
theorem q546 : (Jvm.Cond.methodLink "NameRests" (270 : Nat) ({ cls := "NameRests", name := "readEither", desc := "()LNameRests$Term;" } : Jvm.MethodName)) ∈ lw_all := lw_g (lw_at lw_m2 204 rfl) rfl
theorem q547 : (Jvm.Cond.privateMethod ({ cls := "NameRests", name := "readEither", desc := "()LNameRests$Term;" } : Jvm.MethodName)) ∈ lw_tbl := lw_at lw_m2 205 rfl
theorem q548 : (Jvm.Cond.instanceMethod ({ cls := "NameRests", name := "readEither", desc := "()LNameRests$Term;" } : Jvm.MethodName)) ∈ lw_all := lw_g (lw_at lw_m2 206 rfl) rfl
theorem q549 : (Jvm.Cond.code ({ cls := "NameRests", name := "readEither", desc := "()LNameRests$Term;" } : Jvm.MethodName) prog_1_method_40_code (2 : Nat) (Option.some (Jvm.ClassFile.FieldType.object "NameRests$Term"))) ∈ lw_all := lw_g (lw_at lw_m2 207 rfl) rfl
theorem q550 : (Jvm.Cond.methodLink "NameRests" (299 : Nat) ({ cls := "NameRests", name := "readAll", desc := "()LNameRests$Term;" } : Jvm.MethodName)) ∈ lw_all := lw_g (lw_at lw_m2 208 rfl) rfl
theorem q551 : (Jvm.Cond.privateMethod ({ cls := "NameRests", name := "readAll", desc := "()LNameRests$Term;" } : Jvm.MethodName)) ∈ lw_tbl := lw_at lw_m2 209 rfl
theorem q552 : (Jvm.Cond.instanceMethod ({ cls := "NameRests", name := "readAll", desc := "()LNameRests$Term;" } : Jvm.MethodName)) ∈ lw_all := lw_g (lw_at lw_m2 210 rfl) rfl
theorem q553 : (Jvm.Cond.code ({ cls := "NameRests", name := "readAll", desc := "()LNameRests$Term;" } : Jvm.MethodName) prog_1_method_39_code (2 : Nat) (Option.some (Jvm.ClassFile.FieldType.object "NameRests$Term"))) ∈ lw_all := lw_g (lw_at lw_m2 211 rfl) rfl
theorem q554 : (Jvm.Cond.methodLink "NameRests" (296 : Nat) ({ cls := "NameRests", name := "readLike", desc := "()LNameRests$Term;" } : Jvm.MethodName)) ∈ lw_all := lw_g (lw_at lw_m2 212 rfl) rfl
theorem q555 : (Jvm.Cond.privateMethod ({ cls := "NameRests", name := "readLike", desc := "()LNameRests$Term;" } : Jvm.MethodName)) ∈ lw_tbl := lw_at lw_m2 213 rfl
theorem q556 : (Jvm.Cond.instanceMethod ({ cls := "NameRests", name := "readLike", desc := "()LNameRests$Term;" } : Jvm.MethodName)) ∈ lw_all := lw_g (lw_at lw_m2 214 rfl) rfl
theorem q557 : (Jvm.Cond.code ({ cls := "NameRests", name := "readLike", desc := "()LNameRests$Term;" } : Jvm.MethodName) prog_1_method_38_code (3 : Nat) (Option.some (Jvm.ClassFile.FieldType.object "NameRests$Term"))) ∈ lw_all := lw_g (lw_at lw_m2 215 rfl) rfl
theorem q558 : (Jvm.Cond.methodLink "NameRests" (293 : Nat) ({ cls := "NameRests", name := "readPlus", desc := "()LNameRests$Term;" } : Jvm.MethodName)) ∈ lw_all := lw_g (lw_at lw_m2 216 rfl) rfl
theorem q559 : (Jvm.Cond.privateMethod ({ cls := "NameRests", name := "readPlus", desc := "()LNameRests$Term;" } : Jvm.MethodName)) ∈ lw_tbl := lw_at lw_m2 217 rfl
theorem q560 : (Jvm.Cond.instanceMethod ({ cls := "NameRests", name := "readPlus", desc := "()LNameRests$Term;" } : Jvm.MethodName)) ∈ lw_all := lw_g (lw_at lw_m2 218 rfl) rfl
theorem q561 : (Jvm.Cond.code ({ cls := "NameRests", name := "readPlus", desc := "()LNameRests$Term;" } : Jvm.MethodName) prog_1_method_37_code (3 : Nat) (Option.some (Jvm.ClassFile.FieldType.object "NameRests$Term"))) ∈ lw_all := lw_g (lw_at lw_m2 219 rfl) rfl
theorem q562 : (Jvm.Cond.methodLink "NameRests" (290 : Nat) ({ cls := "NameRests", name := "readTimes", desc := "()LNameRests$Term;" } : Jvm.MethodName)) ∈ lw_all := lw_g (lw_at lw_m2 220 rfl) rfl
theorem q563 : (Jvm.Cond.privateMethod ({ cls := "NameRests", name := "readTimes", desc := "()LNameRests$Term;" } : Jvm.MethodName)) ∈ lw_tbl := lw_at lw_m2 221 rfl
theorem q564 : (Jvm.Cond.instanceMethod ({ cls := "NameRests", name := "readTimes", desc := "()LNameRests$Term;" } : Jvm.MethodName)) ∈ lw_all := lw_g (lw_at lw_m2 222 rfl) rfl
theorem q565 : (Jvm.Cond.code ({ cls := "NameRests", name := "readTimes", desc := "()LNameRests$Term;" } : Jvm.MethodName) prog_1_method_36_code (3 : Nat) (Option.some (Jvm.ClassFile.FieldType.object "NameRests$Term"))) ∈ lw_all := lw_g (lw_at lw_m2 223 rfl) rfl
theorem q566 : (Jvm.Cond.methodLink "NameRests" (276 : Nat) ({ cls := "NameRests", name := "readOne", desc := "()LNameRests$Term;" } : Jvm.MethodName)) ∈ lw_all := lw_g (lw_at lw_m2 224 rfl) rfl
theorem q567 : (Jvm.Cond.privateMethod ({ cls := "NameRests", name := "readOne", desc := "()LNameRests$Term;" } : Jvm.MethodName)) ∈ lw_tbl := lw_at lw_m2 225 rfl
theorem q568 : (Jvm.Cond.instanceMethod ({ cls := "NameRests", name := "readOne", desc := "()LNameRests$Term;" } : Jvm.MethodName)) ∈ lw_all := lw_g (lw_at lw_m2 226 rfl) rfl
theorem q569 : (Jvm.Cond.code ({ cls := "NameRests", name := "readOne", desc := "()LNameRests$Term;" } : Jvm.MethodName) prog_1_method_35_code (4 : Nat) (Option.some (Jvm.ClassFile.FieldType.object "NameRests$Term"))) ∈ lw_all := lw_g (lw_at lw_m2 227 rfl) rfl
theorem q570 : (Jvm.Cond.methodLink "NameRests" (250 : Nat) ({ cls := "NameRests", name := "isDigit", desc := "()Z" } : Jvm.MethodName)) ∈ lw_all := lw_g (lw_at lw_m2 228 rfl) rfl
theorem q571 : (Jvm.Cond.privateMethod ({ cls := "NameRests", name := "isDigit", desc := "()Z" } : Jvm.MethodName)) ∈ lw_tbl := lw_at lw_m2 229 rfl
theorem q572 : (Jvm.Cond.instanceMethod ({ cls := "NameRests", name := "isDigit", desc := "()Z" } : Jvm.MethodName)) ∈ lw_all := lw_g (lw_at lw_m2 230 rfl) rfl
theorem q573 : (Jvm.Cond.code ({ cls := "NameRests", name := "isDigit", desc := "()Z" } : Jvm.MethodName) prog_1_method_13_code (1 : Nat) (Option.some Jvm.ClassFile.FieldType.boolean)) ∈ lw_all := lw_g (lw_at lw_m2 231 rfl) rfl
theorem q574 : (Jvm.Cond.methodLink "NameRests" (122 : Nat) ({ cls := "NameRests", name := "peek", desc := "()I" } : Jvm.MethodName)) ∈ lw_all := lw_g (lw_at lw_m2 232 rfl) rfl
theorem q575 : (Jvm.Cond.privateMethod ({ cls := "NameRests", name := "peek", desc := "()I" } : Jvm.MethodName)) ∈ lw_tbl := lw_at lw_m2 233 rfl
theorem q576 : (Jvm.Cond.instanceMethod ({ cls := "NameRests", name := "peek", desc := "()I" } : Jvm.MethodName)) ∈ lw_all := lw_g (lw_at lw_m2 234 rfl) rfl
theorem q577 : (Jvm.Cond.code ({ cls := "NameRests", name := "peek", desc := "()I" } : Jvm.MethodName) prog_1_method_10_code (1 : Nat) (Option.some Jvm.ClassFile.FieldType.int)) ∈ lw_all := lw_g (lw_at lw_m2 235 rfl) rfl
theorem q578 : (Jvm.Cond.constantLong "NameRests" (130 : Nat) (48 : Int64)) ∈ lw_all := lw_g (lw_at lw_m2 236 rfl) rfl
theorem q579 : (Jvm.Cond.constantLong "NameRests" (132 : Nat) (57 : Int64)) ∈ lw_all := lw_g (lw_at lw_m2 237 rfl) rfl
theorem q580 : (Jvm.Cond.classLink "NameRests" (254 : Nat) "NameRests$Figure") ∈ lw_all := lw_g (lw_at lw_m2 238 rfl) rfl
theorem q582 : (Jvm.Cond.methodLink "NameRests" (256 : Nat) ({ cls := "NameRests$Figure", name := "<init>", desc := "(I)V" } : Jvm.MethodName)) ∈ lw_all := lw_g (lw_at lw_m3 0 rfl) rfl
theorem q593 : (Jvm.Cond.methodLink "NameRests" (259 : Nat) ({ cls := "NameRests", name := "nameOf", desc := "(I)I" } : Jvm.MethodName)) ∈ lw_all := lw_g (lw_at lw_m3 11 rfl) rfl
theorem q594 : (Jvm.Cond.static ({ cls := "NameRests", name := "nameOf", desc := "(I)I" } : Jvm.MethodName)) ∈ lw_all := lw_g (lw_at lw_m3 12 rfl) rfl
theorem q595 : (Jvm.Cond.code ({ cls := "NameRests", name := "nameOf", desc := "(I)I" } : Jvm.MethodName) prog_1_method_34_code (1 : Nat) (Option.some Jvm.ClassFile.FieldType.int)) ∈ lw_all := lw_g (lw_at lw_m3 13 rfl) rfl
theorem q596 : (Jvm.Cond.classLink "NameRests" (262 : Nat) "NameRests$Named") ∈ lw_all := lw_g (lw_at lw_m3 14 rfl) rfl
theorem q598 : (Jvm.Cond.methodLink "NameRests" (264 : Nat) ({ cls := "NameRests$Named", name := "<init>", desc := "(LNameRests;I)V" } : Jvm.MethodName)) ∈ lw_all := lw_g (lw_at lw_m3 16 rfl) rfl
theorem q609 : (Jvm.Cond.classLink "NameRests" (274 : Nat) "NameRests$Signed") ∈ lw_all := lw_g (lw_at lw_m3 27 rfl) rfl
theorem q611 : (Jvm.Cond.methodLink "NameRests" (279 : Nat) ({ cls := "NameRests$Signed", name := "<init>", desc := "(ILNameRests$Term;)V" } : Jvm.MethodName)) ∈ lw_all := lw_g (lw_at lw_m3 29 rfl) rfl
theorem q622 : (Jvm.Cond.methodLink "NameRests" (282 : Nat) ({ cls := "NameRests", name := "expect", desc := "(I)V" } : Jvm.MethodName)) ∈ lw_all := lw_g (lw_at lw_m3 40 rfl) rfl
theorem q623 : (Jvm.Cond.privateMethod ({ cls := "NameRests", name := "expect", desc := "(I)V" } : Jvm.MethodName)) ∈ lw_tbl := lw_at lw_m3 41 rfl
theorem q624 : (Jvm.Cond.instanceMethod ({ cls := "NameRests", name := "expect", desc := "(I)V" } : Jvm.MethodName)) ∈ lw_all := lw_g (lw_at lw_m3 42 rfl) rfl
theorem q625 : (Jvm.Cond.code ({ cls := "NameRests", name := "expect", desc := "(I)V" } : Jvm.MethodName) prog_1_method_12_code (2 : Nat) (Option.none : Option Jvm.ClassFile.FieldType)) ∈ lw_all := lw_g (lw_at lw_m3 43 rfl) rfl
theorem q626 : (Jvm.Cond.methodLink "NameRests" (126 : Nat) ({ cls := "NameRests", name := "take", desc := "(I)Z" } : Jvm.MethodName)) ∈ lw_all := lw_g (lw_at lw_m3 44 rfl) rfl
theorem q627 : (Jvm.Cond.privateMethod ({ cls := "NameRests", name := "take", desc := "(I)Z" } : Jvm.MethodName)) ∈ lw_tbl := lw_at lw_m3 45 rfl
theorem q628 : (Jvm.Cond.instanceMethod ({ cls := "NameRests", name := "take", desc := "(I)Z" } : Jvm.MethodName)) ∈ lw_all := lw_g (lw_at lw_m3 46 rfl) rfl
theorem q629 : (Jvm.Cond.code ({ cls := "NameRests", name := "take", desc := "(I)Z" } : Jvm.MethodName) prog_1_method_11_code (2 : Nat) (Option.some Jvm.ClassFile.FieldType.boolean)) ∈ lw_all := lw_g (lw_at lw_m3 47 rfl) rfl
theorem q630 : (Jvm.Cond.classLink "NameRests" (285 : Nat) "NameRests$Both") ∈ lw_all := lw_g (lw_at lw_m3 48 rfl) rfl
theorem q632 : (Jvm.Cond.methodLink "NameRests" (287 : Nat) ({ cls := "NameRests$Both", name := "<init>", desc := "(ILNameRests$Term;LNameRests$Term;)V" } : Jvm.MethodName)) ∈ lw_all := lw_g (lw_at lw_m3 50 rfl) rfl
theorem q647 : (Jvm.Cond.instanceMethod ({ cls := "NameRests", name := "knows", desc := "(II)I" } : Jvm.MethodName)) ∈ lw_all := lw_g (lw_at lw_m3 65 rfl) rfl
theorem q648 : (Jvm.Cond.selects "NameRests" ({ cls := "NameRests", name := "knows", desc := "(II)I" } : Jvm.MethodName) ({ cls := "NameRests", name := "knows", desc := "(II)I" } : Jvm.MethodName)) ∈ lw_all := lw_g (lw_at lw_m3 66 rfl) rfl
theorem q649 : (Jvm.Cond.code ({ cls := "NameRests", name := "knows", desc := "(II)I" } : Jvm.MethodName) prog_1_method_47_code (3 : Nat) (Option.some Jvm.ClassFile.FieldType.int)) ∈ lw_all := lw_g (lw_at lw_m3 67 rfl) rfl
theorem q650 : (Jvm.Cond.methodLink "NameRests" (342 : Nat) ({ cls := "NameRests", name := "knowUpTo", desc := "(II)V" } : Jvm.MethodName)) ∈ lw_all := lw_g (lw_at lw_m3 68 rfl) rfl
theorem q651 : (Jvm.Cond.privateMethod ({ cls := "NameRests", name := "knowUpTo", desc := "(II)V" } : Jvm.MethodName)) ∈ lw_tbl := lw_at lw_m3 69 rfl
theorem q652 : (Jvm.Cond.instanceMethod ({ cls := "NameRests", name := "knowUpTo", desc := "(II)V" } : Jvm.MethodName)) ∈ lw_all := lw_g (lw_at lw_m3 70 rfl) rfl
theorem q653 : (Jvm.Cond.code ({ cls := "NameRests", name := "knowUpTo", desc := "(II)V" } : Jvm.MethodName) prog_1_method_46_code (8 : Nat) (Option.none : Option Jvm.ClassFile.FieldType)) ∈ lw_all := lw_g (lw_at lw_m3 71 rfl) rfl
theorem q654 : (Jvm.Cond.methodLink "NameRests" (339 : Nat) ({ cls := "NameRests", name := "isIn", desc := "(II)Z" } : Jvm.MethodName)) ∈ lw_all := lw_g (lw_at lw_m3 72 rfl) rfl
theorem q655 : (Jvm.Cond.static ({ cls := "NameRests", name := "isIn", desc := "(II)Z" } : Jvm.MethodName)) ∈ lw_all := lw_g (lw_at lw_m3 73 rfl) rfl
theorem q656 : (Jvm.Cond.code ({ cls := "NameRests", name := "isIn", desc := "(II)Z" } : Jvm.MethodName) prog_1_method_4_code (2 : Nat) (Option.some Jvm.ClassFile.FieldType.boolean)) ∈ lw_all := lw_g (lw_at lw_m3 74 rfl) rfl
theorem q658 : (Jvm.Cond.instanceMethod ({ cls := "NameRests", name := "held", desc := "(III)I" } : Jvm.MethodName)) ∈ lw_all := lw_g (lw_at lw_m3 76 rfl) rfl
theorem q659 : (Jvm.Cond.selects "NameRests" ({ cls := "NameRests", name := "held", desc := "(III)I" } : Jvm.MethodName) ({ cls := "NameRests", name := "held", desc := "(III)I" } : Jvm.MethodName)) ∈ lw_all := lw_g (lw_at lw_m3 77 rfl) rfl
theorem q660 : (Jvm.Cond.code ({ cls := "NameRests", name := "held", desc := "(III)I" } : Jvm.MethodName) prog_1_method_54_code (4 : Nat) (Option.some Jvm.ClassFile.FieldType.int)) ∈ lw_all := lw_g (lw_at lw_m3 78 rfl) rfl
theorem q661 : (Jvm.Cond.methodLink "NameRests" (361 : Nat) ({ cls := "NameRests", name := "asNamed", desc := "()V" } : Jvm.MethodName)) ∈ lw_all := lw_g (lw_at lw_m3 79 rfl) rfl
theorem q662 : (Jvm.Cond.privateMethod ({ cls := "NameRests", name := "asNamed", desc := "()V" } : Jvm.MethodName)) ∈ lw_tbl := lw_at lw_m3 80 rfl
theorem q663 : (Jvm.Cond.instanceMethod ({ cls := "NameRests", name := "asNamed", desc := "()V" } : Jvm.MethodName)) ∈ lw_all := lw_g (lw_at lw_m3 81 rfl) rfl
theorem q664 : (Jvm.Cond.code ({ cls := "NameRests", name := "asNamed", desc := "()V" } : Jvm.MethodName) prog_1_method_48_code (2 : Nat) (Option.none : Option Jvm.ClassFile.FieldType)) ∈ lw_all := lw_g (lw_at lw_m3 82 rfl) rfl
theorem q665 : (Jvm.Cond.methodLink "NameRests" (364 : Nat) ({ cls := "NameRests", name := "tillOf", desc := "(II)I" } : Jvm.MethodName)) ∈ lw_all := lw_g (lw_at lw_m3 83 rfl) rfl
theorem q666 : (Jvm.Cond.privateMethod ({ cls := "NameRests", name := "tillOf", desc := "(II)I" } : Jvm.MethodName)) ∈ lw_tbl := lw_at lw_m3 84 rfl
theorem q667 : (Jvm.Cond.instanceMethod ({ cls := "NameRests", name := "tillOf", desc := "(II)I" } : Jvm.MethodName)) ∈ lw_all := lw_g (lw_at lw_m3 85 rfl) rfl
theorem q668 : (Jvm.Cond.code ({ cls := "NameRests", name := "tillOf", desc := "(II)I" } : Jvm.MethodName) prog_1_method_53_code (4 : Nat) (Option.some Jvm.ClassFile.FieldType.int)) ∈ lw_all := lw_g (lw_at lw_m3 86 rfl) rfl
theorem q669 : (Jvm.Cond.methodLink "NameRests" (358 : Nat) ({ cls := "NameRests", name := "isHeld", desc := "(II)Z" } : Jvm.MethodName)) ∈ lw_all := lw_g (lw_at lw_m3 87 rfl) rfl
theorem q670 : (Jvm.Cond.privateMethod ({ cls := "NameRests", name := "isHeld", desc := "(II)Z" } : Jvm.MethodName)) ∈ lw_tbl := lw_at lw_m3 88 rfl
theorem q671 : (Jvm.Cond.instanceMethod ({ cls := "NameRests", name := "isHeld", desc := "(II)Z" } : Jvm.MethodName)) ∈ lw_all := lw_g (lw_at lw_m3 89 rfl) rfl
theorem q672 : (Jvm.Cond.code ({ cls := "NameRests", name := "isHeld", desc := "(II)Z" } : Jvm.MethodName) prog_1_method_52_code (3 : Nat) (Option.some Jvm.ClassFile.FieldType.boolean)) ∈ lw_all := lw_g (lw_at lw_m3 90 rfl) rfl
theorem q673 : (Jvm.Cond.methodLink "NameRests" (352 : Nat) ({ cls := "NameRests", name := "isFamed", desc := "(II)Z" } : Jvm.MethodName)) ∈ lw_all := lw_g (lw_at lw_m3 91 rfl) rfl
theorem q674 : (Jvm.Cond.privateMethod ({ cls := "NameRests", name := "isFamed", desc := "(II)Z" } : Jvm.MethodName)) ∈ lw_tbl := lw_at lw_m3 92 rfl
theorem q675 : (Jvm.Cond.instanceMethod ({ cls := "NameRests", name := "isFamed", desc := "(II)Z" } : Jvm.MethodName)) ∈ lw_all := lw_g (lw_at lw_m3 93 rfl) rfl
theorem q676 : (Jvm.Cond.code ({ cls := "NameRests", name := "isFamed", desc := "(II)Z" } : Jvm.MethodName) prog_1_method_51_code (4 : Nat) (Option.some Jvm.ClassFile.FieldType.boolean)) ∈ lw_all := lw_g (lw_at lw_m3 94 rfl) rfl
theorem q677 : (Jvm.Cond.methodLink "NameRests" (355 : Nat) ({ cls := "NameRests", name := "holders", desc := "(II)I" } : Jvm.MethodName)) ∈ lw_all := lw_g (lw_at lw_m3 95 rfl) rfl
theorem q678 : (Jvm.Cond.privateMethod ({ cls := "NameRests", name := "holders", desc := "(II)I" } : Jvm.MethodName)) ∈ lw_tbl := lw_at lw_m3 96 rfl
theorem q679 : (Jvm.Cond.instanceMethod ({ cls := "NameRests", name := "holders", desc := "(II)I" } : Jvm.MethodName)) ∈ lw_all := lw_g (lw_at lw_m3 97 rfl) rfl
theorem q680 : (Jvm.Cond.code ({ cls := "NameRests", name := "holders", desc := "(II)I" } : Jvm.MethodName) prog_1_method_50_code (5 : Nat) (Option.some Jvm.ClassFile.FieldType.int)) ∈ lw_all := lw_g (lw_at lw_m3 98 rfl) rfl
theorem q681 : (Jvm.Cond.methodLink "NameRests" (349 : Nat) ({ cls := "NameRests", name := "doesHold", desc := "(III)Z" } : Jvm.MethodName)) ∈ lw_all := lw_g (lw_at lw_m3 99 rfl) rfl
theorem q682 : (Jvm.Cond.privateMethod ({ cls := "NameRests", name := "doesHold", desc := "(III)Z" } : Jvm.MethodName)) ∈ lw_tbl := lw_at lw_m3 100 rfl
theorem q683 : (Jvm.Cond.instanceMethod ({ cls := "NameRests", name := "doesHold", desc := "(III)Z" } : Jvm.MethodName)) ∈ lw_all := lw_g (lw_at lw_m3 101 rfl) rfl
theorem q684 : (Jvm.Cond.code ({ cls := "NameRests", name := "doesHold", desc := "(III)Z" } : Jvm.MethodName) prog_1_method_49_code (5 : Nat) (Option.some Jvm.ClassFile.FieldType.boolean)) ∈ lw_all := lw_g (lw_at lw_m3 102 rfl) rfl
theorem q685 : (Jvm.Cond.methodLink "NameRests" (345 : Nat) ({ cls := "NameRests", name := "holdsFor", desc := "(IIII)Z" } : Jvm.MethodName)) ∈ lw_all := lw_g (lw_at lw_m3 103 rfl) rfl
theorem q686 : (Jvm.Cond.privateMethod ({ cls := "NameRests", name := "holdsFor", desc := "(IIII)Z" } : Jvm.MethodName)) ∈ lw_tbl := lw_at lw_m3 104 rfl
theorem q687 : (Jvm.Cond.instanceMethod ({ cls := "NameRests", name := "holdsFor", desc := "(IIII)Z" } : Jvm.MethodName)) ∈ lw_all := lw_g (lw_at lw_m3 105 rfl) rfl
theorem q688 : (Jvm.Cond.code ({ cls := "NameRests", name := "holdsFor", desc := "(IIII)Z" } : Jvm.MethodName) prog_1_method_45_code (6 : Nat) (Option.some Jvm.ClassFile.FieldType.boolean)) ∈ lw_all := lw_g (lw_at lw_m3 106 rfl) rfl
theorem q689 : (Jvm.Cond.methodLink "NameRests" (331 : Nat) ({ cls := "java/lang/Math", name := "max", desc := "(II)I" } : Jvm.MethodName)) ∈ lw_all := lw_g (lw_at lw_m3 107 rfl) rfl
theorem q692 : (Jvm.Cond.methodLink "NameRests" (336 : Nat) ({ cls := "NameRests", name := "ruled", desc := "()Z" } : Jvm.MethodName)) ∈ lw_all := lw_g (lw_at lw_m3 110 rfl) rfl
theorem q693 : (Jvm.Cond.privateMethod ({ cls := "NameRests", name := "ruled", desc := "()Z" } : Jvm.MethodName)) ∈ lw_tbl := lw_at lw_m3 111 rfl
theorem q694 : (Jvm.Cond.instanceMethod ({ cls := "NameRests", name := "ruled", desc := "()Z" } : Jvm.MethodName)) ∈ lw_all := lw_g (lw_at lw_m3 112 rfl) rfl
theorem q695 : (Jvm.Cond.code ({ cls := "NameRests", name := "ruled", desc := "()Z" } : Jvm.MethodName) prog_1_method_44_code (2 : Nat) (Option.some Jvm.ClassFile.FieldType.boolean)) ∈ lw_all := lw_g (lw_at lw_m3 113 rfl) rfl
theorem q696 : (Jvm.Cond.methodLink "NameRests" (326 : Nat) ({ cls := "NameRests$Term", name := "value", desc := "()I" } : Jvm.MethodName)) ∈ lw_all := lw_g (lw_at lw_m3 114 rfl) rfl
theorem q716 : (Jvm.Cond.instanceMethod ({ cls := "NameRests", name := "free", desc := "(I)I" } : Jvm.MethodName)) ∈ lw_all := lw_g (lw_at lw_m3 134 rfl) rfl
theorem q717 : (Jvm.Cond.selects "NameRests" ({ cls := "NameRests", name := "free", desc := "(I)I" } : Jvm.MethodName) ({ cls := "NameRests", name := "free", desc := "(I)I" } : Jvm.MethodName)) ∈ lw_all := lw_g (lw_at lw_m3 135 rfl) rfl
theorem q718 : (Jvm.Cond.code ({ cls := "NameRests", name := "free", desc := "(I)I" } : Jvm.MethodName) prog_1_method_56_code (2 : Nat) (Option.some Jvm.ClassFile.FieldType.int)) ∈ lw_all := lw_g (lw_at lw_m3 136 rfl) rfl
theorem q719 : (Jvm.Cond.methodLink "NameRests" (367 : Nat) ({ cls := "NameRests", name := "freeIn", desc := "(I)I" } : Jvm.MethodName)) ∈ lw_all := lw_g (lw_at lw_m3 137 rfl) rfl
theorem q720 : (Jvm.Cond.privateMethod ({ cls := "NameRests", name := "freeIn", desc := "(I)I" } : Jvm.MethodName)) ∈ lw_tbl := lw_at lw_m3 138 rfl
theorem q721 : (Jvm.Cond.instanceMethod ({ cls := "NameRests", name := "freeIn", desc := "(I)I" } : Jvm.MethodName)) ∈ lw_all := lw_g (lw_at lw_m3 139 rfl) rfl
theorem q722 : (Jvm.Cond.code ({ cls := "NameRests", name := "freeIn", desc := "(I)I" } : Jvm.MethodName) prog_1_method_55_code (4 : Nat) (Option.some Jvm.ClassFile.FieldType.int)) ∈ lw_all := lw_g (lw_at lw_m3 140 rfl) rfl
theorem q724 : (Jvm.Cond.instanceMethod ({ cls := "NameRests", name := "most", desc := "(I)I" } : Jvm.MethodName)) ∈ lw_all := lw_g (lw_at lw_m3 142 rfl) rfl
theorem q725 : (Jvm.Cond.selects "NameRests" ({ cls := "NameRests", name := "most", desc := "(I)I" } : Jvm.MethodName) ({ cls := "NameRests", name := "most", desc := "(I)I" } : Jvm.MethodName)) ∈ lw_all := lw_g (lw_at lw_m3 143 rfl) rfl
theorem q726 : (Jvm.Cond.code ({ cls := "NameRests", name := "most", desc := "(I)I" } : Jvm.MethodName) prog_1_method_57_code (6 : Nat) (Option.some Jvm.ClassFile.FieldType.int)) ∈ lw_all := lw_g (lw_at lw_m3 144 rfl) rfl
theorem q727 : (Jvm.Cond.methodLink "NameRests" (370 : Nat) ({ cls := "NameRests", name := "ones", desc := "(I)I" } : Jvm.MethodName)) ∈ lw_all := lw_g (lw_at lw_m3 145 rfl) rfl
theorem q728 : (Jvm.Cond.static ({ cls := "NameRests", name := "ones", desc := "(I)I" } : Jvm.MethodName)) ∈ lw_all := lw_g (lw_at lw_m3 146 rfl) rfl
theorem q729 : (Jvm.Cond.code ({ cls := "NameRests", name := "ones", desc := "(I)I" } : Jvm.MethodName) prog_1_method_3_code (3 : Nat) (Option.some Jvm.ClassFile.FieldType.int)) ∈ lw_all := lw_g (lw_at lw_m3 147 rfl) rfl
theorem q731 : (Jvm.Cond.instanceMethod ({ cls := "NameRests", name := "judge", desc := "()I" } : Jvm.MethodName)) ∈ lw_all := lw_g (lw_at lw_m3 149 rfl) rfl
theorem q732 : (Jvm.Cond.selects "NameRests" ({ cls := "NameRests", name := "judge", desc := "()I" } : Jvm.MethodName) ({ cls := "NameRests", name := "judge", desc := "()I" } : Jvm.MethodName)) ∈ lw_all := lw_g (lw_at lw_m3 150 rfl) rfl
theorem q733 : (Jvm.Cond.code ({ cls := "NameRests", name := "judge", desc := "()I" } : Jvm.MethodName) prog_1_method_60_code (3 : Nat) (Option.some Jvm.ClassFile.FieldType.int)) ∈ lw_all := lw_g (lw_at lw_m3 151 rfl) rfl
theorem q734 : (Jvm.Cond.methodLink "NameRests" (373 : Nat) ({ cls := "NameRests", name := "nobodyBears", desc := "()V" } : Jvm.MethodName)) ∈ lw_all := lw_g (lw_at lw_m3 152 rfl) rfl
theorem q735 : (Jvm.Cond.privateMethod ({ cls := "NameRests", name := "nobodyBears", desc := "()V" } : Jvm.MethodName)) ∈ lw_tbl := lw_at lw_m3 153 rfl
theorem q736 : (Jvm.Cond.instanceMethod ({ cls := "NameRests", name := "nobodyBears", desc := "()V" } : Jvm.MethodName)) ∈ lw_all := lw_g (lw_at lw_m3 154 rfl) rfl
theorem q737 : (Jvm.Cond.code ({ cls := "NameRests", name := "nobodyBears", desc := "()V" } : Jvm.MethodName) prog_1_method_58_code (2 : Nat) (Option.none : Option Jvm.ClassFile.FieldType)) ∈ lw_all := lw_g (lw_at lw_m3 155 rfl) rfl
theorem q739 : (Jvm.Cond.instanceMethod ({ cls := "NameRests", name := "give", desc := "(II)I" } : Jvm.MethodName)) ∈ lw_all := lw_g (lw_at lw_m3 157 rfl) rfl
theorem q740 : (Jvm.Cond.selects "NameRests" ({ cls := "NameRests", name := "give", desc := "(II)I" } : Jvm.MethodName) ({ cls := "NameRests", name := "give", desc := "(II)I" } : Jvm.MethodName)) ∈ lw_all := lw_g (lw_at lw_m3 158 rfl) rfl
theorem q741 : (Jvm.Cond.code ({ cls := "NameRests", name := "give", desc := "(II)I" } : Jvm.MethodName) prog_1_method_65_code (4 : Nat) (Option.some Jvm.ClassFile.FieldType.int)) ∈ lw_all := lw_g (lw_at lw_m3 159 rfl) rfl
theorem q742 : (Jvm.Cond.methodLink "NameRests" (383 : Nat) ({ cls := "NameRests", name := "isWay", desc := "(I)Z" } : Jvm.MethodName)) ∈ lw_all := lw_g (lw_at lw_m3 160 rfl) rfl
theorem q743 : (Jvm.Cond.static ({ cls := "NameRests", name := "isWay", desc := "(I)Z" } : Jvm.MethodName)) ∈ lw_all := lw_g (lw_at lw_m3 161 rfl) rfl
theorem q744 : (Jvm.Cond.code ({ cls := "NameRests", name := "isWay", desc := "(I)Z" } : Jvm.MethodName) prog_1_method_64_code (1 : Nat) (Option.some Jvm.ClassFile.FieldType.boolean)) ∈ lw_all := lw_g (lw_at lw_m3 162 rfl) rfl
theorem q745 : (Jvm.Cond.methodLink "NameRests" (386 : Nat) ({ cls := "NameRests", name := "asAheadOf", desc := "(I)V" } : Jvm.MethodName)) ∈ lw_all := lw_g (lw_at lw_m3 163 rfl) rfl
theorem q746 : (Jvm.Cond.privateMethod ({ cls := "NameRests", name := "asAheadOf", desc := "(I)V" } : Jvm.MethodName)) ∈ lw_tbl := lw_at lw_m3 164 rfl
theorem q747 : (Jvm.Cond.instanceMethod ({ cls := "NameRests", name := "asAheadOf", desc := "(I)V" } : Jvm.MethodName)) ∈ lw_all := lw_g (lw_at lw_m3 165 rfl) rfl
theorem q748 : (Jvm.Cond.code ({ cls := "NameRests", name := "asAheadOf", desc := "(I)V" } : Jvm.MethodName) prog_1_method_59_code (3 : Nat) (Option.none : Option Jvm.ClassFile.FieldType)) ∈ lw_all := lw_g (lw_at lw_m3 166 rfl) rfl
theorem q749 : (Jvm.Cond.methodLink "NameRests" (389 : Nat) ({ cls := "NameRests", name := "givenIn", desc := "(II)I" } : Jvm.MethodName)) ∈ lw_all := lw_g (lw_at lw_m3 167 rfl) rfl
theorem q750 : (Jvm.Cond.privateMethod ({ cls := "NameRests", name := "givenIn", desc := "(II)I" } : Jvm.MethodName)) ∈ lw_tbl := lw_at lw_m3 168 rfl
theorem q751 : (Jvm.Cond.instanceMethod ({ cls := "NameRests", name := "givenIn", desc := "(II)I" } : Jvm.MethodName)) ∈ lw_all := lw_g (lw_at lw_m3 169 rfl) rfl
theorem q752 : (Jvm.Cond.code ({ cls := "NameRests", name := "givenIn", desc := "(II)I" } : Jvm.MethodName) prog_1_method_63_code (8 : Nat) (Option.some Jvm.ClassFile.FieldType.int)) ∈ lw_all := lw_g (lw_at lw_m3 170 rfl) rfl
theorem q753 : (Jvm.Cond.methodLink "NameRests" (379 : Nat) ({ cls := "NameRests", name := "rank", desc := "(III)I" } : Jvm.MethodName)) ∈ lw_all := lw_g (lw_at lw_m3 171 rfl) rfl
theorem q754 : (Jvm.Cond.privateMethod ({ cls := "NameRests", name := "rank", desc := "(III)I" } : Jvm.MethodName)) ∈ lw_tbl := lw_at lw_m3 172 rfl
theorem q755 : (Jvm.Cond.instanceMethod ({ cls := "NameRests", name := "rank", desc := "(III)I" } : Jvm.MethodName)) ∈ lw_all := lw_g (lw_at lw_m3 173 rfl) rfl
theorem q756 : (Jvm.Cond.code ({ cls := "NameRests", name := "rank", desc := "(III)I" } : Jvm.MethodName) prog_1_method_62_code (4 : Nat) (Option.some Jvm.ClassFile.FieldType.int)) ∈ lw_all := lw_g (lw_at lw_m3 174 rfl) rfl
theorem q757 : (Jvm.Cond.methodLink "NameRests" (376 : Nat) ({ cls := "NameRests", name := "latestHeld", desc := "(II)I" } : Jvm.MethodName)) ∈ lw_all := lw_g (lw_at lw_m3 175 rfl) rfl
theorem q758 : (Jvm.Cond.privateMethod ({ cls := "NameRests", name := "latestHeld", desc := "(II)I" } : Jvm.MethodName)) ∈ lw_tbl := lw_at lw_m3 176 rfl
theorem q759 : (Jvm.Cond.instanceMethod ({ cls := "NameRests", name := "latestHeld", desc := "(II)I" } : Jvm.MethodName)) ∈ lw_all := lw_g (lw_at lw_m3 177 rfl) rfl
theorem q760 : (Jvm.Cond.code ({ cls := "NameRests", name := "latestHeld", desc := "(II)I" } : Jvm.MethodName) prog_1_method_61_code (4 : Nat) (Option.some Jvm.ClassFile.FieldType.int)) ∈ lw_all := lw_g (lw_at lw_m3 178 rfl) rfl
theorem q762 : (Jvm.Cond.instanceMethod ({ cls := "NameRests", name := "run", desc := "(II)I" } : Jvm.MethodName)) ∈ lw_all := lw_g (lw_at lw_m3 180 rfl) rfl
theorem q763 : (Jvm.Cond.selects "NameRests" ({ cls := "NameRests", name := "run", desc := "(II)I" } : Jvm.MethodName) ({ cls := "NameRests", name := "run", desc := "(II)I" } : Jvm.MethodName)) ∈ lw_all := lw_g (lw_at lw_m3 181 rfl) rfl
theorem q764 : (Jvm.Cond.code ({ cls := "NameRests", name := "run", desc := "(II)I" } : Jvm.MethodName) prog_1_method_68_code (3 : Nat) (Option.some Jvm.ClassFile.FieldType.int)) ∈ lw_all := lw_g (lw_at lw_m3 182 rfl) rfl
theorem q765 : (Jvm.Cond.methodLink "NameRests" (392 : Nat) ({ cls := "NameRests", name := "nameAll", desc := "(I)V" } : Jvm.MethodName)) ∈ lw_all := lw_g (lw_at lw_m3 183 rfl) rfl
theorem q766 : (Jvm.Cond.privateMethod ({ cls := "NameRests", name := "nameAll", desc := "(I)V" } : Jvm.MethodName)) ∈ lw_tbl := lw_at lw_m3 184 rfl
theorem q767 : (Jvm.Cond.instanceMethod ({ cls := "NameRests", name := "nameAll", desc := "(I)V" } : Jvm.MethodName)) ∈ lw_all := lw_g (lw_at lw_m3 185 rfl) rfl
theorem q768 : (Jvm.Cond.code ({ cls := "NameRests", name := "nameAll", desc := "(I)V" } : Jvm.MethodName) prog_1_method_66_code (4 : Nat) (Option.none : Option Jvm.ClassFile.FieldType)) ∈ lw_all := lw_g (lw_at lw_m3 186 rfl) rfl
theorem q770 : (Jvm.Cond.instanceMethod ({ cls := "NameRests", name := "used", desc := "(II)I" } : Jvm.MethodName)) ∈ lw_all := lw_g (lw_at lw_m3 188 rfl) rfl
theorem q771 : (Jvm.Cond.selects "NameRests" ({ cls := "NameRests", name := "used", desc := "(II)I" } : Jvm.MethodName) ({ cls := "NameRests", name := "used", desc := "(II)I" } : Jvm.MethodName)) ∈ lw_all := lw_g (lw_at lw_m3 189 rfl) rfl
theorem q772 : (Jvm.Cond.code ({ cls := "NameRests", name := "used", desc := "(II)I" } : Jvm.MethodName) prog_1_method_69_code (6 : Nat) (Option.some Jvm.ClassFile.FieldType.int)) ∈ lw_all := lw_g (lw_at lw_m3 190 rfl) rfl
theorem q773 : (Jvm.Cond.methodLink "NameRests" (395 : Nat) ({ cls := "NameRests", name := "namesUsed", desc := "()I" } : Jvm.MethodName)) ∈ lw_all := lw_g (lw_at lw_m3 191 rfl) rfl
theorem q774 : (Jvm.Cond.privateMethod ({ cls := "NameRests", name := "namesUsed", desc := "()I" } : Jvm.MethodName)) ∈ lw_tbl := lw_at lw_m3 192 rfl
theorem q775 : (Jvm.Cond.instanceMethod ({ cls := "NameRests", name := "namesUsed", desc := "()I" } : Jvm.MethodName)) ∈ lw_all := lw_g (lw_at lw_m3 193 rfl) rfl
theorem q776 : (Jvm.Cond.code ({ cls := "NameRests", name := "namesUsed", desc := "()I" } : Jvm.MethodName) prog_1_method_67_code (3 : Nat) (Option.some Jvm.ClassFile.FieldType.int)) ∈ lw_all := lw_g (lw_at lw_m3 194 rfl) rfl
theorem q778 : (Jvm.Cond.instanceMethod ({ cls := "NameRests", name := "apart", desc := "(II)I" } : Jvm.MethodName)) ∈ lw_all := lw_g (lw_at lw_m3 196 rfl) rfl
theorem q779 : (Jvm.Cond.selects "NameRests" ({ cls := "NameRests", name := "apart", desc := "(II)I" } : Jvm.MethodName) ({ cls := "NameRests", name := "apart", desc := "(II)I" } : Jvm.MethodName)) ∈ lw_all := lw_g (lw_at lw_m3 197 rfl) rfl
theorem q780 : (Jvm.Cond.code ({ cls := "NameRests", name := "apart", desc := "(II)I" } : Jvm.MethodName) prog_1_method_71_code (6 : Nat) (Option.some Jvm.ClassFile.FieldType.int)) ∈ lw_all := lw_g (lw_at lw_m3 198 rfl) rfl
theorem q781 : (Jvm.Cond.methodLink "NameRests" (398 : Nat) ({ cls := "NameRests", name := "isFreeWithout", desc := "(III)Z" } : Jvm.MethodName)) ∈ lw_all := lw_g (lw_at lw_m3 199 rfl) rfl
theorem q782 : (Jvm.Cond.privateMethod ({ cls := "NameRests", name := "isFreeWithout", desc := "(III)Z" } : Jvm.MethodName)) ∈ lw_tbl := lw_at lw_m3 200 rfl
theorem q783 : (Jvm.Cond.instanceMethod ({ cls := "NameRests", name := "isFreeWithout", desc := "(III)Z" } : Jvm.MethodName)) ∈ lw_all := lw_g (lw_at lw_m3 201 rfl) rfl
theorem q784 : (Jvm.Cond.code ({ cls := "NameRests", name := "isFreeWithout", desc := "(III)Z" } : Jvm.MethodName) prog_1_method_70_code (4 : Nat) (Option.some Jvm.ClassFile.FieldType.boolean)) ∈ lw_all := lw_g (lw_at lw_m3 202 rfl) rfl
theorem q786 : (Jvm.Cond.instanceMethod ({ cls := "NameRests", name := "freed", desc := "(II)I" } : Jvm.MethodName)) ∈ lw_all := lw_g (lw_at lw_m3 204 rfl) rfl
theorem q787 : (Jvm.Cond.selects "NameRests" ({ cls := "NameRests", name := "freed", desc := "(II)I" } : Jvm.MethodName) ({ cls := "NameRests", name := "freed", desc := "(II)I" } : Jvm.MethodName)) ∈ lw_all := lw_g (lw_at lw_m3 205 rfl) rfl
theorem q788 : (Jvm.Cond.code ({ cls := "NameRests", name := "freed", desc := "(II)I" } : Jvm.MethodName) prog_1_method_72_code (5 : Nat) (Option.some Jvm.ClassFile.FieldType.int)) ∈ lw_all := lw_g (lw_at lw_m3 206 rfl) rfl
theorem q790 : (Jvm.Cond.instanceMethod ({ cls := "NameRests", name := "never", desc := "(I)I" } : Jvm.MethodName)) ∈ lw_all := lw_g (lw_at lw_m3 208 rfl) rfl
theorem q791 : (Jvm.Cond.selects "NameRests" ({ cls := "NameRests", name := "never", desc := "(I)I" } : Jvm.MethodName) ({ cls := "NameRests", name := "never", desc := "(I)I" } : Jvm.MethodName)) ∈ lw_all := lw_g (lw_at lw_m3 209 rfl) rfl
theorem q792 : (Jvm.Cond.code ({ cls := "NameRests", name := "never", desc := "(I)I" } : Jvm.MethodName) prog_1_method_73_code (6 : Nat) (Option.some Jvm.ClassFile.FieldType.int)) ∈ lw_all := lw_g (lw_at lw_m3 210 rfl) rfl
theorem q794 : (Jvm.Cond.instanceMethod ({ cls := "NameRests", name := "needs", desc := "(III)I" } : Jvm.MethodName)) ∈ lw_all := lw_g (lw_at lw_m3 212 rfl) rfl
theorem q795 : (Jvm.Cond.selects "NameRests" ({ cls := "NameRests", name := "needs", desc := "(III)I" } : Jvm.MethodName) ({ cls := "NameRests", name := "needs", desc := "(III)I" } : Jvm.MethodName)) ∈ lw_all := lw_g (lw_at lw_m3 213 rfl) rfl
theorem q796 : (Jvm.Cond.code ({ cls := "NameRests", name := "needs", desc := "(III)I" } : Jvm.MethodName) prog_1_method_74_code (9 : Nat) (Option.some Jvm.ClassFile.FieldType.int)) ∈ lw_all := lw_g (lw_at lw_m3 214 rfl) rfl
theorem q797 : (Jvm.Cond.constant "NameRests" (401 : Nat) (1103515245 : Int32)) ∈ lw_all := lw_g (lw_at lw_m3 215 rfl) rfl
theorem q799 : (Jvm.Cond.instanceMethod ({ cls := "NameRests", name := "image", desc := "()I" } : Jvm.MethodName)) ∈ lw_all := lw_g (lw_at lw_m3 217 rfl) rfl
theorem q800 : (Jvm.Cond.selects "NameRests" ({ cls := "NameRests", name := "image", desc := "()I" } : Jvm.MethodName) ({ cls := "NameRests", name := "image", desc := "()I" } : Jvm.MethodName)) ∈ lw_all := lw_g (lw_at lw_m3 218 rfl) rfl
theorem q801 : (Jvm.Cond.code ({ cls := "NameRests", name := "image", desc := "()I" } : Jvm.MethodName) prog_1_method_75_code (2 : Nat) (Option.some Jvm.ClassFile.FieldType.int)) ∈ lw_all := lw_g (lw_at lw_m3 219 rfl) rfl
theorem q803 : (Jvm.Cond.instanceMethod ({ cls := "NameRests", name := "back", desc := "()I" } : Jvm.MethodName)) ∈ lw_all := lw_g (lw_at lw_m3 221 rfl) rfl
theorem q804 : (Jvm.Cond.selects "NameRests" ({ cls := "NameRests", name := "back", desc := "()I" } : Jvm.MethodName) ({ cls := "NameRests", name := "back", desc := "()I" } : Jvm.MethodName)) ∈ lw_all := lw_g (lw_at lw_m3 222 rfl) rfl
theorem q805 : (Jvm.Cond.code ({ cls := "NameRests", name := "back", desc := "()I" } : Jvm.MethodName) prog_1_method_76_code (2 : Nat) (Option.some Jvm.ClassFile.FieldType.int)) ∈ lw_all := lw_g (lw_at lw_m3 223 rfl) rfl
theorem q807 : (Jvm.Cond.instanceMethod ({ cls := "NameRests", name := "body", desc := "(I)I" } : Jvm.MethodName)) ∈ lw_all := lw_g (lw_at lw_m3 225 rfl) rfl
theorem q808 : (Jvm.Cond.selects "NameRests" ({ cls := "NameRests", name := "body", desc := "(I)I" } : Jvm.MethodName) ({ cls := "NameRests", name := "body", desc := "(I)I" } : Jvm.MethodName)) ∈ lw_all := lw_g (lw_at lw_m3 226 rfl) rfl
theorem q809 : (Jvm.Cond.code ({ cls := "NameRests", name := "body", desc := "(I)I" } : Jvm.MethodName) prog_1_method_79_code (2 : Nat) (Option.some Jvm.ClassFile.FieldType.int)) ∈ lw_all := lw_g (lw_at lw_m3 227 rfl) rfl
theorem q810 : (Jvm.Cond.constantLong "NameRests" (434 : Nat) (7 : Int64)) ∈ lw_all := lw_g (lw_at lw_m3 228 rfl) rfl
theorem q811 : (Jvm.Cond.methodLink "NameRests" (436 : Nat) ({ cls := "NameRests", name := "made", desc := "(I)LNameRests$Body;" } : Jvm.MethodName)) ∈ lw_all := lw_g (lw_at lw_m3 229 rfl) rfl
theorem q812 : (Jvm.Cond.privateMethod ({ cls := "NameRests", name := "made", desc := "(I)LNameRests$Body;" } : Jvm.MethodName)) ∈ lw_tbl := lw_at lw_m3 230 rfl
theorem q813 : (Jvm.Cond.instanceMethod ({ cls := "NameRests", name := "made", desc := "(I)LNameRests$Body;" } : Jvm.MethodName)) ∈ lw_all := lw_g (lw_at lw_m3 231 rfl) rfl
theorem q814 : (Jvm.Cond.code ({ cls := "NameRests", name := "made", desc := "(I)LNameRests$Body;" } : Jvm.MethodName) prog_1_method_78_code (2 : Nat) (Option.some (Jvm.ClassFile.FieldType.object "NameRests$Body"))) ∈ lw_all := lw_g (lw_at lw_m3 232 rfl) rfl
theorem q815 : (Jvm.Cond.classLink "NameRests" (412 : Nat) "NameRests$First") ∈ lw_all := lw_g (lw_at lw_m3 233 rfl) rfl
theorem q817 : (Jvm.Cond.methodLink "NameRests" (414 : Nat) ({ cls := "NameRests$First", name := "<init>", desc := "(LNameRests;I)V" } : Jvm.MethodName)) ∈ lw_all := lw_g (lw_at lw_m3 235 rfl) rfl
theorem q834 : (Jvm.Cond.classLink "NameRests" (415 : Nat) "NameRests$Soon") ∈ lw_all := lw_g (lw_at lw_m4 12 rfl) rfl
theorem q836 : (Jvm.Cond.methodLink "NameRests" (417 : Nat) ({ cls := "NameRests$Soon", name := "<init>", desc := "(LNameRests;I)V" } : Jvm.MethodName)) ∈ lw_all := lw_g (lw_at lw_m4 14 rfl) rfl
theorem q846 : (Jvm.Cond.classLink "NameRests" (418 : Nat) "NameRests$Wish") ∈ lw_all := lw_g (lw_at lw_m4 24 rfl) rfl
theorem q848 : (Jvm.Cond.methodLink "NameRests" (420 : Nat) ({ cls := "NameRests$Wish", name := "<init>", desc := "(LNameRests;I)V" } : Jvm.MethodName)) ∈ lw_all := lw_g (lw_at lw_m4 26 rfl) rfl
theorem q859 : (Jvm.Cond.classLink "NameRests" (421 : Nat) "NameRests$Blind") ∈ lw_all := lw_g (lw_at lw_m4 37 rfl) rfl
theorem q861 : (Jvm.Cond.methodLink "NameRests" (423 : Nat) ({ cls := "NameRests$Blind", name := "<init>", desc := "(LNameRests;I)V" } : Jvm.MethodName)) ∈ lw_all := lw_g (lw_at lw_m4 39 rfl) rfl
theorem q872 : (Jvm.Cond.classLink "NameRests" (424 : Nat) "NameRests$Best") ∈ lw_all := lw_g (lw_at lw_m4 50 rfl) rfl
theorem q874 : (Jvm.Cond.methodLink "NameRests" (426 : Nat) ({ cls := "NameRests$Best", name := "<init>", desc := "(LNameRests;I)V" } : Jvm.MethodName)) ∈ lw_all := lw_g (lw_at lw_m4 52 rfl) rfl
theorem q886 : (Jvm.Cond.classLink "NameRests" (427 : Nat) "NameRests$Told") ∈ lw_all := lw_g (lw_at lw_m4 64 rfl) rfl
theorem q888 : (Jvm.Cond.methodLink "NameRests" (429 : Nat) ({ cls := "NameRests$Told", name := "<init>", desc := "(LNameRests;I)V" } : Jvm.MethodName)) ∈ lw_all := lw_g (lw_at lw_m4 66 rfl) rfl
theorem q898 : (Jvm.Cond.classLink "NameRests" (430 : Nat) "NameRests$Hermit") ∈ lw_all := lw_g (lw_at lw_m4 76 rfl) rfl
theorem q900 : (Jvm.Cond.methodLink "NameRests" (432 : Nat) ({ cls := "NameRests$Hermit", name := "<init>", desc := "(LNameRests;I)V" } : Jvm.MethodName)) ∈ lw_all := lw_g (lw_at lw_m4 78 rfl) rfl
theorem q912 : (Jvm.Cond.methodLink "NameRests" (433 : Nat) ({ cls := "NameRests$Body", name := "<init>", desc := "(LNameRests;I)V" } : Jvm.MethodName)) ∈ lw_all := lw_g (lw_at lw_m4 90 rfl) rfl
theorem q917 : (Jvm.Cond.instanceMethod ({ cls := "NameRests", name := "act", desc := "(III)I" } : Jvm.MethodName)) ∈ lw_all := lw_g (lw_at lw_m4 95 rfl) rfl
theorem q918 : (Jvm.Cond.selects "NameRests" ({ cls := "NameRests", name := "act", desc := "(III)I" } : Jvm.MethodName) ({ cls := "NameRests", name := "act", desc := "(III)I" } : Jvm.MethodName)) ∈ lw_all := lw_g (lw_at lw_m4 96 rfl) rfl
theorem q919 : (Jvm.Cond.code ({ cls := "NameRests", name := "act", desc := "(III)I" } : Jvm.MethodName) prog_1_method_80_code (5 : Nat) (Option.some Jvm.ClassFile.FieldType.int)) ∈ lw_all := lw_g (lw_at lw_m4 97 rfl) rfl
theorem q920 : (Jvm.Cond.methodLink "NameRests" (443 : Nat) ({ cls := "NameRests", name := "isBody", desc := "(I)Z" } : Jvm.MethodName)) ∈ lw_all := lw_g (lw_at lw_m4 98 rfl) rfl
theorem q921 : (Jvm.Cond.privateMethod ({ cls := "NameRests", name := "isBody", desc := "(I)Z" } : Jvm.MethodName)) ∈ lw_tbl := lw_at lw_m4 99 rfl
theorem q922 : (Jvm.Cond.instanceMethod ({ cls := "NameRests", name := "isBody", desc := "(I)Z" } : Jvm.MethodName)) ∈ lw_all := lw_g (lw_at lw_m4 100 rfl) rfl
theorem q923 : (Jvm.Cond.code ({ cls := "NameRests", name := "isBody", desc := "(I)Z" } : Jvm.MethodName) prog_1_method_77_code (2 : Nat) (Option.some Jvm.ClassFile.FieldType.boolean)) ∈ lw_all := lw_g (lw_at lw_m4 101 rfl) rfl
theorem q1009 : (Jvm.Cond.methodLink "NameRests" (449 : Nat) ({ cls := "NameRests$Body", name := "holds", desc := "(I)I" } : Jvm.MethodName)) ∈ lw_all := lw_g (lw_at lw_m4 187 rfl) rfl
theorem q1048 : (Jvm.Cond.methodLink "NameRests" (452 : Nat) ({ cls := "NameRests$Body", name := "knows", desc := "(I)I" } : Jvm.MethodName)) ∈ lw_all := lw_g (lw_at lw_m4 226 rfl) rfl
theorem q1146 : (Jvm.Cond.instanceMethod ({ cls := "NameRests", name := "trace", desc := "(I)I" } : Jvm.MethodName)) ∈ lw_all := lw_g (lw_at lw_m5 84 rfl) rfl
theorem q1147 : (Jvm.Cond.selects "NameRests" ({ cls := "NameRests", name := "trace", desc := "(I)I" } : Jvm.MethodName) ({ cls := "NameRests", name := "trace", desc := "(I)I" } : Jvm.MethodName)) ∈ lw_all := lw_g (lw_at lw_m5 85 rfl) rfl
theorem q1148 : (Jvm.Cond.code ({ cls := "NameRests", name := "trace", desc := "(I)I" } : Jvm.MethodName) prog_1_method_81_code (2 : Nat) (Option.some Jvm.ClassFile.FieldType.int)) ∈ lw_all := lw_g (lw_at lw_m5 86 rfl) rfl
theorem q1149 : (Jvm.Cond.methodLink "NameRests" (458 : Nat) ({ cls := "java/lang/Math", name := "min", desc := "(II)I" } : Jvm.MethodName)) ∈ lw_all := lw_g (lw_at lw_m5 87 rfl) rfl
theorem q1153 : (Jvm.Cond.instanceMethod ({ cls := "NameRests", name := "keep", desc := "(II)I" } : Jvm.MethodName)) ∈ lw_all := lw_g (lw_at lw_m5 91 rfl) rfl
theorem q1154 : (Jvm.Cond.selects "NameRests" ({ cls := "NameRests", name := "keep", desc := "(II)I" } : Jvm.MethodName) ({ cls := "NameRests", name := "keep", desc := "(II)I" } : Jvm.MethodName)) ∈ lw_all := lw_g (lw_at lw_m5 92 rfl) rfl
theorem q1155 : (Jvm.Cond.code ({ cls := "NameRests", name := "keep", desc := "(II)I" } : Jvm.MethodName) prog_1_method_83_code (3 : Nat) (Option.some Jvm.ClassFile.FieldType.int)) ∈ lw_all := lw_g (lw_at lw_m5 93 rfl) rfl
theorem q1157 : (Jvm.Cond.instanceMethod ({ cls := "NameRests", name := "row", desc := "(III)I" } : Jvm.MethodName)) ∈ lw_all := lw_g (lw_at lw_m5 95 rfl) rfl
theorem q1158 : (Jvm.Cond.selects "NameRests" ({ cls := "NameRests", name := "row", desc := "(III)I" } : Jvm.MethodName) ({ cls := "NameRests", name := "row", desc := "(III)I" } : Jvm.MethodName)) ∈ lw_all := lw_g (lw_at lw_m5 96 rfl) rfl
theorem q1159 : (Jvm.Cond.code ({ cls := "NameRests", name := "row", desc := "(III)I" } : Jvm.MethodName) prog_1_method_84_code (4 : Nat) (Option.some Jvm.ClassFile.FieldType.int)) ∈ lw_all := lw_g (lw_at lw_m5 97 rfl) rfl
theorem q1160 : (Jvm.Cond.constantLong "NameRests" (463 : Nat) (4 : Int64)) ∈ lw_all := lw_g (lw_at lw_m5 98 rfl) rfl
theorem q1166 : (Jvm.Cond.instanceMethod ({ cls := "NameRests", name := "put", desc := "(IIJ)I" } : Jvm.MethodName)) ∈ lw_all := lw_g (lw_at lw_m5 104 rfl) rfl
theorem q1167 : (Jvm.Cond.selects "NameRests" ({ cls := "NameRests", name := "put", desc := "(IIJ)I" } : Jvm.MethodName) ({ cls := "NameRests", name := "put", desc := "(IIJ)I" } : Jvm.MethodName)) ∈ lw_all := lw_g (lw_at lw_m5 105 rfl) rfl
theorem q1168 : (Jvm.Cond.code ({ cls := "NameRests", name := "put", desc := "(IIJ)I" } : Jvm.MethodName) prog_1_method_88_code (7 : Nat) (Option.some Jvm.ClassFile.FieldType.int)) ∈ lw_all := lw_g (lw_at lw_m5 106 rfl) rfl
theorem q1169 : (Jvm.Cond.methodLink "NameRests" (475 : Nat) ({ cls := "NameRests", name := "refusal", desc := "(II)I" } : Jvm.MethodName)) ∈ lw_all := lw_g (lw_at lw_m5 107 rfl) rfl
theorem q1170 : (Jvm.Cond.privateMethod ({ cls := "NameRests", name := "refusal", desc := "(II)I" } : Jvm.MethodName)) ∈ lw_tbl := lw_at lw_m5 108 rfl
theorem q1171 : (Jvm.Cond.instanceMethod ({ cls := "NameRests", name := "refusal", desc := "(II)I" } : Jvm.MethodName)) ∈ lw_all := lw_g (lw_at lw_m5 109 rfl) rfl
theorem q1172 : (Jvm.Cond.code ({ cls := "NameRests", name := "refusal", desc := "(II)I" } : Jvm.MethodName) prog_1_method_87_code (4 : Nat) (Option.some Jvm.ClassFile.FieldType.int)) ∈ lw_all := lw_g (lw_at lw_m5 110 rfl) rfl
theorem q1173 : (Jvm.Cond.methodLink "NameRests" (472 : Nat) ({ cls := "NameRests", name := "sizeOf", desc := "(Ljava/lang/Object;)I" } : Jvm.MethodName)) ∈ lw_all := lw_g (lw_at lw_m5 111 rfl) rfl
theorem q1174 : (Jvm.Cond.static ({ cls := "NameRests", name := "sizeOf", desc := "(Ljava/lang/Object;)I" } : Jvm.MethodName)) ∈ lw_all := lw_g (lw_at lw_m5 112 rfl) rfl
theorem q1175 : (Jvm.Cond.code ({ cls := "NameRests", name := "sizeOf", desc := "(Ljava/lang/Object;)I" } : Jvm.MethodName) prog_1_method_86_code (1 : Nat) (Option.some Jvm.ClassFile.FieldType.int)) ∈ lw_all := lw_g (lw_at lw_m5 113 rfl) rfl
theorem q1177 : (Jvm.Cond.instanceMethod ({ cls := "NameRests", name := "element", desc := "(II)J" } : Jvm.MethodName)) ∈ lw_all := lw_g (lw_at lw_m5 115 rfl) rfl
theorem q1178 : (Jvm.Cond.selects "NameRests" ({ cls := "NameRests", name := "element", desc := "(II)J" } : Jvm.MethodName) ({ cls := "NameRests", name := "element", desc := "(II)J" } : Jvm.MethodName)) ∈ lw_all := lw_g (lw_at lw_m5 116 rfl) rfl
theorem q1179 : (Jvm.Cond.code ({ cls := "NameRests", name := "element", desc := "(II)J" } : Jvm.MethodName) prog_1_method_89_code (4 : Nat) (Option.some Jvm.ClassFile.FieldType.long)) ∈ lw_all := lw_g (lw_at lw_m5 117 rfl) rfl
theorem q1180 : (Jvm.Cond.constantLong "NameRests" (480 : Nat) (-9223372036854775808 : Int64)) ∈ lw_all := lw_g (lw_at lw_m5 118 rfl) rfl
theorem q1182 : (Jvm.Cond.instanceMethod ({ cls := "NameRests", name := "shift", desc := "(IIIII)I" } : Jvm.MethodName)) ∈ lw_all := lw_g (lw_at lw_m5 120 rfl) rfl
theorem q1183 : (Jvm.Cond.selects "NameRests" ({ cls := "NameRests", name := "shift", desc := "(IIIII)I" } : Jvm.MethodName) ({ cls := "NameRests", name := "shift", desc := "(IIIII)I" } : Jvm.MethodName)) ∈ lw_all := lw_g (lw_at lw_m5 121 rfl) rfl
theorem q1184 : (Jvm.Cond.code ({ cls := "NameRests", name := "shift", desc := "(IIIII)I" } : Jvm.MethodName) prog_1_method_90_code (8 : Nat) (Option.some Jvm.ClassFile.FieldType.int)) ∈ lw_all := lw_g (lw_at lw_m5 122 rfl) rfl
theorem q1185 : (Jvm.Cond.methodLink "NameRests" (482 : Nat) ({ cls := "java/lang/System", name := "arraycopy", desc := "(Ljava/lang/Object;ILjava/lang/Object;II)V" } : Jvm.MethodName)) ∈ lw_all := lw_g (lw_at lw_m5 123 rfl) rfl
theorem q1189 : (Jvm.Cond.instanceMethod ({ cls := "NameRests", name := "taken", desc := "(II)I" } : Jvm.MethodName)) ∈ lw_all := lw_g (lw_at lw_m5 127 rfl) rfl
theorem q1190 : (Jvm.Cond.selects "NameRests" ({ cls := "NameRests", name := "taken", desc := "(II)I" } : Jvm.MethodName) ({ cls := "NameRests", name := "taken", desc := "(II)I" } : Jvm.MethodName)) ∈ lw_all := lw_g (lw_at lw_m5 128 rfl) rfl
theorem q1191 : (Jvm.Cond.code ({ cls := "NameRests", name := "taken", desc := "(II)I" } : Jvm.MethodName) prog_1_method_91_code (5 : Nat) (Option.some Jvm.ClassFile.FieldType.int)) ∈ lw_all := lw_g (lw_at lw_m5 129 rfl) rfl
theorem q1192 : (Jvm.Cond.methodLink "NameRests" (488 : Nat) ({ cls := "NameRests$Body", name := "isUnder", desc := "(I)Z" } : Jvm.MethodName)) ∈ lw_all := lw_g (lw_at lw_m5 130 rfl) rfl
theorem q1225 : (Jvm.Cond.methodLink "NameRests" (491 : Nat) ({ cls := "NameRests$Body", name := "kind", desc := "()I" } : Jvm.MethodName)) ∈ lw_all := lw_g (lw_at lw_m5 163 rfl) rfl
theorem q1252 : (Jvm.Cond.instanceMethod ({ cls := "NameRests", name := "count", desc := "(I)I" } : Jvm.MethodName)) ∈ lw_all := lw_g (lw_at lw_m5 190 rfl) rfl
theorem q1253 : (Jvm.Cond.selects "NameRests" ({ cls := "NameRests", name := "count", desc := "(I)I" } : Jvm.MethodName) ({ cls := "NameRests", name := "count", desc := "(I)I" } : Jvm.MethodName)) ∈ lw_all := lw_g (lw_at lw_m5 191 rfl) rfl
theorem q1254 : (Jvm.Cond.code ({ cls := "NameRests", name := "count", desc := "(I)I" } : Jvm.MethodName) prog_1_method_93_code (2 : Nat) (Option.some Jvm.ClassFile.FieldType.int)) ∈ lw_all := lw_g (lw_at lw_m5 192 rfl) rfl
theorem q1255 : (Jvm.Cond.methodLink "NameRests" (494 : Nat) ({ cls := "NameRests", name := "namedMany", desc := "()I" } : Jvm.MethodName)) ∈ lw_all := lw_g (lw_at lw_m5 193 rfl) rfl
theorem q1256 : (Jvm.Cond.privateMethod ({ cls := "NameRests", name := "namedMany", desc := "()I" } : Jvm.MethodName)) ∈ lw_tbl := lw_at lw_m5 194 rfl
theorem q1257 : (Jvm.Cond.instanceMethod ({ cls := "NameRests", name := "namedMany", desc := "()I" } : Jvm.MethodName)) ∈ lw_all := lw_g (lw_at lw_m5 195 rfl) rfl
theorem q1258 : (Jvm.Cond.code ({ cls := "NameRests", name := "namedMany", desc := "()I" } : Jvm.MethodName) prog_1_method_92_code (3 : Nat) (Option.some Jvm.ClassFile.FieldType.int)) ∈ lw_all := lw_g (lw_at lw_m5 196 rfl) rfl
theorem q1843 : (Jvm.Cond.castable "NameRests" "java/lang/Object") ∈ lw_tbl := lw_at lw_m8 61 rfl
theorem in_X0 : ∀ w ∈ wsX00, w ∈ lw_all := lw_in wsX00 [298, 300, 302, 304, 306, 308, 310, 312, 314, 316, 318, 320, 322, 324, 326, 328, 330, 332, 334, 336, 338, 340, 342, 344, 346, 348, 350, 352, 354, 356, 358] (by decide +kernel) (by decide +kernel)

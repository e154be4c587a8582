-- ===== PART A: goes FIRST, ahead of the names: the tables' words, and 'selects' of the private methods out of them =====
/-- a private method of a class that the tables say can be made, by its rows of tables_1 -/
def lw_okq (q : MethodName × Nat) : Prop := (q.1.cls ≠ "java/lang/invoke/MethodHandle" ∧ q.1.cls ≠ "java/lang/invoke/VarHandle") ∧ Cond.instantiable q.1.cls q.2 ∈ tables_1 ∧ Cond.privateMethod q.1 ∈ tables_1 ∧ Cond.instanceMethod q.1 ∈ tables_1
set_option maxRecDepth 100000
theorem lw_t1 {w : Cond} (h : w ∈ tables_1_1) : w ∈ tables_1 := List.mem_append_left _ h
theorem lw_t2 {w : Cond} (h : w ∈ tables_1_2) : w ∈ tables_1 := List.mem_append_right _ (List.mem_append_left _ h)
theorem lw_t3 {w : Cond} (h : w ∈ tables_1_3) : w ∈ tables_1 := List.mem_append_right _ (List.mem_append_right _ (List.mem_append_left _ h))
theorem lw_t4 {w : Cond} (h : w ∈ tables_1_4) : w ∈ tables_1 := List.mem_append_right _ (List.mem_append_right _ (List.mem_append_right _ (List.mem_append_left _ h)))
theorem lw_t5 {w : Cond} (h : w ∈ tables_1_5) : w ∈ tables_1 := List.mem_append_right _ (List.mem_append_right _ (List.mem_append_right _ (List.mem_append_right _ (List.mem_append_left _ h))))
theorem lw_t6 {w : Cond} (h : w ∈ tables_1_6) : w ∈ tables_1 := List.mem_append_right _ (List.mem_append_right _ (List.mem_append_right _ (List.mem_append_right _ (List.mem_append_right _ (List.mem_append_left _ h)))))
theorem lw_t7 {w : Cond} (h : w ∈ tables_1_7) : w ∈ tables_1 := List.mem_append_right _ (List.mem_append_right _ (List.mem_append_right _ (List.mem_append_right _ (List.mem_append_right _ (List.mem_append_right _ (List.mem_append_left _ h))))))
theorem lw_t8 {w : Cond} (h : w ∈ tables_1_8) : w ∈ tables_1 := List.mem_append_right _ (List.mem_append_right _ (List.mem_append_right _ (List.mem_append_right _ (List.mem_append_right _ (List.mem_append_right _ (List.mem_append_right _ h))))))
theorem lw_p0 : lw_okq (⟨"java/lang/Throwable", "fillInStackTrace", "(I)Ljava/lang/Throwable;"⟩, 6) := ⟨⟨by decide +kernel, by decide +kernel⟩, lw_t1 (List.mem_of_getElem? (i := 84) rfl), lw_t1 (List.mem_of_getElem? (i := 82) rfl), lw_t1 (List.mem_of_getElem? (i := 83) rfl)⟩
theorem lw_p1 : lw_okq (⟨"NameRests", "add", "(LNameRests$Person;)V"⟩, 31) := ⟨⟨by decide +kernel, by decide +kernel⟩, lw_t1 (List.mem_of_getElem? (i := 37) rfl), lw_t2 (List.mem_of_getElem? (i := 60) rfl), lw_t2 (List.mem_of_getElem? (i := 61) rfl)⟩
theorem lw_p2 : lw_okq (⟨"NameRests", "toldIn", "(Ljava/lang/Object;J)I"⟩, 31) := ⟨⟨by decide +kernel, by decide +kernel⟩, lw_t1 (List.mem_of_getElem? (i := 37) rfl), lw_t2 (List.mem_of_getElem? (i := 82) rfl), lw_t2 (List.mem_of_getElem? (i := 83) rfl)⟩
theorem lw_p3 : lw_okq (⟨"NameRests", "isPerson", "(I)Z"⟩, 31) := ⟨⟨by decide +kernel, by decide +kernel⟩, lw_t1 (List.mem_of_getElem? (i := 37) rfl), lw_t2 (List.mem_of_getElem? (i := 95) rfl), lw_t2 (List.mem_of_getElem? (i := 96) rfl)⟩
theorem lw_p4 : lw_okq (⟨"NameRests", "doLive", "(III)Z"⟩, 31) := ⟨⟨by decide +kernel, by decide +kernel⟩, lw_t1 (List.mem_of_getElem? (i := 37) rfl), lw_t2 (List.mem_of_getElem? (i := 99) rfl), lw_t2 (List.mem_of_getElem? (i := 100) rfl)⟩
theorem lw_p5 : lw_okq (⟨"NameRests", "become", "(LNameRests$Held;I)I"⟩, 31) := ⟨⟨by decide +kernel, by decide +kernel⟩, lw_t1 (List.mem_of_getElem? (i := 37) rfl), lw_t2 (List.mem_of_getElem? (i := 142) rfl), lw_t2 (List.mem_of_getElem? (i := 143) rfl)⟩
theorem lw_p6 : lw_okq (⟨"NameRests", "ofPerson", "(II)I"⟩, 31) := ⟨⟨by decide +kernel, by decide +kernel⟩, lw_t1 (List.mem_of_getElem? (i := 37) rfl), lw_t2 (List.mem_of_getElem? (i := 151) rfl), lw_t2 (List.mem_of_getElem? (i := 152) rfl)⟩
theorem lw_p7 : lw_okq (⟨"NameRests", "placeOf", "(I)I"⟩, 31) := ⟨⟨by decide +kernel, by decide +kernel⟩, lw_t1 (List.mem_of_getElem? (i := 37) rfl), lw_t2 (List.mem_of_getElem? (i := 155) rfl), lw_t2 (List.mem_of_getElem? (i := 156) rfl)⟩
theorem lw_p8 : lw_okq (⟨"NameRests", "bearersOf", "(I)I"⟩, 31) := ⟨⟨by decide +kernel, by decide +kernel⟩, lw_t1 (List.mem_of_getElem? (i := 37) rfl), lw_t2 (List.mem_of_getElem? (i := 160) rfl), lw_t2 (List.mem_of_getElem? (i := 161) rfl)⟩
theorem lw_p9 : lw_okq (⟨"NameRests", "isMeeting", "(I)Z"⟩, 31) := ⟨⟨by decide +kernel, by decide +kernel⟩, lw_t1 (List.mem_of_getElem? (i := 37) rfl), lw_t2 (List.mem_of_getElem? (i := 169) rfl), lw_t2 (List.mem_of_getElem? (i := 170) rfl)⟩
theorem lw_p10 : lw_okq (⟨"NameRests", "doesCount", "(I)Z"⟩, 31) := ⟨⟨by decide +kernel, by decide +kernel⟩, lw_t1 (List.mem_of_getElem? (i := 37) rfl), lw_t2 (List.mem_of_getElem? (i := 173) rfl), lw_t2 (List.mem_of_getElem? (i := 174) rfl)⟩
theorem lw_p11 : lw_okq (⟨"NameRests", "readLaw", "()LNameRests$Line;"⟩, 31) := ⟨⟨by decide +kernel, by decide +kernel⟩, lw_t1 (List.mem_of_getElem? (i := 37) rfl), lw_t2 (List.mem_of_getElem? (i := 181) rfl), lw_t2 (List.mem_of_getElem? (i := 182) rfl)⟩
theorem lw_p12 : lw_okq (⟨"NameRests", "readLine", "()LNameRests$Line;"⟩, 31) := ⟨⟨by decide +kernel, by decide +kernel⟩, lw_t1 (List.mem_of_getElem? (i := 37) rfl), lw_t2 (List.mem_of_getElem? (i := 185) rfl), lw_t2 (List.mem_of_getElem? (i := 186) rfl)⟩
theorem lw_p13 : lw_okq (⟨"NameRests", "readEither", "()LNameRests$Term;"⟩, 31) := ⟨⟨by decide +kernel, by decide +kernel⟩, lw_t1 (List.mem_of_getElem? (i := 37) rfl), lw_t2 (List.mem_of_getElem? (i := 205) rfl), lw_t2 (List.mem_of_getElem? (i := 206) rfl)⟩
theorem lw_p14 : lw_okq (⟨"NameRests", "readAll", "()LNameRests$Term;"⟩, 31) := ⟨⟨by decide +kernel, by decide +kernel⟩, lw_t1 (List.mem_of_getElem? (i := 37) rfl), lw_t2 (List.mem_of_getElem? (i := 209) rfl), lw_t2 (List.mem_of_getElem? (i := 210) rfl)⟩
theorem lw_p15 : lw_okq (⟨"NameRests", "readLike", "()LNameRests$Term;"⟩, 31) := ⟨⟨by decide +kernel, by decide +kernel⟩, lw_t1 (List.mem_of_getElem? (i := 37) rfl), lw_t2 (List.mem_of_getElem? (i := 213) rfl), lw_t2 (List.mem_of_getElem? (i := 214) rfl)⟩
def lw_privs_1 : List (MethodName × Nat) := [(⟨"java/lang/Throwable", "fillInStackTrace", "(I)Ljava/lang/Throwable;"⟩, 6), (⟨"NameRests", "add", "(LNameRests$Person;)V"⟩, 31), (⟨"NameRests", "toldIn", "(Ljava/lang/Object;J)I"⟩, 31), (⟨"NameRests", "isPerson", "(I)Z"⟩, 31), (⟨"NameRests", "doLive", "(III)Z"⟩, 31), (⟨"NameRests", "become", "(LNameRests$Held;I)I"⟩, 31), (⟨"NameRests", "ofPerson", "(II)I"⟩, 31), (⟨"NameRests", "placeOf", "(I)I"⟩, 31), (⟨"NameRests", "bearersOf", "(I)I"⟩, 31), (⟨"NameRests", "isMeeting", "(I)Z"⟩, 31), (⟨"NameRests", "doesCount", "(I)Z"⟩, 31), (⟨"NameRests", "readLaw", "()LNameRests$Line;"⟩, 31), (⟨"NameRests", "readLine", "()LNameRests$Line;"⟩, 31), (⟨"NameRests", "readEither", "()LNameRests$Term;"⟩, 31), (⟨"NameRests", "readAll", "()LNameRests$Term;"⟩, 31), (⟨"NameRests", "readLike", "()LNameRests$Term;"⟩, 31)]
theorem lw_r1 : ∀ q ∈ lw_privs_1, lw_okq q := List.forall_mem_cons.mpr ⟨lw_p0, List.forall_mem_cons.mpr ⟨lw_p1, List.forall_mem_cons.mpr ⟨lw_p2, List.forall_mem_cons.mpr ⟨lw_p3, List.forall_mem_cons.mpr ⟨lw_p4, List.forall_mem_cons.mpr ⟨lw_p5, List.forall_mem_cons.mpr ⟨lw_p6, List.forall_mem_cons.mpr ⟨lw_p7, List.forall_mem_cons.mpr ⟨lw_p8, List.forall_mem_cons.mpr ⟨lw_p9, List.forall_mem_cons.mpr ⟨lw_p10, List.forall_mem_cons.mpr ⟨lw_p11, List.forall_mem_cons.mpr ⟨lw_p12, List.forall_mem_cons.mpr ⟨lw_p13, List.forall_mem_cons.mpr ⟨lw_p14, List.forall_mem_cons.mpr ⟨lw_p15, fun _ h => absurd h List.not_mem_nil⟩⟩⟩⟩⟩⟩⟩⟩⟩⟩⟩⟩⟩⟩⟩⟩
theorem lw_p16 : lw_okq (⟨"NameRests", "readPlus", "()LNameRests$Term;"⟩, 31) := ⟨⟨by decide +kernel, by decide +kernel⟩, lw_t1 (List.mem_of_getElem? (i := 37) rfl), lw_t2 (List.mem_of_getElem? (i := 217) rfl), lw_t2 (List.mem_of_getElem? (i := 218) rfl)⟩
theorem lw_p17 : lw_okq (⟨"NameRests", "readTimes", "()LNameRests$Term;"⟩, 31) := ⟨⟨by decide +kernel, by decide +kernel⟩, lw_t1 (List.mem_of_getElem? (i := 37) rfl), lw_t2 (List.mem_of_getElem? (i := 221) rfl), lw_t2 (List.mem_of_getElem? (i := 222) rfl)⟩
theorem lw_p18 : lw_okq (⟨"NameRests", "readOne", "()LNameRests$Term;"⟩, 31) := ⟨⟨by decide +kernel, by decide +kernel⟩, lw_t1 (List.mem_of_getElem? (i := 37) rfl), lw_t2 (List.mem_of_getElem? (i := 225) rfl), lw_t2 (List.mem_of_getElem? (i := 226) rfl)⟩
theorem lw_p19 : lw_okq (⟨"NameRests", "isDigit", "()Z"⟩, 31) := ⟨⟨by decide +kernel, by decide +kernel⟩, lw_t1 (List.mem_of_getElem? (i := 37) rfl), lw_t2 (List.mem_of_getElem? (i := 229) rfl), lw_t2 (List.mem_of_getElem? (i := 230) rfl)⟩
theorem lw_p20 : lw_okq (⟨"NameRests", "peek", "()I"⟩, 31) := ⟨⟨by decide +kernel, by decide +kernel⟩, lw_t1 (List.mem_of_getElem? (i := 37) rfl), lw_t2 (List.mem_of_getElem? (i := 233) rfl), lw_t2 (List.mem_of_getElem? (i := 234) rfl)⟩
theorem lw_p21 : lw_okq (⟨"NameRests", "expect", "(I)V"⟩, 31) := ⟨⟨by decide +kernel, by decide +kernel⟩, lw_t1 (List.mem_of_getElem? (i := 37) rfl), lw_t3 (List.mem_of_getElem? (i := 41) rfl), lw_t3 (List.mem_of_getElem? (i := 42) rfl)⟩
theorem lw_p22 : lw_okq (⟨"NameRests", "take", "(I)Z"⟩, 31) := ⟨⟨by decide +kernel, by decide +kernel⟩, lw_t1 (List.mem_of_getElem? (i := 37) rfl), lw_t3 (List.mem_of_getElem? (i := 45) rfl), lw_t3 (List.mem_of_getElem? (i := 46) rfl)⟩
theorem lw_p23 : lw_okq (⟨"NameRests", "knowUpTo", "(II)V"⟩, 31) := ⟨⟨by decide +kernel, by decide +kernel⟩, lw_t1 (List.mem_of_getElem? (i := 37) rfl), lw_t3 (List.mem_of_getElem? (i := 69) rfl), lw_t3 (List.mem_of_getElem? (i := 70) rfl)⟩
theorem lw_p24 : lw_okq (⟨"NameRests", "asNamed", "()V"⟩, 31) := ⟨⟨by decide +kernel, by decide +kernel⟩, lw_t1 (List.mem_of_getElem? (i := 37) rfl), lw_t3 (List.mem_of_getElem? (i := 80) rfl), lw_t3 (List.mem_of_getElem? (i := 81) rfl)⟩
theorem lw_p25 : lw_okq (⟨"NameRests", "tillOf", "(II)I"⟩, 31) := ⟨⟨by decide +kernel, by decide +kernel⟩, lw_t1 (List.mem_of_getElem? (i := 37) rfl), lw_t3 (List.mem_of_getElem? (i := 84) rfl), lw_t3 (List.mem_of_getElem? (i := 85) rfl)⟩
theorem lw_p26 : lw_okq (⟨"NameRests", "isHeld", "(II)Z"⟩, 31) := ⟨⟨by decide +kernel, by decide +kernel⟩, lw_t1 (List.mem_of_getElem? (i := 37) rfl), lw_t3 (List.mem_of_getElem? (i := 88) rfl), lw_t3 (List.mem_of_getElem? (i := 89) rfl)⟩
theorem lw_p27 : lw_okq (⟨"NameRests", "isFamed", "(II)Z"⟩, 31) := ⟨⟨by decide +kernel, by decide +kernel⟩, lw_t1 (List.mem_of_getElem? (i := 37) rfl), lw_t3 (List.mem_of_getElem? (i := 92) rfl), lw_t3 (List.mem_of_getElem? (i := 93) rfl)⟩
theorem lw_p28 : lw_okq (⟨"NameRests", "holders", "(II)I"⟩, 31) := ⟨⟨by decide +kernel, by decide +kernel⟩, lw_t1 (List.mem_of_getElem? (i := 37) rfl), lw_t3 (List.mem_of_getElem? (i := 96) rfl), lw_t3 (List.mem_of_getElem? (i := 97) rfl)⟩
theorem lw_p29 : lw_okq (⟨"NameRests", "doesHold", "(III)Z"⟩, 31) := ⟨⟨by decide +kernel, by decide +kernel⟩, lw_t1 (List.mem_of_getElem? (i := 37) rfl), lw_t3 (List.mem_of_getElem? (i := 100) rfl), lw_t3 (List.mem_of_getElem? (i := 101) rfl)⟩
theorem lw_p30 : lw_okq (⟨"NameRests", "holdsFor", "(IIII)Z"⟩, 31) := ⟨⟨by decide +kernel, by decide +kernel⟩, lw_t1 (List.mem_of_getElem? (i := 37) rfl), lw_t3 (List.mem_of_getElem? (i := 104) rfl), lw_t3 (List.mem_of_getElem? (i := 105) rfl)⟩
theorem lw_p31 : lw_okq (⟨"NameRests", "ruled", "()Z"⟩, 31) := ⟨⟨by decide +kernel, by decide +kernel⟩, lw_t1 (List.mem_of_getElem? (i := 37) rfl), lw_t3 (List.mem_of_getElem? (i := 111) rfl), lw_t3 (List.mem_of_getElem? (i := 112) rfl)⟩
def lw_privs_2 : List (MethodName × Nat) := [(⟨"NameRests", "readPlus", "()LNameRests$Term;"⟩, 31), (⟨"NameRests", "readTimes", "()LNameRests$Term;"⟩, 31), (⟨"NameRests", "readOne", "()LNameRests$Term;"⟩, 31), (⟨"NameRests", "isDigit", "()Z"⟩, 31), (⟨"NameRests", "peek", "()I"⟩, 31), (⟨"NameRests", "expect", "(I)V"⟩, 31), (⟨"NameRests", "take", "(I)Z"⟩, 31), (⟨"NameRests", "knowUpTo", "(II)V"⟩, 31), (⟨"NameRests", "asNamed", "()V"⟩, 31), (⟨"NameRests", "tillOf", "(II)I"⟩, 31), (⟨"NameRests", "isHeld", "(II)Z"⟩, 31), (⟨"NameRests", "isFamed", "(II)Z"⟩, 31), (⟨"NameRests", "holders", "(II)I"⟩, 31), (⟨"NameRests", "doesHold", "(III)Z"⟩, 31), (⟨"NameRests", "holdsFor", "(IIII)Z"⟩, 31), (⟨"NameRests", "ruled", "()Z"⟩, 31)]
theorem lw_r2 : ∀ q ∈ lw_privs_2, lw_okq q := List.forall_mem_cons.mpr ⟨lw_p16, List.forall_mem_cons.mpr ⟨lw_p17, List.forall_mem_cons.mpr ⟨lw_p18, List.forall_mem_cons.mpr ⟨lw_p19, List.forall_mem_cons.mpr ⟨lw_p20, List.forall_mem_cons.mpr ⟨lw_p21, List.forall_mem_cons.mpr ⟨lw_p22, List.forall_mem_cons.mpr ⟨lw_p23, List.forall_mem_cons.mpr ⟨lw_p24, List.forall_mem_cons.mpr ⟨lw_p25, List.forall_mem_cons.mpr ⟨lw_p26, List.forall_mem_cons.mpr ⟨lw_p27, List.forall_mem_cons.mpr ⟨lw_p28, List.forall_mem_cons.mpr ⟨lw_p29, List.forall_mem_cons.mpr ⟨lw_p30, List.forall_mem_cons.mpr ⟨lw_p31, fun _ h => absurd h List.not_mem_nil⟩⟩⟩⟩⟩⟩⟩⟩⟩⟩⟩⟩⟩⟩⟩⟩
theorem lw_p32 : lw_okq (⟨"NameRests", "freeIn", "(I)I"⟩, 31) := ⟨⟨by decide +kernel, by decide +kernel⟩, lw_t1 (List.mem_of_getElem? (i := 37) rfl), lw_t3 (List.mem_of_getElem? (i := 138) rfl), lw_t3 (List.mem_of_getElem? (i := 139) rfl)⟩
theorem lw_p33 : lw_okq (⟨"NameRests", "nobodyBears", "()V"⟩, 31) := ⟨⟨by decide +kernel, by decide +kernel⟩, lw_t1 (List.mem_of_getElem? (i := 37) rfl), lw_t3 (List.mem_of_getElem? (i := 153) rfl), lw_t3 (List.mem_of_getElem? (i := 154) rfl)⟩
theorem lw_p34 : lw_okq (⟨"NameRests", "asAheadOf", "(I)V"⟩, 31) := ⟨⟨by decide +kernel, by decide +kernel⟩, lw_t1 (List.mem_of_getElem? (i := 37) rfl), lw_t3 (List.mem_of_getElem? (i := 164) rfl), lw_t3 (List.mem_of_getElem? (i := 165) rfl)⟩
theorem lw_p35 : lw_okq (⟨"NameRests", "givenIn", "(II)I"⟩, 31) := ⟨⟨by decide +kernel, by decide +kernel⟩, lw_t1 (List.mem_of_getElem? (i := 37) rfl), lw_t3 (List.mem_of_getElem? (i := 168) rfl), lw_t3 (List.mem_of_getElem? (i := 169) rfl)⟩
theorem lw_p36 : lw_okq (⟨"NameRests", "rank", "(III)I"⟩, 31) := ⟨⟨by decide +kernel, by decide +kernel⟩, lw_t1 (List.mem_of_getElem? (i := 37) rfl), lw_t3 (List.mem_of_getElem? (i := 172) rfl), lw_t3 (List.mem_of_getElem? (i := 173) rfl)⟩
theorem lw_p37 : lw_okq (⟨"NameRests", "latestHeld", "(II)I"⟩, 31) := ⟨⟨by decide +kernel, by decide +kernel⟩, lw_t1 (List.mem_of_getElem? (i := 37) rfl), lw_t3 (List.mem_of_getElem? (i := 176) rfl), lw_t3 (List.mem_of_getElem? (i := 177) rfl)⟩
theorem lw_p38 : lw_okq (⟨"NameRests", "nameAll", "(I)V"⟩, 31) := ⟨⟨by decide +kernel, by decide +kernel⟩, lw_t1 (List.mem_of_getElem? (i := 37) rfl), lw_t3 (List.mem_of_getElem? (i := 184) rfl), lw_t3 (List.mem_of_getElem? (i := 185) rfl)⟩
theorem lw_p39 : lw_okq (⟨"NameRests", "namesUsed", "()I"⟩, 31) := ⟨⟨by decide +kernel, by decide +kernel⟩, lw_t1 (List.mem_of_getElem? (i := 37) rfl), lw_t3 (List.mem_of_getElem? (i := 192) rfl), lw_t3 (List.mem_of_getElem? (i := 193) rfl)⟩
theorem lw_p40 : lw_okq (⟨"NameRests", "isFreeWithout", "(III)Z"⟩, 31) := ⟨⟨by decide +kernel, by decide +kernel⟩, lw_t1 (List.mem_of_getElem? (i := 37) rfl), lw_t3 (List.mem_of_getElem? (i := 200) rfl), lw_t3 (List.mem_of_getElem? (i := 201) rfl)⟩
theorem lw_p41 : lw_okq (⟨"NameRests", "made", "(I)LNameRests$Body;"⟩, 31) := ⟨⟨by decide +kernel, by decide +kernel⟩, lw_t1 (List.mem_of_getElem? (i := 37) rfl), lw_t3 (List.mem_of_getElem? (i := 230) rfl), lw_t3 (List.mem_of_getElem? (i := 231) rfl)⟩
theorem lw_p42 : lw_okq (⟨"NameRests", "isBody", "(I)Z"⟩, 31) := ⟨⟨by decide +kernel, by decide +kernel⟩, lw_t1 (List.mem_of_getElem? (i := 37) rfl), lw_t4 (List.mem_of_getElem? (i := 99) rfl), lw_t4 (List.mem_of_getElem? (i := 100) rfl)⟩
theorem lw_p43 : lw_okq (⟨"NameRests", "refusal", "(II)I"⟩, 31) := ⟨⟨by decide +kernel, by decide +kernel⟩, lw_t1 (List.mem_of_getElem? (i := 37) rfl), lw_t5 (List.mem_of_getElem? (i := 108) rfl), lw_t5 (List.mem_of_getElem? (i := 109) rfl)⟩
theorem lw_p44 : lw_okq (⟨"NameRests", "namedMany", "()I"⟩, 31) := ⟨⟨by decide +kernel, by decide +kernel⟩, lw_t1 (List.mem_of_getElem? (i := 37) rfl), lw_t5 (List.mem_of_getElem? (i := 194) rfl), lw_t5 (List.mem_of_getElem? (i := 195) rfl)⟩
theorem lw_p45 : lw_okq (⟨"NameRestsModel", "addPerson", "(III)I"⟩, 47) := ⟨⟨by decide +kernel, by decide +kernel⟩, lw_t5 (List.mem_of_getElem? (i := 198) rfl), lw_t6 (List.mem_of_getElem? (i := 118) rfl), lw_t6 (List.mem_of_getElem? (i := 119) rfl)⟩
theorem lw_p46 : lw_okq (⟨"NameRestsModel", "isPerson", "(I)Z"⟩, 47) := ⟨⟨by decide +kernel, by decide +kernel⟩, lw_t5 (List.mem_of_getElem? (i := 198) rfl), lw_t6 (List.mem_of_getElem? (i := 134) rfl), lw_t6 (List.mem_of_getElem? (i := 135) rfl)⟩
theorem lw_p47 : lw_okq (⟨"NameRestsModel", "lives", "(II)Z"⟩, 47) := ⟨⟨by decide +kernel, by decide +kernel⟩, lw_t5 (List.mem_of_getElem? (i := 198) rfl), lw_t6 (List.mem_of_getElem? (i := 138) rfl), lw_t6 (List.mem_of_getElem? (i := 139) rfl)⟩
def lw_privs_3 : List (MethodName × Nat) := [(⟨"NameRests", "freeIn", "(I)I"⟩, 31), (⟨"NameRests", "nobodyBears", "()V"⟩, 31), (⟨"NameRests", "asAheadOf", "(I)V"⟩, 31), (⟨"NameRests", "givenIn", "(II)I"⟩, 31), (⟨"NameRests", "rank", "(III)I"⟩, 31), (⟨"NameRests", "latestHeld", "(II)I"⟩, 31), (⟨"NameRests", "nameAll", "(I)V"⟩, 31), (⟨"NameRests", "namesUsed", "()I"⟩, 31), (⟨"NameRests", "isFreeWithout", "(III)Z"⟩, 31), (⟨"NameRests", "made", "(I)LNameRests$Body;"⟩, 31), (⟨"NameRests", "isBody", "(I)Z"⟩, 31), (⟨"NameRests", "refusal", "(II)I"⟩, 31), (⟨"NameRests", "namedMany", "()I"⟩, 31), (⟨"NameRestsModel", "addPerson", "(III)I"⟩, 47), (⟨"NameRestsModel", "isPerson", "(I)Z"⟩, 47), (⟨"NameRestsModel", "lives", "(II)Z"⟩, 47)]
theorem lw_r3 : ∀ q ∈ lw_privs_3, lw_okq q := List.forall_mem_cons.mpr ⟨lw_p32, List.forall_mem_cons.mpr ⟨lw_p33, List.forall_mem_cons.mpr ⟨lw_p34, List.forall_mem_cons.mpr ⟨lw_p35, List.forall_mem_cons.mpr ⟨lw_p36, List.forall_mem_cons.mpr ⟨lw_p37, List.forall_mem_cons.mpr ⟨lw_p38, List.forall_mem_cons.mpr ⟨lw_p39, List.forall_mem_cons.mpr ⟨lw_p40, List.forall_mem_cons.mpr ⟨lw_p41, List.forall_mem_cons.mpr ⟨lw_p42, List.forall_mem_cons.mpr ⟨lw_p43, List.forall_mem_cons.mpr ⟨lw_p44, List.forall_mem_cons.mpr ⟨lw_p45, List.forall_mem_cons.mpr ⟨lw_p46, List.forall_mem_cons.mpr ⟨lw_p47, fun _ h => absurd h List.not_mem_nil⟩⟩⟩⟩⟩⟩⟩⟩⟩⟩⟩⟩⟩⟩⟩⟩
theorem lw_p48 : lw_okq (⟨"NameRestsModel", "lays", "(III)V"⟩, 47) := ⟨⟨by decide +kernel, by decide +kernel⟩, lw_t5 (List.mem_of_getElem? (i := 198) rfl), lw_t6 (List.mem_of_getElem? (i := 162) rfl), lw_t6 (List.mem_of_getElem? (i := 163) rfl)⟩
theorem lw_p49 : lw_okq (⟨"NameRestsModel", "changes", "(III)I"⟩, 47) := ⟨⟨by decide +kernel, by decide +kernel⟩, lw_t5 (List.mem_of_getElem? (i := 198) rfl), lw_t6 (List.mem_of_getElem? (i := 174) rfl), lw_t6 (List.mem_of_getElem? (i := 175) rfl)⟩
theorem lw_p50 : lw_okq (⟨"NameRestsModel", "valueAt", "(II)I"⟩, 47) := ⟨⟨by decide +kernel, by decide +kernel⟩, lw_t5 (List.mem_of_getElem? (i := 198) rfl), lw_t6 (List.mem_of_getElem? (i := 178) rfl), lw_t6 (List.mem_of_getElem? (i := 179) rfl)⟩
theorem lw_p51 : lw_okq (⟨"NameRestsModel", "placeOf", "(I)I"⟩, 47) := ⟨⟨by decide +kernel, by decide +kernel⟩, lw_t5 (List.mem_of_getElem? (i := 198) rfl), lw_t6 (List.mem_of_getElem? (i := 186) rfl), lw_t6 (List.mem_of_getElem? (i := 187) rfl)⟩
theorem lw_p52 : lw_okq (⟨"NameRestsModel", "isAhead", "(II)Z"⟩, 47) := ⟨⟨by decide +kernel, by decide +kernel⟩, lw_t5 (List.mem_of_getElem? (i := 198) rfl), lw_t6 (List.mem_of_getElem? (i := 190) rfl), lw_t6 (List.mem_of_getElem? (i := 191) rfl)⟩
theorem lw_p53 : lw_okq (⟨"NameRestsModel", "bearersOf", "(I)I"⟩, 47) := ⟨⟨by decide +kernel, by decide +kernel⟩, lw_t5 (List.mem_of_getElem? (i := 198) rfl), lw_t6 (List.mem_of_getElem? (i := 194) rfl), lw_t6 (List.mem_of_getElem? (i := 195) rfl)⟩
theorem lw_p54 : lw_okq (⟨"NameRestsModel", "counts", "(I)Z"⟩, 47) := ⟨⟨by decide +kernel, by decide +kernel⟩, lw_t5 (List.mem_of_getElem? (i := 198) rfl), lw_t6 (List.mem_of_getElem? (i := 198) rfl), lw_t6 (List.mem_of_getElem? (i := 199) rfl)⟩
theorem lw_p55 : lw_okq (⟨"NameRestsModel", "readText", "(I)I"⟩, 47) := ⟨⟨by decide +kernel, by decide +kernel⟩, lw_t5 (List.mem_of_getElem? (i := 198) rfl), lw_t6 (List.mem_of_getElem? (i := 210) rfl), lw_t6 (List.mem_of_getElem? (i := 211) rfl)⟩
theorem lw_p56 : lw_okq (⟨"NameRestsModel", "line", "()V"⟩, 47) := ⟨⟨by decide +kernel, by decide +kernel⟩, lw_t5 (List.mem_of_getElem? (i := 198) rfl), lw_t6 (List.mem_of_getElem? (i := 214) rfl), lw_t6 (List.mem_of_getElem? (i := 215) rfl)⟩
theorem lw_p57 : lw_okq (⟨"NameRestsModel", "either", "()V"⟩, 47) := ⟨⟨by decide +kernel, by decide +kernel⟩, lw_t5 (List.mem_of_getElem? (i := 198) rfl), lw_t6 (List.mem_of_getElem? (i := 218) rfl), lw_t6 (List.mem_of_getElem? (i := 219) rfl)⟩
theorem lw_p58 : lw_okq (⟨"NameRestsModel", "both", "()V"⟩, 47) := ⟨⟨by decide +kernel, by decide +kernel⟩, lw_t5 (List.mem_of_getElem? (i := 198) rfl), lw_t6 (List.mem_of_getElem? (i := 222) rfl), lw_t6 (List.mem_of_getElem? (i := 223) rfl)⟩
theorem lw_p59 : lw_okq (⟨"NameRestsModel", "compared", "()V"⟩, 47) := ⟨⟨by decide +kernel, by decide +kernel⟩, lw_t5 (List.mem_of_getElem? (i := 198) rfl), lw_t6 (List.mem_of_getElem? (i := 226) rfl), lw_t6 (List.mem_of_getElem? (i := 227) rfl)⟩
theorem lw_p60 : lw_okq (⟨"NameRestsModel", "sum", "()V"⟩, 47) := ⟨⟨by decide +kernel, by decide +kernel⟩, lw_t5 (List.mem_of_getElem? (i := 198) rfl), lw_t6 (List.mem_of_getElem? (i := 230) rfl), lw_t6 (List.mem_of_getElem? (i := 231) rfl)⟩
theorem lw_p61 : lw_okq (⟨"NameRestsModel", "product", "()V"⟩, 47) := ⟨⟨by decide +kernel, by decide +kernel⟩, lw_t5 (List.mem_of_getElem? (i := 198) rfl), lw_t6 (List.mem_of_getElem? (i := 234) rfl), lw_t6 (List.mem_of_getElem? (i := 235) rfl)⟩
theorem lw_p62 : lw_okq (⟨"NameRestsModel", "operand", "()V"⟩, 47) := ⟨⟨by decide +kernel, by decide +kernel⟩, lw_t5 (List.mem_of_getElem? (i := 198) rfl), lw_t6 (List.mem_of_getElem? (i := 238) rfl), lw_t6 (List.mem_of_getElem? (i := 239) rfl)⟩
theorem lw_p63 : lw_okq (⟨"NameRestsModel", "look", "()I"⟩, 47) := ⟨⟨by decide +kernel, by decide +kernel⟩, lw_t5 (List.mem_of_getElem? (i := 198) rfl), lw_t7 (List.mem_of_getElem? (i := 2) rfl), lw_t7 (List.mem_of_getElem? (i := 3) rfl)⟩
def lw_privs_4 : List (MethodName × Nat) := [(⟨"NameRestsModel", "lays", "(III)V"⟩, 47), (⟨"NameRestsModel", "changes", "(III)I"⟩, 47), (⟨"NameRestsModel", "valueAt", "(II)I"⟩, 47), (⟨"NameRestsModel", "placeOf", "(I)I"⟩, 47), (⟨"NameRestsModel", "isAhead", "(II)Z"⟩, 47), (⟨"NameRestsModel", "bearersOf", "(I)I"⟩, 47), (⟨"NameRestsModel", "counts", "(I)Z"⟩, 47), (⟨"NameRestsModel", "readText", "(I)I"⟩, 47), (⟨"NameRestsModel", "line", "()V"⟩, 47), (⟨"NameRestsModel", "either", "()V"⟩, 47), (⟨"NameRestsModel", "both", "()V"⟩, 47), (⟨"NameRestsModel", "compared", "()V"⟩, 47), (⟨"NameRestsModel", "sum", "()V"⟩, 47), (⟨"NameRestsModel", "product", "()V"⟩, 47), (⟨"NameRestsModel", "operand", "()V"⟩, 47), (⟨"NameRestsModel", "look", "()I"⟩, 47)]
theorem lw_r4 : ∀ q ∈ lw_privs_4, lw_okq q := List.forall_mem_cons.mpr ⟨lw_p48, List.forall_mem_cons.mpr ⟨lw_p49, List.forall_mem_cons.mpr ⟨lw_p50, List.forall_mem_cons.mpr ⟨lw_p51, List.forall_mem_cons.mpr ⟨lw_p52, List.forall_mem_cons.mpr ⟨lw_p53, List.forall_mem_cons.mpr ⟨lw_p54, List.forall_mem_cons.mpr ⟨lw_p55, List.forall_mem_cons.mpr ⟨lw_p56, List.forall_mem_cons.mpr ⟨lw_p57, List.forall_mem_cons.mpr ⟨lw_p58, List.forall_mem_cons.mpr ⟨lw_p59, List.forall_mem_cons.mpr ⟨lw_p60, List.forall_mem_cons.mpr ⟨lw_p61, List.forall_mem_cons.mpr ⟨lw_p62, List.forall_mem_cons.mpr ⟨lw_p63, fun _ h => absurd h List.not_mem_nil⟩⟩⟩⟩⟩⟩⟩⟩⟩⟩⟩⟩⟩⟩⟩⟩
theorem lw_p64 : lw_okq (⟨"NameRestsModel", "addStep", "(II)V"⟩, 47) := ⟨⟨by decide +kernel, by decide +kernel⟩, lw_t5 (List.mem_of_getElem? (i := 198) rfl), lw_t7 (List.mem_of_getElem? (i := 9) rfl), lw_t7 (List.mem_of_getElem? (i := 10) rfl)⟩
theorem lw_p65 : lw_okq (⟨"NameRestsModel", "opens", "()Z"⟩, 47) := ⟨⟨by decide +kernel, by decide +kernel⟩, lw_t5 (List.mem_of_getElem? (i := 198) rfl), lw_t7 (List.mem_of_getElem? (i := 13) rfl), lw_t7 (List.mem_of_getElem? (i := 14) rfl)⟩
theorem lw_p66 : lw_okq (⟨"NameRestsModel", "faulty", "()V"⟩, 47) := ⟨⟨by decide +kernel, by decide +kernel⟩, lw_t5 (List.mem_of_getElem? (i := 198) rfl), lw_t7 (List.mem_of_getElem? (i := 17) rfl), lw_t7 (List.mem_of_getElem? (i := 18) rfl)⟩
theorem lw_p67 : lw_okq (⟨"NameRestsModel", "figure", "()V"⟩, 47) := ⟨⟨by decide +kernel, by decide +kernel⟩, lw_t5 (List.mem_of_getElem? (i := 198) rfl), lw_t7 (List.mem_of_getElem? (i := 21) rfl), lw_t7 (List.mem_of_getElem? (i := 22) rfl)⟩
theorem lw_p68 : lw_okq (⟨"NameRestsModel", "findKnown", "(II)V"⟩, 47) := ⟨⟨by decide +kernel, by decide +kernel⟩, lw_t5 (List.mem_of_getElem? (i := 198) rfl), lw_t7 (List.mem_of_getElem? (i := 29) rfl), lw_t7 (List.mem_of_getElem? (i := 30) rfl)⟩
theorem lw_p69 : lw_okq (⟨"NameRestsModel", "asNamed", "()V"⟩, 47) := ⟨⟨by decide +kernel, by decide +kernel⟩, lw_t5 (List.mem_of_getElem? (i := 198) rfl), lw_t7 (List.mem_of_getElem? (i := 37) rfl), lw_t7 (List.mem_of_getElem? (i := 38) rfl)⟩
theorem lw_p70 : lw_okq (⟨"NameRestsModel", "everybody", "()I"⟩, 47) := ⟨⟨by decide +kernel, by decide +kernel⟩, lw_t5 (List.mem_of_getElem? (i := 198) rfl), lw_t7 (List.mem_of_getElem? (i := 41) rfl), lw_t7 (List.mem_of_getElem? (i := 42) rfl)⟩
theorem lw_p71 : lw_okq (⟨"NameRestsModel", "isHeld", "(III)Z"⟩, 47) := ⟨⟨by decide +kernel, by decide +kernel⟩, lw_t5 (List.mem_of_getElem? (i := 198) rfl), lw_t7 (List.mem_of_getElem? (i := 45) rfl), lw_t7 (List.mem_of_getElem? (i := 46) rfl)⟩
theorem lw_p72 : lw_okq (⟨"NameRestsModel", "isFamous", "(III)Z"⟩, 47) := ⟨⟨by decide +kernel, by decide +kernel⟩, lw_t5 (List.mem_of_getElem? (i := 198) rfl), lw_t7 (List.mem_of_getElem? (i := 49) rfl), lw_t7 (List.mem_of_getElem? (i := 50) rfl)⟩
theorem lw_p73 : lw_okq (⟨"NameRestsModel", "bears", "(IIII)Z"⟩, 47) := ⟨⟨by decide +kernel, by decide +kernel⟩, lw_t5 (List.mem_of_getElem? (i := 198) rfl), lw_t7 (List.mem_of_getElem? (i := 53) rfl), lw_t7 (List.mem_of_getElem? (i := 54) rfl)⟩
theorem lw_p74 : lw_okq (⟨"NameRestsModel", "holders", "(III)I"⟩, 47) := ⟨⟨by decide +kernel, by decide +kernel⟩, lw_t5 (List.mem_of_getElem? (i := 198) rfl), lw_t7 (List.mem_of_getElem? (i := 57) rfl), lw_t7 (List.mem_of_getElem? (i := 58) rfl)⟩
theorem lw_p75 : lw_okq (⟨"NameRestsModel", "doesHold", "(IIII)Z"⟩, 47) := ⟨⟨by decide +kernel, by decide +kernel⟩, lw_t5 (List.mem_of_getElem? (i := 198) rfl), lw_t7 (List.mem_of_getElem? (i := 61) rfl), lw_t7 (List.mem_of_getElem? (i := 62) rfl)⟩
theorem lw_p76 : lw_okq (⟨"NameRestsModel", "holdsFor", "(IIII)Z"⟩, 47) := ⟨⟨by decide +kernel, by decide +kernel⟩, lw_t5 (List.mem_of_getElem? (i := 198) rfl), lw_t7 (List.mem_of_getElem? (i := 65) rfl), lw_t7 (List.mem_of_getElem? (i := 66) rfl)⟩
theorem lw_p77 : lw_okq (⟨"NameRestsModel", "gives", "(I)I"⟩, 47) := ⟨⟨by decide +kernel, by decide +kernel⟩, lw_t5 (List.mem_of_getElem? (i := 198) rfl), lw_t7 (List.mem_of_getElem? (i := 69) rfl), lw_t7 (List.mem_of_getElem? (i := 70) rfl)⟩
theorem lw_p78 : lw_okq (⟨"NameRestsModel", "worked", "(III)I"⟩, 47) := ⟨⟨by decide +kernel, by decide +kernel⟩, lw_t5 (List.mem_of_getElem? (i := 198) rfl), lw_t7 (List.mem_of_getElem? (i := 73) rfl), lw_t7 (List.mem_of_getElem? (i := 74) rfl)⟩
theorem lw_p79 : lw_okq (⟨"NameRestsModel", "heldIn", "(I)I"⟩, 47) := ⟨⟨by decide +kernel, by decide +kernel⟩, lw_t5 (List.mem_of_getElem? (i := 198) rfl), lw_t7 (List.mem_of_getElem? (i := 84) rfl), lw_t7 (List.mem_of_getElem? (i := 85) rfl)⟩
def lw_privs_5 : List (MethodName × Nat) := [(⟨"NameRestsModel", "addStep", "(II)V"⟩, 47), (⟨"NameRestsModel", "opens", "()Z"⟩, 47), (⟨"NameRestsModel", "faulty", "()V"⟩, 47), (⟨"NameRestsModel", "figure", "()V"⟩, 47), (⟨"NameRestsModel", "findKnown", "(II)V"⟩, 47), (⟨"NameRestsModel", "asNamed", "()V"⟩, 47), (⟨"NameRestsModel", "everybody", "()I"⟩, 47), (⟨"NameRestsModel", "isHeld", "(III)Z"⟩, 47), (⟨"NameRestsModel", "isFamous", "(III)Z"⟩, 47), (⟨"NameRestsModel", "bears", "(IIII)Z"⟩, 47), (⟨"NameRestsModel", "holders", "(III)I"⟩, 47), (⟨"NameRestsModel", "doesHold", "(IIII)Z"⟩, 47), (⟨"NameRestsModel", "holdsFor", "(IIII)Z"⟩, 47), (⟨"NameRestsModel", "gives", "(I)I"⟩, 47), (⟨"NameRestsModel", "worked", "(III)I"⟩, 47), (⟨"NameRestsModel", "heldIn", "(I)I"⟩, 47)]
theorem lw_r5 : ∀ q ∈ lw_privs_5, lw_okq q := List.forall_mem_cons.mpr ⟨lw_p64, List.forall_mem_cons.mpr ⟨lw_p65, List.forall_mem_cons.mpr ⟨lw_p66, List.forall_mem_cons.mpr ⟨lw_p67, List.forall_mem_cons.mpr ⟨lw_p68, List.forall_mem_cons.mpr ⟨lw_p69, List.forall_mem_cons.mpr ⟨lw_p70, List.forall_mem_cons.mpr ⟨lw_p71, List.forall_mem_cons.mpr ⟨lw_p72, List.forall_mem_cons.mpr ⟨lw_p73, List.forall_mem_cons.mpr ⟨lw_p74, List.forall_mem_cons.mpr ⟨lw_p75, List.forall_mem_cons.mpr ⟨lw_p76, List.forall_mem_cons.mpr ⟨lw_p77, List.forall_mem_cons.mpr ⟨lw_p78, List.forall_mem_cons.mpr ⟨lw_p79, fun _ h => absurd h List.not_mem_nil⟩⟩⟩⟩⟩⟩⟩⟩⟩⟩⟩⟩⟩⟩⟩⟩
theorem lw_p80 : lw_okq (⟨"NameRestsModel", "personAt", "(I)I"⟩, 47) := ⟨⟨by decide +kernel, by decide +kernel⟩, lw_t5 (List.mem_of_getElem? (i := 198) rfl), lw_t7 (List.mem_of_getElem? (i := 99) rfl), lw_t7 (List.mem_of_getElem? (i := 100) rfl)⟩
theorem lw_p81 : lw_okq (⟨"NameRestsModel", "aheadOf", "(I)I"⟩, 47) := ⟨⟨by decide +kernel, by decide +kernel⟩, lw_t5 (List.mem_of_getElem? (i := 198) rfl), lw_t7 (List.mem_of_getElem? (i := 103) rfl), lw_t7 (List.mem_of_getElem? (i := 104) rfl)⟩
theorem lw_p82 : lw_okq (⟨"NameRestsModel", "given", "(II)I"⟩, 47) := ⟨⟨by decide +kernel, by decide +kernel⟩, lw_t5 (List.mem_of_getElem? (i := 198) rfl), lw_t7 (List.mem_of_getElem? (i := 111) rfl), lw_t7 (List.mem_of_getElem? (i := 112) rfl)⟩
theorem lw_p83 : lw_okq (⟨"NameRestsModel", "latestHeld", "(III)I"⟩, 47) := ⟨⟨by decide +kernel, by decide +kernel⟩, lw_t5 (List.mem_of_getElem? (i := 198) rfl), lw_t7 (List.mem_of_getElem? (i := 115) rfl), lw_t7 (List.mem_of_getElem? (i := 116) rfl)⟩
theorem lw_p84 : lw_okq (⟨"NameRestsModel", "runBy", "(I)V"⟩, 47) := ⟨⟨by decide +kernel, by decide +kernel⟩, lw_t5 (List.mem_of_getElem? (i := 198) rfl), lw_t7 (List.mem_of_getElem? (i := 123) rfl), lw_t7 (List.mem_of_getElem? (i := 124) rfl)⟩
theorem lw_p85 : lw_okq (⟨"NameRestsModel", "unlikeNames", "()I"⟩, 47) := ⟨⟨by decide +kernel, by decide +kernel⟩, lw_t5 (List.mem_of_getElem? (i := 198) rfl), lw_t7 (List.mem_of_getElem? (i := 131) rfl), lw_t7 (List.mem_of_getElem? (i := 132) rfl)⟩
theorem lw_p86 : lw_okq (⟨"NameRestsModel", "isFreeWithout", "(III)Z"⟩, 47) := ⟨⟨by decide +kernel, by decide +kernel⟩, lw_t5 (List.mem_of_getElem? (i := 198) rfl), lw_t7 (List.mem_of_getElem? (i := 139) rfl), lw_t7 (List.mem_of_getElem? (i := 140) rfl)⟩
theorem lw_p87 : lw_okq (⟨"NameRestsModel", "isBody", "(I)Z"⟩, 47) := ⟨⟨by decide +kernel, by decide +kernel⟩, lw_t5 (List.mem_of_getElem? (i := 198) rfl), lw_t7 (List.mem_of_getElem? (i := 176) rfl), lw_t7 (List.mem_of_getElem? (i := 177) rfl)⟩
theorem lw_p88 : lw_okq (⟨"NameRestsModel", "giving", "(II)I"⟩, 47) := ⟨⟨by decide +kernel, by decide +kernel⟩, lw_t5 (List.mem_of_getElem? (i := 198) rfl), lw_t7 (List.mem_of_getElem? (i := 180) rfl), lw_t7 (List.mem_of_getElem? (i := 181) rfl)⟩
theorem lw_p89 : lw_okq (⟨"NameRestsModel", "ran", "(I)V"⟩, 47) := ⟨⟨by decide +kernel, by decide +kernel⟩, lw_t5 (List.mem_of_getElem? (i := 198) rfl), lw_t7 (List.mem_of_getElem? (i := 187) rfl), lw_t7 (List.mem_of_getElem? (i := 188) rfl)⟩
theorem lw_p90 : lw_okq (⟨"NameRestsModel", "plainGives", "(II)I"⟩, 47) := ⟨⟨by decide +kernel, by decide +kernel⟩, lw_t5 (List.mem_of_getElem? (i := 198) rfl), lw_t7 (List.mem_of_getElem? (i := 191) rfl), lw_t7 (List.mem_of_getElem? (i := 192) rfl)⟩
theorem lw_p91 : lw_okq (⟨"NameRestsModel", "toldGives", "(II)I"⟩, 47) := ⟨⟨by decide +kernel, by decide +kernel⟩, lw_t5 (List.mem_of_getElem? (i := 198) rfl), lw_t7 (List.mem_of_getElem? (i := 195) rfl), lw_t7 (List.mem_of_getElem? (i := 196) rfl)⟩
theorem lw_p92 : lw_okq (⟨"NameRestsModel", "holding", "(II)I"⟩, 47) := ⟨⟨by decide +kernel, by decide +kernel⟩, lw_t5 (List.mem_of_getElem? (i := 198) rfl), lw_t7 (List.mem_of_getElem? (i := 199) rfl), lw_t7 (List.mem_of_getElem? (i := 200) rfl)⟩
theorem lw_p93 : lw_okq (⟨"NameRestsModel", "soonHolds", "(II)I"⟩, 47) := ⟨⟨by decide +kernel, by decide +kernel⟩, lw_t5 (List.mem_of_getElem? (i := 198) rfl), lw_t7 (List.mem_of_getElem? (i := 203) rfl), lw_t7 (List.mem_of_getElem? (i := 204) rfl)⟩
theorem lw_p94 : lw_okq (⟨"NameRestsModel", "plainHolds", "(II)I"⟩, 47) := ⟨⟨by decide +kernel, by decide +kernel⟩, lw_t5 (List.mem_of_getElem? (i := 198) rfl), lw_t7 (List.mem_of_getElem? (i := 207) rfl), lw_t7 (List.mem_of_getElem? (i := 208) rfl)⟩
theorem lw_p95 : lw_okq (⟨"NameRestsModel", "knowing", "(II)I"⟩, 47) := ⟨⟨by decide +kernel, by decide +kernel⟩, lw_t5 (List.mem_of_getElem? (i := 198) rfl), lw_t7 (List.mem_of_getElem? (i := 211) rfl), lw_t7 (List.mem_of_getElem? (i := 212) rfl)⟩
def lw_privs_6 : List (MethodName × Nat) := [(⟨"NameRestsModel", "personAt", "(I)I"⟩, 47), (⟨"NameRestsModel", "aheadOf", "(I)I"⟩, 47), (⟨"NameRestsModel", "given", "(II)I"⟩, 47), (⟨"NameRestsModel", "latestHeld", "(III)I"⟩, 47), (⟨"NameRestsModel", "runBy", "(I)V"⟩, 47), (⟨"NameRestsModel", "unlikeNames", "()I"⟩, 47), (⟨"NameRestsModel", "isFreeWithout", "(III)Z"⟩, 47), (⟨"NameRestsModel", "isBody", "(I)Z"⟩, 47), (⟨"NameRestsModel", "giving", "(II)I"⟩, 47), (⟨"NameRestsModel", "ran", "(I)V"⟩, 47), (⟨"NameRestsModel", "plainGives", "(II)I"⟩, 47), (⟨"NameRestsModel", "toldGives", "(II)I"⟩, 47), (⟨"NameRestsModel", "holding", "(II)I"⟩, 47), (⟨"NameRestsModel", "soonHolds", "(II)I"⟩, 47), (⟨"NameRestsModel", "plainHolds", "(II)I"⟩, 47), (⟨"NameRestsModel", "knowing", "(II)I"⟩, 47)]
theorem lw_r6 : ∀ q ∈ lw_privs_6, lw_okq q := List.forall_mem_cons.mpr ⟨lw_p80, List.forall_mem_cons.mpr ⟨lw_p81, List.forall_mem_cons.mpr ⟨lw_p82, List.forall_mem_cons.mpr ⟨lw_p83, List.forall_mem_cons.mpr ⟨lw_p84, List.forall_mem_cons.mpr ⟨lw_p85, List.forall_mem_cons.mpr ⟨lw_p86, List.forall_mem_cons.mpr ⟨lw_p87, List.forall_mem_cons.mpr ⟨lw_p88, List.forall_mem_cons.mpr ⟨lw_p89, List.forall_mem_cons.mpr ⟨lw_p90, List.forall_mem_cons.mpr ⟨lw_p91, List.forall_mem_cons.mpr ⟨lw_p92, List.forall_mem_cons.mpr ⟨lw_p93, List.forall_mem_cons.mpr ⟨lw_p94, List.forall_mem_cons.mpr ⟨lw_p95, fun _ h => absurd h List.not_mem_nil⟩⟩⟩⟩⟩⟩⟩⟩⟩⟩⟩⟩⟩⟩⟩⟩
theorem lw_p96 : lw_okq (⟨"NameRestsModel", "wishKnows", "(II)I"⟩, 47) := ⟨⟨by decide +kernel, by decide +kernel⟩, lw_t5 (List.mem_of_getElem? (i := 198) rfl), lw_t7 (List.mem_of_getElem? (i := 215) rfl), lw_t7 (List.mem_of_getElem? (i := 216) rfl)⟩
theorem lw_p97 : lw_okq (⟨"NameRestsModel", "plainKnows", "(II)I"⟩, 47) := ⟨⟨by decide +kernel, by decide +kernel⟩, lw_t5 (List.mem_of_getElem? (i := 198) rfl), lw_t7 (List.mem_of_getElem? (i := 219) rfl), lw_t7 (List.mem_of_getElem? (i := 220) rfl)⟩
theorem lw_p98 : lw_okq (⟨"NameRestsModel", "telling", "(II)I"⟩, 47) := ⟨⟨by decide +kernel, by decide +kernel⟩, lw_t5 (List.mem_of_getElem? (i := 198) rfl), lw_t7 (List.mem_of_getElem? (i := 223) rfl), lw_t7 (List.mem_of_getElem? (i := 224) rfl)⟩
theorem lw_p99 : lw_okq (⟨"NameRestsModel", "plainTells", "(II)I"⟩, 47) := ⟨⟨by decide +kernel, by decide +kernel⟩, lw_t5 (List.mem_of_getElem? (i := 198) rfl), lw_t7 (List.mem_of_getElem? (i := 227) rfl), lw_t7 (List.mem_of_getElem? (i := 228) rfl)⟩
theorem lw_p100 : lw_okq (⟨"NameRestsModel", "namedMany", "()I"⟩, 47) := ⟨⟨by decide +kernel, by decide +kernel⟩, lw_t5 (List.mem_of_getElem? (i := 198) rfl), lw_t7 (List.mem_of_getElem? (i := 235) rfl), lw_t7 (List.mem_of_getElem? (i := 236) rfl)⟩
theorem lw_p101 : lw_okq (⟨"NameRestsModel", "whyNoPlace", "(II)I"⟩, 47) := ⟨⟨by decide +kernel, by decide +kernel⟩, lw_t5 (List.mem_of_getElem? (i := 198) rfl), lw_t8 (List.mem_of_getElem? (i := 11) rfl), lw_t8 (List.mem_of_getElem? (i := 12) rfl)⟩
def lw_privs_7 : List (MethodName × Nat) := [(⟨"NameRestsModel", "wishKnows", "(II)I"⟩, 47), (⟨"NameRestsModel", "plainKnows", "(II)I"⟩, 47), (⟨"NameRestsModel", "telling", "(II)I"⟩, 47), (⟨"NameRestsModel", "plainTells", "(II)I"⟩, 47), (⟨"NameRestsModel", "namedMany", "()I"⟩, 47), (⟨"NameRestsModel", "whyNoPlace", "(II)I"⟩, 47)]
theorem lw_r7 : ∀ q ∈ lw_privs_7, lw_okq q := List.forall_mem_cons.mpr ⟨lw_p96, List.forall_mem_cons.mpr ⟨lw_p97, List.forall_mem_cons.mpr ⟨lw_p98, List.forall_mem_cons.mpr ⟨lw_p99, List.forall_mem_cons.mpr ⟨lw_p100, List.forall_mem_cons.mpr ⟨lw_p101, fun _ h => absurd h List.not_mem_nil⟩⟩⟩⟩⟩⟩
def lw_privs : List (MethodName × Nat) := lw_privs_1 ++ (lw_privs_2 ++ (lw_privs_3 ++ (lw_privs_4 ++ (lw_privs_5 ++ (lw_privs_6 ++ (lw_privs_7))))))
def lw_tbl : List Cond := k2_sels lw_privs ++ tables_1
theorem lw_privs_ok : ∀ q ∈ lw_privs, lw_okq q := by
  show ∀ q ∈ lw_privs_1 ++ (lw_privs_2 ++ (lw_privs_3 ++ (lw_privs_4 ++ (lw_privs_5 ++ (lw_privs_6 ++ (lw_privs_7)))))), lw_okq q
  exact List.forall_mem_append.mpr ⟨lw_r1, List.forall_mem_append.mpr ⟨lw_r2, List.forall_mem_append.mpr ⟨lw_r3, List.forall_mem_append.mpr ⟨lw_r4, List.forall_mem_append.mpr ⟨lw_r5, List.forall_mem_append.mpr ⟨lw_r6, lw_r7⟩⟩⟩⟩⟩⟩
-- ===== ONE list of words for every method: the tables' words that hold all through a run =====
def lw_all : List Cond := lw_tbl.filter goodWord
/-- a word of the tables by its place: claim/WORDS.tsv -/
theorem lw_w {w : Cond} (i : Nat) (h : lw_tbl[i]? = some w) (g : goodWord w = true) : w ∈ lw_all := List.mem_filter.mpr ⟨List.mem_of_getElem? h, g⟩
theorem lw_all_tbl {w : Cond} (h : w ∈ lw_all) : w ∈ lw_tbl := (List.mem_filter.mp h).1
theorem lw_self : GoodIn lw_all lw_all := fun w h => ⟨h, good_of_word (List.mem_filter.mp h).2⟩
/-- a class's field words, by their places -/
theorem lw_in (ws : List Cond) (ps : List Nat) (hp : ws = ps.filterMap (fun i => lw_tbl[i]?)) (hg : ws.all goodWord = true) : ∀ w ∈ ws, w ∈ lw_all := by
  intro w h
  have h1 := List.all_eq_true.mp hg w h
  rw [hp] at h
  obtain ⟨i, -, hi⟩ := List.mem_filterMap.mp h
  exact lw_w i hi h1
/-- the words of a contract for the method y with code b, L locals, answer r -/
abbrev ws_ (y : MethodName) (b : ByteArray) (L : Nat) (r : Option FieldType) : List Cond := Cond.code y b L r :: lw_all
theorem lw_meth {y : MethodName} {b : ByteArray} {L : Nat} {r : Option FieldType} (h : Cond.code y b L r ∈ lw_all) : GoodIn lw_all (ws_ y b L r) := by
  intro w hw
  rcases List.mem_cons.mp hw with e | e
  · rw [e]
    exact lw_self _ h
  · exact lw_self _ e
theorem lw_app {a c : List Cond} (ha : ∀ w ∈ a, w ∈ lw_all) (hc : GoodIn lw_all c) : GoodIn lw_all (a ++ c) := by
  intro w hw
  rcases List.mem_append.mp hw with e | e
  · exact lw_self w (ha w e)
  · exact hc w e
/-- what a call through an object asks: cwV n hts (lw_V ..) -/
theorem lw_V {own : String} {idx : Nat} {C : String} {y : MethodName} {b : ByteArray} {L : Nat} {r : Option FieldType} (h1 : Cond.methodLink own idx y ∈ lw_all) (h2 : Cond.instanceMethod y ∈ lw_all) (h3 : Cond.selects C y y ∈ lw_all) (h4 : Cond.initialized C ∈ lw_all) (h5 : Cond.code y b L r ∈ lw_all) : GoodIn lw_all (wsV own idx C y (ws_ y b L r)) := by
  refine lw_app ?_ (lw_meth h5)
  intro w hw
  simp only [List.mem_cons, List.not_mem_nil, or_false] at hw
  rcases hw with e | e | e | e
  · rw [e]; exact h1
  · rw [e]; exact h2
  · rw [e]; exact h3
  · rw [e]; exact h4
/-- what a static call asks: va_cwS n hts (lw_S ..) -/
theorem lw_S {own : String} {idx : Nat} {y : MethodName} {b : ByteArray} {L : Nat} {r : Option FieldType} (h1 : Cond.methodLink own idx y ∈ lw_all) (h2 : Cond.static y ∈ lw_all) (h3 : Cond.initialized y.cls ∈ lw_all) (h4 : Cond.code y b L r ∈ lw_all) : GoodIn lw_all (va_wsS own idx y (ws_ y b L r)) := by
  refine lw_app ?_ (lw_meth h4)
  intro w hw
  simp only [List.mem_cons, List.not_mem_nil, or_false] at hw
  rcases hw with e | e | e
  · rw [e]; exact h1
  · rw [e]; exact h2
  · rw [e]; exact h3
/-- the words of a contract for a method WITH HANDLERS (hh: its table) -/
abbrev wsW_ (y : MethodName) (b : ByteArray) (L : Nat) (r : Option FieldType) (hh : List (Nat × Nat × Nat × Nat)) : List Cond := Cond.codeWith y b L r hh :: lw_all
theorem lw_methW {y : MethodName} {b : ByteArray} {L : Nat} {r : Option FieldType} {hh : List (Nat × Nat × Nat × Nat)} (h : Cond.codeWith y b L r hh ∈ lw_all) : GoodIn lw_all (wsW_ y b L r hh) := by
  intro w hw
  rcases List.mem_cons.mp hw with e | e
  · rw [e]
    exact lw_self _ h
  · exact lw_self _ e
/-- any list of words by their places (lw_in), good -/
theorem lw_good {ws : List Cond} (h : ∀ w ∈ ws, w ∈ lw_all) : GoodIn lw_all ws := fun w hw => lw_self w (h w hw)
/-- what a call of a method with handlers asks: vx_cwVW n hts (lw_VW ..), vx_cwSW n hts (lw_SW ..) -/
theorem lw_VW {own : String} {idx : Nat} {C : String} {y : MethodName} {b : ByteArray} {L : Nat} {r : Option FieldType} {hh : List (Nat × Nat × Nat × Nat)} (h1 : Cond.methodLink own idx y ∈ lw_all) (h2 : Cond.instanceMethod y ∈ lw_all) (h3 : Cond.selects C y y ∈ lw_all) (h4 : Cond.initialized C ∈ lw_all) (h5 : Cond.codeWith y b L r hh ∈ lw_all) : GoodIn lw_all (wsV own idx C y (wsW_ y b L r hh)) := by
  refine lw_app ?_ (lw_methW h5)
  intro w hw
  simp only [List.mem_cons, List.not_mem_nil, or_false] at hw
  rcases hw with e | e | e | e
  · rw [e]; exact h1
  · rw [e]; exact h2
  · rw [e]; exact h3
  · rw [e]; exact h4
theorem lw_SW {own : String} {idx : Nat} {y : MethodName} {b : ByteArray} {L : Nat} {r : Option FieldType} {hh : List (Nat × Nat × Nat × Nat)} (h1 : Cond.methodLink own idx y ∈ lw_all) (h2 : Cond.static y ∈ lw_all) (h3 : Cond.initialized y.cls ∈ lw_all) (h4 : Cond.codeWith y b L r hh ∈ lw_all) : GoodIn lw_all (va_wsS own idx y (wsW_ y b L r hh)) := by
  refine lw_app ?_ (lw_methW h4)
  intro w hw
  simp only [List.mem_cons, List.not_mem_nil, or_false] at hw
  rcases hw with e | e | e
  · rw [e]; exact h1
  · rw [e]; exact h2
  · rw [e]; exact h3
/-- a word by its place in its run of the tables -/
theorem lw_at {r : List Cond} (hr : ∀ w ∈ r, w ∈ lw_tbl) {w : Cond} (i : Nat) (h : r[i]? = some w) : w ∈ lw_tbl := hr w (List.mem_of_getElem? h)
theorem lw_g {w : Cond} (h : w ∈ lw_tbl) (g : goodWord w = true) : w ∈ lw_all := List.mem_filter.mpr ⟨h, g⟩
theorem lw_ms : ∀ w ∈ k2_sels lw_privs, w ∈ lw_tbl := fun w h => show w ∈ k2_sels lw_privs ++ tables_1 from List.mem_append_left _ h
theorem lw_m1 : ∀ w ∈ tables_1_1, w ∈ lw_tbl := fun w h => show w ∈ k2_sels lw_privs ++ tables_1 from List.mem_append_right (k2_sels lw_privs) (show w ∈ tables_1 from List.mem_append_left _ h)
theorem lw_m2 : ∀ w ∈ tables_1_2, w ∈ lw_tbl := fun w h => show w ∈ k2_sels lw_privs ++ tables_1 from List.mem_append_right (k2_sels lw_privs) (show w ∈ tables_1 from List.mem_append_right _ (List.mem_append_left _ h))
theorem lw_m3 : ∀ w ∈ tables_1_3, w ∈ lw_tbl := fun w h => show w ∈ k2_sels lw_privs ++ tables_1 from List.mem_append_right (k2_sels lw_privs) (show w ∈ tables_1 from List.mem_append_right _ (List.mem_append_right _ (List.mem_append_left _ h)))
theorem lw_m4 : ∀ w ∈ tables_1_4, w ∈ lw_tbl := fun w h => show w ∈ k2_sels lw_privs ++ tables_1 from List.mem_append_right (k2_sels lw_privs) (show w ∈ tables_1 from List.mem_append_right _ (List.mem_append_right _ (List.mem_append_right _ (List.mem_append_left _ h))))
theorem lw_m5 : ∀ w ∈ tables_1_5, w ∈ lw_tbl := fun w h => show w ∈ k2_sels lw_privs ++ tables_1 from List.mem_append_right (k2_sels lw_privs) (show w ∈ tables_1 from List.mem_append_right _ (List.mem_append_right _ (List.mem_append_right _ (List.mem_append_right _ (List.mem_append_left _ h)))))
theorem lw_m6 : ∀ w ∈ tables_1_6, w ∈ lw_tbl := fun w h => show w ∈ k2_sels lw_privs ++ tables_1 from List.mem_append_right (k2_sels lw_privs) (show w ∈ tables_1 from List.mem_append_right _ (List.mem_append_right _ (List.mem_append_right _ (List.mem_append_right _ (List.mem_append_right _ (List.mem_append_left _ h))))))
theorem lw_m7 : ∀ w ∈ tables_1_7, w ∈ lw_tbl := fun w h => show w ∈ k2_sels lw_privs ++ tables_1 from List.mem_append_right (k2_sels lw_privs) (show w ∈ tables_1 from List.mem_append_right _ (List.mem_append_right _ (List.mem_append_right _ (List.mem_append_right _ (List.mem_append_right _ (List.mem_append_right _ (List.mem_append_left _ h)))))))
theorem lw_m8 : ∀ w ∈ tables_1_8, w ∈ lw_tbl := fun w h => show w ∈ k2_sels lw_privs ++ tables_1 from List.mem_append_right (k2_sels lw_privs) (show w ∈ tables_1 from List.mem_append_right _ (List.mem_append_right _ (List.mem_append_right _ (List.mem_append_right _ (List.mem_append_right _ (List.mem_append_right _ (List.mem_append_right _ h)))))))
theorem qs0 : (Cond.selects "java/lang/Throwable" ⟨"java/lang/Throwable", "fillInStackTrace", "(I)Ljava/lang/Throwable;"⟩ ⟨"java/lang/Throwable", "fillInStackTrace", "(I)Ljava/lang/Throwable;"⟩) ∈ lw_all := lw_g (lw_at lw_ms 0 rfl) rfl
theorem qs1 : (Cond.selects "NameRests" ⟨"NameRests", "add", "(LNameRests$Person;)V"⟩ ⟨"NameRests", "add", "(LNameRests$Person;)V"⟩) ∈ lw_all := lw_g (lw_at lw_ms 1 rfl) rfl
theorem qs2 : (Cond.selects "NameRests" ⟨"NameRests", "toldIn", "(Ljava/lang/Object;J)I"⟩ ⟨"NameRests", "toldIn", "(Ljava/lang/Object;J)I"⟩) ∈ lw_all := lw_g (lw_at lw_ms 2 rfl) rfl
theorem qs3 : (Cond.selects "NameRests" ⟨"NameRests", "isPerson", "(I)Z"⟩ ⟨"NameRests", "isPerson", "(I)Z"⟩) ∈ lw_all := lw_g (lw_at lw_ms 3 rfl) rfl
theorem qs4 : (Cond.selects "NameRests" ⟨"NameRests", "doLive", "(III)Z"⟩ ⟨"NameRests", "doLive", "(III)Z"⟩) ∈ lw_all := lw_g (lw_at lw_ms 4 rfl) rfl
theorem qs5 : (Cond.selects "NameRests" ⟨"NameRests", "become", "(LNameRests$Held;I)I"⟩ ⟨"NameRests", "become", "(LNameRests$Held;I)I"⟩) ∈ lw_all := lw_g (lw_at lw_ms 5 rfl) rfl
theorem qs6 : (Cond.selects "NameRests" ⟨"NameRests", "ofPerson", "(II)I"⟩ ⟨"NameRests", "ofPerson", "(II)I"⟩) ∈ lw_all := lw_g (lw_at lw_ms 6 rfl) rfl
theorem qs7 : (Cond.selects "NameRests" ⟨"NameRests", "placeOf", "(I)I"⟩ ⟨"NameRests", "placeOf", "(I)I"⟩) ∈ lw_all := lw_g (lw_at lw_ms 7 rfl) rfl
theorem qs8 : (Cond.selects "NameRests" ⟨"NameRests", "bearersOf", "(I)I"⟩ ⟨"NameRests", "bearersOf", "(I)I"⟩) ∈ lw_all := lw_g (lw_at lw_ms 8 rfl) rfl
theorem qs9 : (Cond.selects "NameRests" ⟨"NameRests", "isMeeting", "(I)Z"⟩ ⟨"NameRests", "isMeeting", "(I)Z"⟩) ∈ lw_all := lw_g (lw_at lw_ms 9 rfl) rfl
theorem qs10 : (Cond.selects "NameRests" ⟨"NameRests", "doesCount", "(I)Z"⟩ ⟨"NameRests", "doesCount", "(I)Z"⟩) ∈ lw_all := lw_g (lw_at lw_ms 10 rfl) rfl
theorem qs11 : (Cond.selects "NameRests" ⟨"NameRests", "readLaw", "()LNameRests$Line;"⟩ ⟨"NameRests", "readLaw", "()LNameRests$Line;"⟩) ∈ lw_all := lw_g (lw_at lw_ms 11 rfl) rfl
theorem qs12 : (Cond.selects "NameRests" ⟨"NameRests", "readLine", "()LNameRests$Line;"⟩ ⟨"NameRests", "readLine", "()LNameRests$Line;"⟩) ∈ lw_all := lw_g (lw_at lw_ms 12 rfl) rfl
theorem qs13 : (Cond.selects "NameRests" ⟨"NameRests", "readEither", "()LNameRests$Term;"⟩ ⟨"NameRests", "readEither", "()LNameRests$Term;"⟩) ∈ lw_all := lw_g (lw_at lw_ms 13 rfl) rfl
theorem qs14 : (Cond.selects "NameRests" ⟨"NameRests", "readAll", "()LNameRests$Term;"⟩ ⟨"NameRests", "readAll", "()LNameRests$Term;"⟩) ∈ lw_all := lw_g (lw_at lw_ms 14 rfl) rfl
theorem qs15 : (Cond.selects "NameRests" ⟨"NameRests", "readLike", "()LNameRests$Term;"⟩ ⟨"NameRests", "readLike", "()LNameRests$Term;"⟩) ∈ lw_all := lw_g (lw_at lw_ms 15 rfl) rfl
theorem qs16 : (Cond.selects "NameRests" ⟨"NameRests", "readPlus", "()LNameRests$Term;"⟩ ⟨"NameRests", "readPlus", "()LNameRests$Term;"⟩) ∈ lw_all := lw_g (lw_at lw_ms 16 rfl) rfl
theorem qs17 : (Cond.selects "NameRests" ⟨"NameRests", "readTimes", "()LNameRests$Term;"⟩ ⟨"NameRests", "readTimes", "()LNameRests$Term;"⟩) ∈ lw_all := lw_g (lw_at lw_ms 17 rfl) rfl
theorem qs18 : (Cond.selects "NameRests" ⟨"NameRests", "readOne", "()LNameRests$Term;"⟩ ⟨"NameRests", "readOne", "()LNameRests$Term;"⟩) ∈ lw_all := lw_g (lw_at lw_ms 18 rfl) rfl
theorem qs19 : (Cond.selects "NameRests" ⟨"NameRests", "isDigit", "()Z"⟩ ⟨"NameRests", "isDigit", "()Z"⟩) ∈ lw_all := lw_g (lw_at lw_ms 19 rfl) rfl
theorem qs20 : (Cond.selects "NameRests" ⟨"NameRests", "peek", "()I"⟩ ⟨"NameRests", "peek", "()I"⟩) ∈ lw_all := lw_g (lw_at lw_ms 20 rfl) rfl
theorem qs21 : (Cond.selects "NameRests" ⟨"NameRests", "expect", "(I)V"⟩ ⟨"NameRests", "expect", "(I)V"⟩) ∈ lw_all := lw_g (lw_at lw_ms 21 rfl) rfl
theorem qs22 : (Cond.selects "NameRests" ⟨"NameRests", "take", "(I)Z"⟩ ⟨"NameRests", "take", "(I)Z"⟩) ∈ lw_all := lw_g (lw_at lw_ms 22 rfl) rfl
theorem qs23 : (Cond.selects "NameRests" ⟨"NameRests", "knowUpTo", "(II)V"⟩ ⟨"NameRests", "knowUpTo", "(II)V"⟩) ∈ lw_all := lw_g (lw_at lw_ms 23 rfl) rfl
theorem qs24 : (Cond.selects "NameRests" ⟨"NameRests", "asNamed", "()V"⟩ ⟨"NameRests", "asNamed", "()V"⟩) ∈ lw_all := lw_g (lw_at lw_ms 24 rfl) rfl
theorem qs25 : (Cond.selects "NameRests" ⟨"NameRests", "tillOf", "(II)I"⟩ ⟨"NameRests", "tillOf", "(II)I"⟩) ∈ lw_all := lw_g (lw_at lw_ms 25 rfl) rfl
theorem qs26 : (Cond.selects "NameRests" ⟨"NameRests", "isHeld", "(II)Z"⟩ ⟨"NameRests", "isHeld", "(II)Z"⟩) ∈ lw_all := lw_g (lw_at lw_ms 26 rfl) rfl
theorem qs27 : (Cond.selects "NameRests" ⟨"NameRests", "isFamed", "(II)Z"⟩ ⟨"NameRests", "isFamed", "(II)Z"⟩) ∈ lw_all := lw_g (lw_at lw_ms 27 rfl) rfl
theorem qs28 : (Cond.selects "NameRests" ⟨"NameRests", "holders", "(II)I"⟩ ⟨"NameRests", "holders", "(II)I"⟩) ∈ lw_all := lw_g (lw_at lw_ms 28 rfl) rfl
theorem qs29 : (Cond.selects "NameRests" ⟨"NameRests", "doesHold", "(III)Z"⟩ ⟨"NameRests", "doesHold", "(III)Z"⟩) ∈ lw_all := lw_g (lw_at lw_ms 29 rfl) rfl
theorem qs30 : (Cond.selects "NameRests" ⟨"NameRests", "holdsFor", "(IIII)Z"⟩ ⟨"NameRests", "holdsFor", "(IIII)Z"⟩) ∈ lw_all := lw_g (lw_at lw_ms 30 rfl) rfl
theorem qs31 : (Cond.selects "NameRests" ⟨"NameRests", "ruled", "()Z"⟩ ⟨"NameRests", "ruled", "()Z"⟩) ∈ lw_all := lw_g (lw_at lw_ms 31 rfl) rfl
theorem qs32 : (Cond.selects "NameRests" ⟨"NameRests", "freeIn", "(I)I"⟩ ⟨"NameRests", "freeIn", "(I)I"⟩) ∈ lw_all := lw_g (lw_at lw_ms 32 rfl) rfl
theorem qs33 : (Cond.selects "NameRests" ⟨"NameRests", "nobodyBears", "()V"⟩ ⟨"NameRests", "nobodyBears", "()V"⟩) ∈ lw_all := lw_g (lw_at lw_ms 33 rfl) rfl
theorem qs34 : (Cond.selects "NameRests" ⟨"NameRests", "asAheadOf", "(I)V"⟩ ⟨"NameRests", "asAheadOf", "(I)V"⟩) ∈ lw_all := lw_g (lw_at lw_ms 34 rfl) rfl
theorem qs35 : (Cond.selects "NameRests" ⟨"NameRests", "givenIn", "(II)I"⟩ ⟨"NameRests", "givenIn", "(II)I"⟩) ∈ lw_all := lw_g (lw_at lw_ms 35 rfl) rfl
theorem qs36 : (Cond.selects "NameRests" ⟨"NameRests", "rank", "(III)I"⟩ ⟨"NameRests", "rank", "(III)I"⟩) ∈ lw_all := lw_g (lw_at lw_ms 36 rfl) rfl
theorem qs37 : (Cond.selects "NameRests" ⟨"NameRests", "latestHeld", "(II)I"⟩ ⟨"NameRests", "latestHeld", "(II)I"⟩) ∈ lw_all := lw_g (lw_at lw_ms 37 rfl) rfl
theorem qs38 : (Cond.selects "NameRests" ⟨"NameRests", "nameAll", "(I)V"⟩ ⟨"NameRests", "nameAll", "(I)V"⟩) ∈ lw_all := lw_g (lw_at lw_ms 38 rfl) rfl
theorem qs39 : (Cond.selects "NameRests" ⟨"NameRests", "namesUsed", "()I"⟩ ⟨"NameRests", "namesUsed", "()I"⟩) ∈ lw_all := lw_g (lw_at lw_ms 39 rfl) rfl
theorem qs40 : (Cond.selects "NameRests" ⟨"NameRests", "isFreeWithout", "(III)Z"⟩ ⟨"NameRests", "isFreeWithout", "(III)Z"⟩) ∈ lw_all := lw_g (lw_at lw_ms 40 rfl) rfl
theorem qs41 : (Cond.selects "NameRests" ⟨"NameRests", "made", "(I)LNameRests$Body;"⟩ ⟨"NameRests", "made", "(I)LNameRests$Body;"⟩) ∈ lw_all := lw_g (lw_at lw_ms 41 rfl) rfl
theorem qs42 : (Cond.selects "NameRests" ⟨"NameRests", "isBody", "(I)Z"⟩ ⟨"NameRests", "isBody", "(I)Z"⟩) ∈ lw_all := lw_g (lw_at lw_ms 42 rfl) rfl
theorem qs43 : (Cond.selects "NameRests" ⟨"NameRests", "refusal", "(II)I"⟩ ⟨"NameRests", "refusal", "(II)I"⟩) ∈ lw_all := lw_g (lw_at lw_ms 43 rfl) rfl
theorem qs44 : (Cond.selects "NameRests" ⟨"NameRests", "namedMany", "()I"⟩ ⟨"NameRests", "namedMany", "()I"⟩) ∈ lw_all := lw_g (lw_at lw_ms 44 rfl) rfl
theorem qs45 : (Cond.selects "NameRestsModel" ⟨"NameRestsModel", "addPerson", "(III)I"⟩ ⟨"NameRestsModel", "addPerson", "(III)I"⟩) ∈ lw_all := lw_g (lw_at lw_ms 45 rfl) rfl
theorem qs46 : (Cond.selects "NameRestsModel" ⟨"NameRestsModel", "isPerson", "(I)Z"⟩ ⟨"NameRestsModel", "isPerson", "(I)Z"⟩) ∈ lw_all := lw_g (lw_at lw_ms 46 rfl) rfl
theorem qs47 : (Cond.selects "NameRestsModel" ⟨"NameRestsModel", "lives", "(II)Z"⟩ ⟨"NameRestsModel", "lives", "(II)Z"⟩) ∈ lw_all := lw_g (lw_at lw_ms 47 rfl) rfl
theorem qs48 : (Cond.selects "NameRestsModel" ⟨"NameRestsModel", "lays", "(III)V"⟩ ⟨"NameRestsModel", "lays", "(III)V"⟩) ∈ lw_all := lw_g (lw_at lw_ms 48 rfl) rfl
theorem qs49 : (Cond.selects "NameRestsModel" ⟨"NameRestsModel", "changes", "(III)I"⟩ ⟨"NameRestsModel", "changes", "(III)I"⟩) ∈ lw_all := lw_g (lw_at lw_ms 49 rfl) rfl
theorem qs50 : (Cond.selects "NameRestsModel" ⟨"NameRestsModel", "valueAt", "(II)I"⟩ ⟨"NameRestsModel", "valueAt", "(II)I"⟩) ∈ lw_all := lw_g (lw_at lw_ms 50 rfl) rfl
theorem qs51 : (Cond.selects "NameRestsModel" ⟨"NameRestsModel", "placeOf", "(I)I"⟩ ⟨"NameRestsModel", "placeOf", "(I)I"⟩) ∈ lw_all := lw_g (lw_at lw_ms 51 rfl) rfl
theorem qs52 : (Cond.selects "NameRestsModel" ⟨"NameRestsModel", "isAhead", "(II)Z"⟩ ⟨"NameRestsModel", "isAhead", "(II)Z"⟩) ∈ lw_all := lw_g (lw_at lw_ms 52 rfl) rfl
theorem qs53 : (Cond.selects "NameRestsModel" ⟨"NameRestsModel", "bearersOf", "(I)I"⟩ ⟨"NameRestsModel", "bearersOf", "(I)I"⟩) ∈ lw_all := lw_g (lw_at lw_ms 53 rfl) rfl
theorem qs54 : (Cond.selects "NameRestsModel" ⟨"NameRestsModel", "counts", "(I)Z"⟩ ⟨"NameRestsModel", "counts", "(I)Z"⟩) ∈ lw_all := lw_g (lw_at lw_ms 54 rfl) rfl
theorem qs55 : (Cond.selects "NameRestsModel" ⟨"NameRestsModel", "readText", "(I)I"⟩ ⟨"NameRestsModel", "readText", "(I)I"⟩) ∈ lw_all := lw_g (lw_at lw_ms 55 rfl) rfl
theorem qs56 : (Cond.selects "NameRestsModel" ⟨"NameRestsModel", "line", "()V"⟩ ⟨"NameRestsModel", "line", "()V"⟩) ∈ lw_all := lw_g (lw_at lw_ms 56 rfl) rfl
theorem qs57 : (Cond.selects "NameRestsModel" ⟨"NameRestsModel", "either", "()V"⟩ ⟨"NameRestsModel", "either", "()V"⟩) ∈ lw_all := lw_g (lw_at lw_ms 57 rfl) rfl
theorem qs58 : (Cond.selects "NameRestsModel" ⟨"NameRestsModel", "both", "()V"⟩ ⟨"NameRestsModel", "both", "()V"⟩) ∈ lw_all := lw_g (lw_at lw_ms 58 rfl) rfl
theorem qs59 : (Cond.selects "NameRestsModel" ⟨"NameRestsModel", "compared", "()V"⟩ ⟨"NameRestsModel", "compared", "()V"⟩) ∈ lw_all := lw_g (lw_at lw_ms 59 rfl) rfl
theorem qs60 : (Cond.selects "NameRestsModel" ⟨"NameRestsModel", "sum", "()V"⟩ ⟨"NameRestsModel", "sum", "()V"⟩) ∈ lw_all := lw_g (lw_at lw_ms 60 rfl) rfl
theorem qs61 : (Cond.selects "NameRestsModel" ⟨"NameRestsModel", "product", "()V"⟩ ⟨"NameRestsModel", "product", "()V"⟩) ∈ lw_all := lw_g (lw_at lw_ms 61 rfl) rfl
theorem qs62 : (Cond.selects "NameRestsModel" ⟨"NameRestsModel", "operand", "()V"⟩ ⟨"NameRestsModel", "operand", "()V"⟩) ∈ lw_all := lw_g (lw_at lw_ms 62 rfl) rfl
theorem qs63 : (Cond.selects "NameRestsModel" ⟨"NameRestsModel", "look", "()I"⟩ ⟨"NameRestsModel", "look", "()I"⟩) ∈ lw_all := lw_g (lw_at lw_ms 63 rfl) rfl
theorem qs64 : (Cond.selects "NameRestsModel" ⟨"NameRestsModel", "addStep", "(II)V"⟩ ⟨"NameRestsModel", "addStep", "(II)V"⟩) ∈ lw_all := lw_g (lw_at lw_ms 64 rfl) rfl
theorem qs65 : (Cond.selects "NameRestsModel" ⟨"NameRestsModel", "opens", "()Z"⟩ ⟨"NameRestsModel", "opens", "()Z"⟩) ∈ lw_all := lw_g (lw_at lw_ms 65 rfl) rfl
theorem qs66 : (Cond.selects "NameRestsModel" ⟨"NameRestsModel", "faulty", "()V"⟩ ⟨"NameRestsModel", "faulty", "()V"⟩) ∈ lw_all := lw_g (lw_at lw_ms 66 rfl) rfl
theorem qs67 : (Cond.selects "NameRestsModel" ⟨"NameRestsModel", "figure", "()V"⟩ ⟨"NameRestsModel", "figure", "()V"⟩) ∈ lw_all := lw_g (lw_at lw_ms 67 rfl) rfl
theorem qs68 : (Cond.selects "NameRestsModel" ⟨"NameRestsModel", "findKnown", "(II)V"⟩ ⟨"NameRestsModel", "findKnown", "(II)V"⟩) ∈ lw_all := lw_g (lw_at lw_ms 68 rfl) rfl
theorem qs69 : (Cond.selects "NameRestsModel" ⟨"NameRestsModel", "asNamed", "()V"⟩ ⟨"NameRestsModel", "asNamed", "()V"⟩) ∈ lw_all := lw_g (lw_at lw_ms 69 rfl) rfl
theorem qs70 : (Cond.selects "NameRestsModel" ⟨"NameRestsModel", "everybody", "()I"⟩ ⟨"NameRestsModel", "everybody", "()I"⟩) ∈ lw_all := lw_g (lw_at lw_ms 70 rfl) rfl
theorem qs71 : (Cond.selects "NameRestsModel" ⟨"NameRestsModel", "isHeld", "(III)Z"⟩ ⟨"NameRestsModel", "isHeld", "(III)Z"⟩) ∈ lw_all := lw_g (lw_at lw_ms 71 rfl) rfl
theorem qs72 : (Cond.selects "NameRestsModel" ⟨"NameRestsModel", "isFamous", "(III)Z"⟩ ⟨"NameRestsModel", "isFamous", "(III)Z"⟩) ∈ lw_all := lw_g (lw_at lw_ms 72 rfl) rfl
theorem qs73 : (Cond.selects "NameRestsModel" ⟨"NameRestsModel", "bears", "(IIII)Z"⟩ ⟨"NameRestsModel", "bears", "(IIII)Z"⟩) ∈ lw_all := lw_g (lw_at lw_ms 73 rfl) rfl
theorem qs74 : (Cond.selects "NameRestsModel" ⟨"NameRestsModel", "holders", "(III)I"⟩ ⟨"NameRestsModel", "holders", "(III)I"⟩) ∈ lw_all := lw_g (lw_at lw_ms 74 rfl) rfl
theorem qs75 : (Cond.selects "NameRestsModel" ⟨"NameRestsModel", "doesHold", "(IIII)Z"⟩ ⟨"NameRestsModel", "doesHold", "(IIII)Z"⟩) ∈ lw_all := lw_g (lw_at lw_ms 75 rfl) rfl
theorem qs76 : (Cond.selects "NameRestsModel" ⟨"NameRestsModel", "holdsFor", "(IIII)Z"⟩ ⟨"NameRestsModel", "holdsFor", "(IIII)Z"⟩) ∈ lw_all := lw_g (lw_at lw_ms 76 rfl) rfl
theorem qs77 : (Cond.selects "NameRestsModel" ⟨"NameRestsModel", "gives", "(I)I"⟩ ⟨"NameRestsModel", "gives", "(I)I"⟩) ∈ lw_all := lw_g (lw_at lw_ms 77 rfl) rfl
theorem qs78 : (Cond.selects "NameRestsModel" ⟨"NameRestsModel", "worked", "(III)I"⟩ ⟨"NameRestsModel", "worked", "(III)I"⟩) ∈ lw_all := lw_g (lw_at lw_ms 78 rfl) rfl
theorem qs79 : (Cond.selects "NameRestsModel" ⟨"NameRestsModel", "heldIn", "(I)I"⟩ ⟨"NameRestsModel", "heldIn", "(I)I"⟩) ∈ lw_all := lw_g (lw_at lw_ms 79 rfl) rfl
theorem qs80 : (Cond.selects "NameRestsModel" ⟨"NameRestsModel", "personAt", "(I)I"⟩ ⟨"NameRestsModel", "personAt", "(I)I"⟩) ∈ lw_all := lw_g (lw_at lw_ms 80 rfl) rfl
theorem qs81 : (Cond.selects "NameRestsModel" ⟨"NameRestsModel", "aheadOf", "(I)I"⟩ ⟨"NameRestsModel", "aheadOf", "(I)I"⟩) ∈ lw_all := lw_g (lw_at lw_ms 81 rfl) rfl
theorem qs82 : (Cond.selects "NameRestsModel" ⟨"NameRestsModel", "given", "(II)I"⟩ ⟨"NameRestsModel", "given", "(II)I"⟩) ∈ lw_all := lw_g (lw_at lw_ms 82 rfl) rfl
theorem qs83 : (Cond.selects "NameRestsModel" ⟨"NameRestsModel", "latestHeld", "(III)I"⟩ ⟨"NameRestsModel", "latestHeld", "(III)I"⟩) ∈ lw_all := lw_g (lw_at lw_ms 83 rfl) rfl
theorem qs84 : (Cond.selects "NameRestsModel" ⟨"NameRestsModel", "runBy", "(I)V"⟩ ⟨"NameRestsModel", "runBy", "(I)V"⟩) ∈ lw_all := lw_g (lw_at lw_ms 84 rfl) rfl
theorem qs85 : (Cond.selects "NameRestsModel" ⟨"NameRestsModel", "unlikeNames", "()I"⟩ ⟨"NameRestsModel", "unlikeNames", "()I"⟩) ∈ lw_all := lw_g (lw_at lw_ms 85 rfl) rfl
theorem qs86 : (Cond.selects "NameRestsModel" ⟨"NameRestsModel", "isFreeWithout", "(III)Z"⟩ ⟨"NameRestsModel", "isFreeWithout", "(III)Z"⟩) ∈ lw_all := lw_g (lw_at lw_ms 86 rfl) rfl
theorem qs87 : (Cond.selects "NameRestsModel" ⟨"NameRestsModel", "isBody", "(I)Z"⟩ ⟨"NameRestsModel", "isBody", "(I)Z"⟩) ∈ lw_all := lw_g (lw_at lw_ms 87 rfl) rfl
theorem qs88 : (Cond.selects "NameRestsModel" ⟨"NameRestsModel", "giving", "(II)I"⟩ ⟨"NameRestsModel", "giving", "(II)I"⟩) ∈ lw_all := lw_g (lw_at lw_ms 88 rfl) rfl
theorem qs89 : (Cond.selects "NameRestsModel" ⟨"NameRestsModel", "ran", "(I)V"⟩ ⟨"NameRestsModel", "ran", "(I)V"⟩) ∈ lw_all := lw_g (lw_at lw_ms 89 rfl) rfl
theorem qs90 : (Cond.selects "NameRestsModel" ⟨"NameRestsModel", "plainGives", "(II)I"⟩ ⟨"NameRestsModel", "plainGives", "(II)I"⟩) ∈ lw_all := lw_g (lw_at lw_ms 90 rfl) rfl
theorem qs91 : (Cond.selects "NameRestsModel" ⟨"NameRestsModel", "toldGives", "(II)I"⟩ ⟨"NameRestsModel", "toldGives", "(II)I"⟩) ∈ lw_all := lw_g (lw_at lw_ms 91 rfl) rfl
theorem qs92 : (Cond.selects "NameRestsModel" ⟨"NameRestsModel", "holding", "(II)I"⟩ ⟨"NameRestsModel", "holding", "(II)I"⟩) ∈ lw_all := lw_g (lw_at lw_ms 92 rfl) rfl
theorem qs93 : (Cond.selects "NameRestsModel" ⟨"NameRestsModel", "soonHolds", "(II)I"⟩ ⟨"NameRestsModel", "soonHolds", "(II)I"⟩) ∈ lw_all := lw_g (lw_at lw_ms 93 rfl) rfl
theorem qs94 : (Cond.selects "NameRestsModel" ⟨"NameRestsModel", "plainHolds", "(II)I"⟩ ⟨"NameRestsModel", "plainHolds", "(II)I"⟩) ∈ lw_all := lw_g (lw_at lw_ms 94 rfl) rfl
theorem qs95 : (Cond.selects "NameRestsModel" ⟨"NameRestsModel", "knowing", "(II)I"⟩ ⟨"NameRestsModel", "knowing", "(II)I"⟩) ∈ lw_all := lw_g (lw_at lw_ms 95 rfl) rfl
theorem qs96 : (Cond.selects "NameRestsModel" ⟨"NameRestsModel", "wishKnows", "(II)I"⟩ ⟨"NameRestsModel", "wishKnows", "(II)I"⟩) ∈ lw_all := lw_g (lw_at lw_ms 96 rfl) rfl
theorem qs97 : (Cond.selects "NameRestsModel" ⟨"NameRestsModel", "plainKnows", "(II)I"⟩ ⟨"NameRestsModel", "plainKnows", "(II)I"⟩) ∈ lw_all := lw_g (lw_at lw_ms 97 rfl) rfl
theorem qs98 : (Cond.selects "NameRestsModel" ⟨"NameRestsModel", "telling", "(II)I"⟩ ⟨"NameRestsModel", "telling", "(II)I"⟩) ∈ lw_all := lw_g (lw_at lw_ms 98 rfl) rfl
theorem qs99 : (Cond.selects "NameRestsModel" ⟨"NameRestsModel", "plainTells", "(II)I"⟩ ⟨"NameRestsModel", "plainTells", "(II)I"⟩) ∈ lw_all := lw_g (lw_at lw_ms 99 rfl) rfl
theorem qs100 : (Cond.selects "NameRestsModel" ⟨"NameRestsModel", "namedMany", "()I"⟩ ⟨"NameRestsModel", "namedMany", "()I"⟩) ∈ lw_all := lw_g (lw_at lw_ms 100 rfl) rfl
theorem qs101 : (Cond.selects "NameRestsModel" ⟨"NameRestsModel", "whyNoPlace", "(II)I"⟩ ⟨"NameRestsModel", "whyNoPlace", "(II)I"⟩) ∈ lw_all := lw_g (lw_at lw_ms 101 rfl) rfl

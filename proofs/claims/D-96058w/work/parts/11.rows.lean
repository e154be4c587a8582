/-! LAYER 1: rows of instructions that leave the heap alone -/
section RS
variable {G : GG} {M : MD} {d pc : Nat} {lv lv' : List (Nat × Value)} {st : List Value} {h : AH} {Q : Outcome → AH → Prop}
theorem R_iconst {n : Int} {v : Int32} (hd : decode M.2.1 pc = .ok (.iconst n, 1)) (hv : Int32.ofInt n = v) (k : Run G M d (pc + 1) lv (.int v :: st) h Q) : Run G M d pc lv (st) h Q :=
  R_lift (fun C _ _ _ L kk => lv_iconst C.1 C.2.1 hd hv kk) k
theorem R_bipush {n : Int} {v : Int32} (hd : decode M.2.1 pc = .ok (.bipush n, 2)) (hv : (Int8.ofInt n).toInt32 = v) (k : Run G M d (pc + 2) lv (.int v :: st) h Q) : Run G M d pc lv (st) h Q :=
  R_lift (fun C _ _ _ L kk => lv_bipush C.1 C.2.1 hd hv kk) k
theorem R_sipush {n : Int} {v : Int32} (hd : decode M.2.1 pc = .ok (.sipush n, 3)) (hv : (Int16.ofInt n).toInt32 = v) (k : Run G M d (pc + 3) lv (.int v :: st) h Q) : Run G M d pc lv (st) h Q :=
  R_lift (fun C _ _ _ L kk => lv_sipush C.1 C.2.1 hd hv kk) k
theorem R_lconst {n : Fin 2} {v : Int64} (hd : decode M.2.1 pc = .ok (.lconst n, 1)) (hv : Int64.ofNat (n : Nat) = v) (k : Run G M d (pc + 1) lv (.long v :: st) h Q) : Run G M d pc lv (st) h Q :=
  R_lift (fun C _ _ _ L kk => lv_lconst C.1 C.2.1 hd hv kk) k
theorem R_null  (hd : decode M.2.1 pc = .ok (.aconst_null, 1)) (k : Run G M d (pc + 1) lv (.null :: st) h Q) : Run G M d pc lv (st) h Q :=
  R_lift (fun C _ _ _ L kk => lv_null C.1 C.2.1 hd kk) k
theorem R_ldc {ix : Nat} {v : Int32} (hd : decode M.2.1 pc = .ok (.ldc ix, 2)) (hw : Jvm.Cond.constant M.1.cls ix v ∈ lw_all) (k : Run G M d (pc + 2) lv (.int v :: st) h Q) : Run G M d pc lv (st) h Q :=
  R_lift (fun C _ _ _ L kk => lv_ldc C.1 C.2.1 C.2.2.2.2.2.1 (C.2.2.2.2.2.2.1 _ hw) hd kk) k
theorem R_ldcw {ix : Nat} {v : Int32} (hd : decode M.2.1 pc = .ok (.ldc_w ix, 3)) (hw : Jvm.Cond.constant M.1.cls ix v ∈ lw_all) (k : Run G M d (pc + 3) lv (.int v :: st) h Q) : Run G M d pc lv (st) h Q :=
  R_lift (fun C _ _ _ L kk => lv_ldcw C.1 C.2.1 C.2.2.2.2.2.1 (C.2.2.2.2.2.2.1 _ hw) hd kk) k
theorem R_ldc2 {ix : Nat} {v : Int64} (hd : decode M.2.1 pc = .ok (.ldc2_w ix, 3)) (hw : Jvm.Cond.constantLong M.1.cls ix v ∈ lw_all) (k : Run G M d (pc + 3) lv (.long v :: st) h Q) : Run G M d pc lv (st) h Q :=
  R_lift (fun C _ _ _ L kk => lv_ldc2 C.1 C.2.1 C.2.2.2.2.2.1 (C.2.2.2.2.2.2.1 _ hw) hd kk) k
theorem R_iload_n {kf : Fin 4} {x : Int32} (hd : decode M.2.1 pc = .ok (.iload_n kf, 1)) (j : Nat) (hj : lv[j]? = some ((kf : Nat), .int x)) (k : Run G M d (pc + 1) lv (.int x :: st) h Q) : Run G M d pc lv (st) h Q :=
  R_lift (fun C _ _ _ L kk => lv_iload_n C.1 C.2.1 hd rfl (lv_at L j hj) kk) k
theorem R_iload {i : Nat} {x : Int32} (hd : decode M.2.1 pc = .ok (.iload i, 2)) (j : Nat) (hj : lv[j]? = some (i, .int x)) (k : Run G M d (pc + 2) lv (.int x :: st) h Q) : Run G M d pc lv (st) h Q :=
  R_lift (fun C _ _ _ L kk => lv_iload C.1 C.2.1 hd (lv_at L j hj) kk) k
theorem R_lload_n {kf : Fin 4} {x : Int64} (hd : decode M.2.1 pc = .ok (.lload_n kf, 1)) (j : Nat) (hj : lv[j]? = some ((kf : Nat), .long x)) (k : Run G M d (pc + 1) lv (.long x :: st) h Q) : Run G M d pc lv (st) h Q :=
  R_lift (fun C _ _ _ L kk => lv_lload_n C.1 C.2.1 hd rfl (lv_at L j hj) kk) k
theorem R_lload {i : Nat} {x : Int64} (hd : decode M.2.1 pc = .ok (.lload i, 2)) (j : Nat) (hj : lv[j]? = some (i, .long x)) (k : Run G M d (pc + 2) lv (.long x :: st) h Q) : Run G M d pc lv (st) h Q :=
  R_lift (fun C _ _ _ L kk => lv_lload C.1 C.2.1 hd (lv_at L j hj) kk) k
theorem R_aload_n {kf : Fin 4} {x : Nat} (hd : decode M.2.1 pc = .ok (.aload_n kf, 1)) (j : Nat) (hj : lv[j]? = some ((kf : Nat), .ref x)) (k : Run G M d (pc + 1) lv (.ref x :: st) h Q) : Run G M d pc lv (st) h Q :=
  R_lift (fun C _ _ _ L kk => lv_aload_n C.1 C.2.1 hd rfl (lv_at L j hj) kk) k
theorem R_aload {i : Nat} {x : Nat} (hd : decode M.2.1 pc = .ok (.aload i, 2)) (j : Nat) (hj : lv[j]? = some (i, .ref x)) (k : Run G M d (pc + 2) lv (.ref x :: st) h Q) : Run G M d pc lv (st) h Q :=
  R_lift (fun C _ _ _ L kk => lv_aload C.1 C.2.1 hd (lv_at L j hj) kk) k
theorem R_aload_nN {kf : Fin 4} (hd : decode M.2.1 pc = .ok (.aload_n kf, 1)) (j : Nat) (hj : lv[j]? = some ((kf : Nat), .null)) (k : Run G M d (pc + 1) lv (.null :: st) h Q) : Run G M d pc lv (st) h Q :=
  R_lift (fun C _ _ _ L kk => lv_aload_nN C.1 C.2.1 hd rfl (lv_at L j hj) kk) k
theorem R_aloadN {i : Nat} (hd : decode M.2.1 pc = .ok (.aload i, 2)) (j : Nat) (hj : lv[j]? = some (i, .null)) (k : Run G M d (pc + 2) lv (.null :: st) h Q) : Run G M d pc lv (st) h Q :=
  R_lift (fun C _ _ _ L kk => lv_aloadN C.1 C.2.1 hd (lv_at L j hj) kk) k
theorem R_aload_nQ {kf : Fin 4} {x : Option Nat} (hd : decode M.2.1 pc = .ok (.aload_n kf, 1)) (j : Nat) (hj : lv[j]? = some ((kf : Nat), va_rf x)) (k : Run G M d (pc + 1) lv (va_rf x :: st) h Q) : Run G M d pc lv st h Q := by
  cases x with
  | none => exact R_aload_nN hd j hj k
  | some a => exact R_aload_n hd j hj k
theorem R_aloadQ {i : Nat} {x : Option Nat} (hd : decode M.2.1 pc = .ok (.aload i, 2)) (j : Nat) (hj : lv[j]? = some (i, va_rf x)) (k : Run G M d (pc + 2) lv (va_rf x :: st) h Q) : Run G M d pc lv st h Q := by
  cases x with
  | none => exact R_aloadN hd j hj k
  | some a => exact R_aload hd j hj k
theorem R_istore_n {x : Int32} {kf : Fin 4} {i : Nat} (hd : decode M.2.1 pc = .ok (.istore_n kf, 1)) (hi : (kf : Nat) = i) (hn : i < M.2.2.1) (hl : (i, Value.int x) :: lv.filter (fun q => !(q.1 == i) && !(q.1 + 1 == i && q.2.category == 2)) = lv') (k : Run G M d (pc + 1) lv' st h Q) : Run G M d pc lv (.int x :: st) h Q :=
  R_lift2 (fun C L kk => lv_istore_n C.1 C.2.1 hd hi L hn hl kk) k
theorem R_istore {x : Int32} {i : Nat} (hd : decode M.2.1 pc = .ok (.istore i, 2)) (hn : i < M.2.2.1) (hl : (i, Value.int x) :: lv.filter (fun q => !(q.1 == i) && !(q.1 + 1 == i && q.2.category == 2)) = lv') (k : Run G M d (pc + 2) lv' st h Q) : Run G M d pc lv (.int x :: st) h Q :=
  R_lift2 (fun C L kk => lv_istore C.1 C.2.1 hd L hn hl kk) k
theorem R_lstore_n {x : Int64} {kf : Fin 4} {i : Nat} (hd : decode M.2.1 pc = .ok (.lstore_n kf, 1)) (hi : (kf : Nat) = i) (hn : i + 1 < M.2.2.1) (hl : (i, Value.long x) :: lv.filter (fun q => !(q.1 == i) && (!(q.1 == i + 1) && !(q.1 + 1 == i && q.2.category == 2))) = lv') (k : Run G M d (pc + 1) lv' st h Q) : Run G M d pc lv (.long x :: st) h Q :=
  R_lift2 (fun C L kk => lv_lstore_n C.1 C.2.1 hd hi L hn hl kk) k
theorem R_lstore {x : Int64} {i : Nat} (hd : decode M.2.1 pc = .ok (.lstore i, 2)) (hn : i + 1 < M.2.2.1) (hl : (i, Value.long x) :: lv.filter (fun q => !(q.1 == i) && (!(q.1 == i + 1) && !(q.1 + 1 == i && q.2.category == 2))) = lv') (k : Run G M d (pc + 2) lv' st h Q) : Run G M d pc lv (.long x :: st) h Q :=
  R_lift2 (fun C L kk => lv_lstore C.1 C.2.1 hd L hn hl kk) k
theorem R_astore_n {x : Nat} {kf : Fin 4} {i : Nat} (hd : decode M.2.1 pc = .ok (.astore_n kf, 1)) (hi : (kf : Nat) = i) (hn : i < M.2.2.1) (hl : (i, Value.ref x) :: lv.filter (fun q => !(q.1 == i) && !(q.1 + 1 == i && q.2.category == 2)) = lv') (k : Run G M d (pc + 1) lv' st h Q) : Run G M d pc lv (.ref x :: st) h Q :=
  R_lift2 (fun C L kk => lv_astore_n C.1 C.2.1 hd hi L hn hl kk) k
theorem R_astore {x : Nat} {i : Nat} (hd : decode M.2.1 pc = .ok (.astore i, 2)) (hn : i < M.2.2.1) (hl : (i, Value.ref x) :: lv.filter (fun q => !(q.1 == i) && !(q.1 + 1 == i && q.2.category == 2)) = lv') (k : Run G M d (pc + 2) lv' st h Q) : Run G M d pc lv (.ref x :: st) h Q :=
  R_lift2 (fun C L kk => lv_astore C.1 C.2.1 hd L hn hl kk) k
theorem R_astore_nN  {kf : Fin 4} {i : Nat} (hd : decode M.2.1 pc = .ok (.astore_n kf, 1)) (hi : (kf : Nat) = i) (hn : i < M.2.2.1) (hl : (i, Value.null) :: lv.filter (fun q => !(q.1 == i) && !(q.1 + 1 == i && q.2.category == 2)) = lv') (k : Run G M d (pc + 1) lv' st h Q) : Run G M d pc lv (.null :: st) h Q :=
  R_lift2 (fun C L kk => lv_astore_nN C.1 C.2.1 hd hi L hn hl kk) k
theorem R_astoreN  {i : Nat} (hd : decode M.2.1 pc = .ok (.astore i, 2)) (hn : i < M.2.2.1) (hl : (i, Value.null) :: lv.filter (fun q => !(q.1 == i) && !(q.1 + 1 == i && q.2.category == 2)) = lv') (k : Run G M d (pc + 2) lv' st h Q) : Run G M d pc lv (.null :: st) h Q :=
  R_lift2 (fun C L kk => lv_astoreN C.1 C.2.1 hd L hn hl kk) k
theorem R_astore_nQ {x : Option Nat} {kf : Fin 4} {i : Nat} (hd : decode M.2.1 pc = .ok (.astore_n kf, 1)) (hi : (kf : Nat) = i) (hn : i < M.2.2.1) (hl : (i, va_rf x) :: lv.filter (fun q => !(q.1 == i) && !(q.1 + 1 == i && q.2.category == 2)) = lv') (k : Run G M d (pc + 1) lv' st h Q) : Run G M d pc lv (va_rf x :: st) h Q := by
  cases x with
  | none => exact R_astore_nN hd hi hn hl k
  | some a => exact R_astore_n hd hi hn hl k
theorem R_astoreQ {x : Option Nat} {i : Nat} (hd : decode M.2.1 pc = .ok (.astore i, 2)) (hn : i < M.2.2.1) (hl : (i, va_rf x) :: lv.filter (fun q => !(q.1 == i) && !(q.1 + 1 == i && q.2.category == 2)) = lv') (k : Run G M d (pc + 2) lv' st h Q) : Run G M d pc lv (va_rf x :: st) h Q := by
  cases x with
  | none => exact R_astoreN hd hn hl k
  | some a => exact R_astore hd hn hl k
theorem R_iinc {i : Nat} {n : Int} {x v : Int32} (hd : decode M.2.1 pc = .ok (.iinc i n, 3)) (j : Nat) (hj : lv[j]? = some (i, .int x)) (hv : x + Int32.ofInt n = v) (hn : i < M.2.2.1) (hl : (i, Value.int v) :: lv.filter (fun q => !(q.1 == i) && !(q.1 + 1 == i && q.2.category == 2)) = lv') (k : Run G M d (pc + 3) lv' st h Q) : Run G M d pc lv st h Q :=
  R_lift2 (fun C L kk => lv_iinc C.1 C.2.1 hd L hj hv hn hl kk) k
theorem R_iadd {x y : Int32} (hd : decode M.2.1 pc = .ok (.iadd, 1)) (k : Run G M d (pc + 1) lv (.int (x + y) :: st) h Q) : Run G M d pc lv (.int y :: .int x :: st) h Q :=
  R_lift (fun C _ _ _ L kk => lv_iadd C.1 C.2.1 hd kk) k
theorem R_isub {x y : Int32} (hd : decode M.2.1 pc = .ok (.isub, 1)) (k : Run G M d (pc + 1) lv (.int (x - y) :: st) h Q) : Run G M d pc lv (.int y :: .int x :: st) h Q :=
  R_lift (fun C _ _ _ L kk => lv_isub C.1 C.2.1 hd kk) k
theorem R_imul {x y : Int32} (hd : decode M.2.1 pc = .ok (.imul, 1)) (k : Run G M d (pc + 1) lv (.int (x * y) :: st) h Q) : Run G M d pc lv (.int y :: .int x :: st) h Q :=
  R_lift (fun C _ _ _ L kk => lv_imul C.1 C.2.1 hd kk) k
theorem R_iand {x y : Int32} (hd : decode M.2.1 pc = .ok (.iand, 1)) (k : Run G M d (pc + 1) lv (.int (x &&& y) :: st) h Q) : Run G M d pc lv (.int y :: .int x :: st) h Q :=
  R_lift (fun C _ _ _ L kk => lv_iand C.1 C.2.1 hd kk) k
theorem R_ior {x y : Int32} (hd : decode M.2.1 pc = .ok (.ior, 1)) (k : Run G M d (pc + 1) lv (.int (x ||| y) :: st) h Q) : Run G M d pc lv (.int y :: .int x :: st) h Q :=
  R_lift (fun C _ _ _ L kk => lv_ior C.1 C.2.1 hd kk) k
theorem R_ixor {x y : Int32} (hd : decode M.2.1 pc = .ok (.ixor, 1)) (k : Run G M d (pc + 1) lv (.int (x ^^^ y) :: st) h Q) : Run G M d pc lv (.int y :: .int x :: st) h Q :=
  R_lift (fun C _ _ _ L kk => lv_ixor C.1 C.2.1 hd kk) k
theorem R_ishl {x y : Int32} (hd : decode M.2.1 pc = .ok (.ishl, 1)) (k : Run G M d (pc + 1) lv (.int (x <<< (y &&& 31)) :: st) h Q) : Run G M d pc lv (.int y :: .int x :: st) h Q :=
  R_lift (fun C _ _ _ L kk => lv_ishl C.1 C.2.1 hd kk) k
theorem R_ishr {x y : Int32} (hd : decode M.2.1 pc = .ok (.ishr, 1)) (k : Run G M d (pc + 1) lv (.int (x >>> (y &&& 31)) :: st) h Q) : Run G M d pc lv (.int y :: .int x :: st) h Q :=
  R_lift (fun C _ _ _ L kk => lv_ishr C.1 C.2.1 hd kk) k
theorem R_idiv {x y : Int32} (hd : decode M.2.1 pc = .ok (.idiv, 1)) (hne : ¬ y = 0) (k : Run G M d (pc + 1) lv (.int (x / y) :: st) h Q) : Run G M d pc lv (.int y :: .int x :: st) h Q :=
  R_lift (fun C _ _ _ L kk => lv_idiv C.1 C.2.1 hd hne kk) k
theorem R_irem {x y : Int32} (hd : decode M.2.1 pc = .ok (.irem, 1)) (hne : ¬ y = 0) (k : Run G M d (pc + 1) lv (.int (x - x / y * y) :: st) h Q) : Run G M d pc lv (.int y :: .int x :: st) h Q :=
  R_lift (fun C _ _ _ L kk => lv_irem C.1 C.2.1 hd hne kk) k
theorem R_ineg {x : Int32} (hd : decode M.2.1 pc = .ok (.ineg, 1)) (k : Run G M d (pc + 1) lv (.int (-x) :: st) h Q) : Run G M d pc lv (.int x :: st) h Q :=
  R_lift (fun C _ _ _ L kk => lv_ineg C.1 C.2.1 hd kk) k
theorem R_iushr {x y : Int32} (hd : decode M.2.1 pc = .ok (.iushr, 1)) (k : Run G M d (pc + 1) lv (.int ((x.toUInt32 >>> (y.toUInt32 &&& Int32.toUInt32 31)).toInt32) :: st) h Q) : Run G M d pc lv (.int y :: .int x :: st) h Q :=
  R_lift (fun C _ _ _ L kk => lv_iushr C.1 C.2.1 hd rfl kk) k
theorem R_ladd {x y : Int64} (hd : decode M.2.1 pc = .ok (.ladd, 1)) (k : Run G M d (pc + 1) lv (.long (x + y) :: st) h Q) : Run G M d pc lv (.long y :: .long x :: st) h Q :=
  R_lift (fun C _ _ _ L kk => lv_ladd C.1 C.2.1 hd kk) k
theorem R_lmul {x y : Int64} (hd : decode M.2.1 pc = .ok (.lmul, 1)) (k : Run G M d (pc + 1) lv (.long (x * y) :: st) h Q) : Run G M d pc lv (.long y :: .long x :: st) h Q :=
  R_lift (fun C _ _ _ L kk => lv_lmul C.1 C.2.1 hd kk) k
theorem R_land {x y : Int64} (hd : decode M.2.1 pc = .ok (.land, 1)) (k : Run G M d (pc + 1) lv (.long (x &&& y) :: st) h Q) : Run G M d pc lv (.long y :: .long x :: st) h Q :=
  R_lift (fun C _ _ _ L kk => lv_land C.1 C.2.1 hd kk) k
theorem R_lor {x y : Int64} (hd : decode M.2.1 pc = .ok (.lor, 1)) (k : Run G M d (pc + 1) lv (.long (x ||| y) :: st) h Q) : Run G M d pc lv (.long y :: .long x :: st) h Q :=
  R_lift (fun C _ _ _ L kk => lv_lor C.1 C.2.1 hd kk) k
theorem R_lshl {x : Int64} {y : Int32} (hd : decode M.2.1 pc = .ok (.lshl, 1)) (k : Run G M d (pc + 1) lv (.long (x <<< (y.toInt64 &&& 63)) :: st) h Q) : Run G M d pc lv (.int y :: .long x :: st) h Q :=
  R_lift (fun C _ _ _ L kk => lv_lshl C.1 C.2.1 hd rfl kk) k
theorem R_lcmp {x y : Int64} (hd : decode M.2.1 pc = .ok (.lcmp, 1)) (k : Run G M d (pc + 1) lv (.int (lg_cmp x y) :: st) h Q) : Run G M d pc lv (.long y :: .long x :: st) h Q :=
  R_lift (fun C _ _ _ L kk => W.lcmp C.1 C.2.1 hd kk) k
theorem R_i2l {x : Int32} (hd : decode M.2.1 pc = .ok (.i2l, 1)) (k : Run G M d (pc + 1) lv (.long x.toInt64 :: st) h Q) : Run G M d pc lv (.int x :: st) h Q :=
  R_lift (fun C _ _ _ L kk => lv_i2l C.1 C.2.1 hd rfl kk) k
theorem R_l2i {x : Int64} (hd : decode M.2.1 pc = .ok (.l2i, 1)) (k : Run G M d (pc + 1) lv (.int x.toInt32 :: st) h Q) : Run G M d pc lv (.long x :: st) h Q :=
  R_lift (fun C _ _ _ L kk => lv_l2i C.1 C.2.1 hd rfl kk) k
theorem R_i2b {x : Int32} (hd : decode M.2.1 pc = .ok (.i2b, 1)) (k : Run G M d (pc + 1) lv (.int x.toInt8.toInt32 :: st) h Q) : Run G M d pc lv (.int x :: st) h Q :=
  R_lift (fun C _ _ _ L kk => lv_i2b C.1 C.2.1 hd rfl kk) k
theorem R_i2s {x : Int32} (hd : decode M.2.1 pc = .ok (.i2s, 1)) (k : Run G M d (pc + 1) lv (.int x.toInt16.toInt32 :: st) h Q) : Run G M d pc lv (.int x :: st) h Q :=
  R_lift (fun C _ _ _ L kk => lv_i2s C.1 C.2.1 hd rfl kk) k
theorem R_dup {va : Value} (hd : decode M.2.1 pc = .ok (.dup, 1)) (hva : va.category = 1) (k : Run G M d (pc + 1) lv (va :: va :: st) h Q) : Run G M d pc lv (va :: st) h Q :=
  R_lift (fun C _ _ _ L kk => lv_dup C.1 C.2.1 hd hva kk) k
theorem R_pop {va : Value} (hd : decode M.2.1 pc = .ok (.pop, 1)) (hva : va.category = 1) (k : Run G M d (pc + 1) lv (st) h Q) : Run G M d pc lv (va :: st) h Q :=
  R_lift (fun C _ _ _ L kk => lv_pop C.1 C.2.1 hd hva kk) k
theorem R_dup_x1 {va vb : Value} (hd : decode M.2.1 pc = .ok (.dup_x1, 1)) (hva : va.category = 1) (hvb : vb.category = 1) (k : Run G M d (pc + 1) lv (va :: vb :: va :: st) h Q) : Run G M d pc lv (va :: vb :: st) h Q :=
  R_lift (fun C _ _ _ L kk => lv_dup_x1 C.1 C.2.1 hd hva hvb kk) k
theorem R_dup2 {va vb : Value} (hd : decode M.2.1 pc = .ok (.dup2, 1)) (hva : va.category = 1) (hvb : vb.category = 1) (k : Run G M d (pc + 1) lv (va :: vb :: va :: vb :: st) h Q) : Run G M d pc lv (va :: vb :: st) h Q :=
  R_lift (fun C _ _ _ L kk => lv_dup2_11 C.1 C.2.1 hd hva hvb kk) k
theorem R_if_eq {x : Int32} {off : Int} {tgt : Nat} (hd : decode M.2.1 pc = .ok (.ifCond .eq off, 3)) (ht : (pc : Int) + off = (tgt : Int)) (kt : x = 0 → Run G M d tgt lv st h Q) (kf : ¬ x = 0 → Run G M d (pc + 3) lv st h Q) : Run G M d pc lv (.int x :: st) h Q := by
  by_cases hc : x = 0
  · exact R_lift (fun C _ _ _ _ kk => lv_if_eq C.1 C.2.1 hd ht (fun _ => kk) (fun q => absurd hc q)) (kt hc)
  · exact R_lift (fun C _ _ _ _ kk => lv_if_eq C.1 C.2.1 hd ht (fun q => absurd q hc) (fun _ => kk)) (kf hc)
theorem R_icmp_eq {x y : Int32} {off : Int} {tgt : Nat} (hd : decode M.2.1 pc = .ok (.if_icmp .eq off, 3)) (ht : (pc : Int) + off = (tgt : Int)) (kt : x = y → Run G M d tgt lv st h Q) (kf : ¬ x = y → Run G M d (pc + 3) lv st h Q) : Run G M d pc lv (.int y :: .int x :: st) h Q := by
  by_cases hc : x = y
  · exact R_lift (fun C _ _ _ _ kk => lv_icmp_eq C.1 C.2.1 hd ht (fun _ => kk) (fun q => absurd hc q)) (kt hc)
  · exact R_lift (fun C _ _ _ _ kk => lv_icmp_eq C.1 C.2.1 hd ht (fun q => absurd q hc) (fun _ => kk)) (kf hc)
theorem R_if_ne {x : Int32} {off : Int} {tgt : Nat} (hd : decode M.2.1 pc = .ok (.ifCond .ne off, 3)) (ht : (pc : Int) + off = (tgt : Int)) (kt : ¬ x = 0 → Run G M d tgt lv st h Q) (kf : x = 0 → Run G M d (pc + 3) lv st h Q) : Run G M d pc lv (.int x :: st) h Q := by
  by_cases hc : x = 0
  · exact R_lift (fun C _ _ _ _ kk => lv_if_ne C.1 C.2.1 hd ht (fun q => absurd hc q) (fun _ => kk)) (kf hc)
  · exact R_lift (fun C _ _ _ _ kk => lv_if_ne C.1 C.2.1 hd ht (fun _ => kk) (fun q => absurd q hc)) (kt hc)
theorem R_icmp_ne {x y : Int32} {off : Int} {tgt : Nat} (hd : decode M.2.1 pc = .ok (.if_icmp .ne off, 3)) (ht : (pc : Int) + off = (tgt : Int)) (kt : ¬ x = y → Run G M d tgt lv st h Q) (kf : x = y → Run G M d (pc + 3) lv st h Q) : Run G M d pc lv (.int y :: .int x :: st) h Q := by
  by_cases hc : x = y
  · exact R_lift (fun C _ _ _ _ kk => lv_icmp_ne C.1 C.2.1 hd ht (fun q => absurd hc q) (fun _ => kk)) (kf hc)
  · exact R_lift (fun C _ _ _ _ kk => lv_icmp_ne C.1 C.2.1 hd ht (fun _ => kk) (fun q => absurd q hc)) (kt hc)
theorem R_if_lt {x : Int32} {off : Int} {tgt : Nat} (hd : decode M.2.1 pc = .ok (.ifCond .lt off, 3)) (ht : (pc : Int) + off = (tgt : Int)) (kt : x < 0 → Run G M d tgt lv st h Q) (kf : ¬ x < 0 → Run G M d (pc + 3) lv st h Q) : Run G M d pc lv (.int x :: st) h Q := by
  by_cases hc : x < 0
  · exact R_lift (fun C _ _ _ _ kk => lv_if_lt C.1 C.2.1 hd ht (fun _ => kk) (fun q => absurd hc q)) (kt hc)
  · exact R_lift (fun C _ _ _ _ kk => lv_if_lt C.1 C.2.1 hd ht (fun q => absurd q hc) (fun _ => kk)) (kf hc)
theorem R_icmp_lt {x y : Int32} {off : Int} {tgt : Nat} (hd : decode M.2.1 pc = .ok (.if_icmp .lt off, 3)) (ht : (pc : Int) + off = (tgt : Int)) (kt : x < y → Run G M d tgt lv st h Q) (kf : ¬ x < y → Run G M d (pc + 3) lv st h Q) : Run G M d pc lv (.int y :: .int x :: st) h Q := by
  by_cases hc : x < y
  · exact R_lift (fun C _ _ _ _ kk => lv_icmp_lt C.1 C.2.1 hd ht (fun _ => kk) (fun q => absurd hc q)) (kt hc)
  · exact R_lift (fun C _ _ _ _ kk => lv_icmp_lt C.1 C.2.1 hd ht (fun q => absurd q hc) (fun _ => kk)) (kf hc)
theorem R_if_ge {x : Int32} {off : Int} {tgt : Nat} (hd : decode M.2.1 pc = .ok (.ifCond .ge off, 3)) (ht : (pc : Int) + off = (tgt : Int)) (kt : 0 ≤ x → Run G M d tgt lv st h Q) (kf : ¬ 0 ≤ x → Run G M d (pc + 3) lv st h Q) : Run G M d pc lv (.int x :: st) h Q := by
  by_cases hc : 0 ≤ x
  · exact R_lift (fun C _ _ _ _ kk => lv_if_ge C.1 C.2.1 hd ht (fun _ => kk) (fun q => absurd hc q)) (kt hc)
  · exact R_lift (fun C _ _ _ _ kk => lv_if_ge C.1 C.2.1 hd ht (fun q => absurd q hc) (fun _ => kk)) (kf hc)
theorem R_icmp_ge {x y : Int32} {off : Int} {tgt : Nat} (hd : decode M.2.1 pc = .ok (.if_icmp .ge off, 3)) (ht : (pc : Int) + off = (tgt : Int)) (kt : y ≤ x → Run G M d tgt lv st h Q) (kf : ¬ y ≤ x → Run G M d (pc + 3) lv st h Q) : Run G M d pc lv (.int y :: .int x :: st) h Q := by
  by_cases hc : y ≤ x
  · exact R_lift (fun C _ _ _ _ kk => lv_icmp_ge C.1 C.2.1 hd ht (fun _ => kk) (fun q => absurd hc q)) (kt hc)
  · exact R_lift (fun C _ _ _ _ kk => lv_icmp_ge C.1 C.2.1 hd ht (fun q => absurd q hc) (fun _ => kk)) (kf hc)
theorem R_if_gt {x : Int32} {off : Int} {tgt : Nat} (hd : decode M.2.1 pc = .ok (.ifCond .gt off, 3)) (ht : (pc : Int) + off = (tgt : Int)) (kt : 0 < x → Run G M d tgt lv st h Q) (kf : ¬ 0 < x → Run G M d (pc + 3) lv st h Q) : Run G M d pc lv (.int x :: st) h Q := by
  by_cases hc : 0 < x
  · exact R_lift (fun C _ _ _ _ kk => lv_if_gt C.1 C.2.1 hd ht (fun _ => kk) (fun q => absurd hc q)) (kt hc)
  · exact R_lift (fun C _ _ _ _ kk => lv_if_gt C.1 C.2.1 hd ht (fun q => absurd q hc) (fun _ => kk)) (kf hc)
theorem R_icmp_gt {x y : Int32} {off : Int} {tgt : Nat} (hd : decode M.2.1 pc = .ok (.if_icmp .gt off, 3)) (ht : (pc : Int) + off = (tgt : Int)) (kt : y < x → Run G M d tgt lv st h Q) (kf : ¬ y < x → Run G M d (pc + 3) lv st h Q) : Run G M d pc lv (.int y :: .int x :: st) h Q := by
  by_cases hc : y < x
  · exact R_lift (fun C _ _ _ _ kk => lv_icmp_gt C.1 C.2.1 hd ht (fun _ => kk) (fun q => absurd hc q)) (kt hc)
  · exact R_lift (fun C _ _ _ _ kk => lv_icmp_gt C.1 C.2.1 hd ht (fun q => absurd q hc) (fun _ => kk)) (kf hc)
theorem R_if_le {x : Int32} {off : Int} {tgt : Nat} (hd : decode M.2.1 pc = .ok (.ifCond .le off, 3)) (ht : (pc : Int) + off = (tgt : Int)) (kt : x ≤ 0 → Run G M d tgt lv st h Q) (kf : ¬ x ≤ 0 → Run G M d (pc + 3) lv st h Q) : Run G M d pc lv (.int x :: st) h Q := by
  by_cases hc : x ≤ 0
  · exact R_lift (fun C _ _ _ _ kk => lv_if_le C.1 C.2.1 hd ht (fun _ => kk) (fun q => absurd hc q)) (kt hc)
  · exact R_lift (fun C _ _ _ _ kk => lv_if_le C.1 C.2.1 hd ht (fun q => absurd q hc) (fun _ => kk)) (kf hc)
theorem R_icmp_le {x y : Int32} {off : Int} {tgt : Nat} (hd : decode M.2.1 pc = .ok (.if_icmp .le off, 3)) (ht : (pc : Int) + off = (tgt : Int)) (kt : x ≤ y → Run G M d tgt lv st h Q) (kf : ¬ x ≤ y → Run G M d (pc + 3) lv st h Q) : Run G M d pc lv (.int y :: .int x :: st) h Q := by
  by_cases hc : x ≤ y
  · exact R_lift (fun C _ _ _ _ kk => lv_icmp_le C.1 C.2.1 hd ht (fun _ => kk) (fun q => absurd hc q)) (kt hc)
  · exact R_lift (fun C _ _ _ _ kk => lv_icmp_le C.1 C.2.1 hd ht (fun q => absurd q hc) (fun _ => kk)) (kf hc)
theorem R_goto {off : Int} {tgt : Nat} (hd : decode M.2.1 pc = .ok (.goto off, 3)) (ht : (pc : Int) + off = (tgt : Int)) (k : Run G M d tgt lv st h Q) : Run G M d pc lv st h Q :=
  R_lift (fun C _ _ _ _ kk => lv_goto C.1 C.2.1 hd ht kk) k
theorem R_ifnull {x : Option Nat} {off : Int} {tgt : Nat} (hd : decode M.2.1 pc = .ok (.ifnull off, 3)) (ht : (pc : Int) + off = (tgt : Int)) (kt : x = none → Run G M d tgt lv st h Q) (kf : ∀ a, x = some a → Run G M d (pc + 3) lv st h Q) : Run G M d pc lv (va_rf x :: st) h Q := by
  cases x with
  | none => exact R_lift (fun C _ _ _ _ kk => lv_ifnullN C.1 C.2.1 hd ht kk) (kt rfl)
  | some a => exact R_lift (fun C _ _ _ _ kk => lv_ifnull C.1 C.2.1 hd kk) (kf a rfl)
theorem R_ifnonnull {x : Option Nat} {off : Int} {tgt : Nat} (hd : decode M.2.1 pc = .ok (.ifnonnull off, 3)) (ht : (pc : Int) + off = (tgt : Int)) (kt : ∀ a, x = some a → Run G M d tgt lv st h Q) (kf : x = none → Run G M d (pc + 3) lv st h Q) : Run G M d pc lv (va_rf x :: st) h Q := by
  cases x with
  | none => exact R_lift (fun C _ _ _ _ kk => lv_ifnonnullN C.1 C.2.1 hd kk) (kf rfl)
  | some a => exact R_lift (fun C _ _ _ _ kk => lv_ifnonnull C.1 C.2.1 hd ht kk) (kt a rfl)
theorem R_tableOut {dflt lo hi : Int} {offs : Array Int} {len : Nat} {x : Int32} {tgt : Nat} (hd : decode M.2.1 pc = .ok (.tableswitch dflt lo hi offs, len)) (hc : x.toInt < lo ∨ hi < x.toInt) (ht : (pc : Int) + dflt = (tgt : Int)) (k : Run G M d tgt lv st h Q) : Run G M d pc lv (.int x :: st) h Q :=
  R_lift (fun C _ _ _ _ kk => lv_tableOut C.1 C.2.1 hd hc ht kk) k
theorem R_tableIn {dflt lo hi : Int} {offs : Array Int} {len : Nat} {x : Int32} {off : Int} {tgt : Nat} (hd : decode M.2.1 pc = .ok (.tableswitch dflt lo hi offs, len)) (h1 : ¬ x.toInt < lo) (h2 : ¬ hi < x.toInt) (ho : offs[(x.toInt - lo).toNat]? = some off) (ht : (pc : Int) + off = (tgt : Int)) (k : Run G M d tgt lv st h Q) : Run G M d pc lv (.int x :: st) h Q :=
  R_lift (fun C _ _ _ _ kk => lv_tableIn C.1 C.2.1 hd h1 h2 ho ht kk) k
theorem R_lookup {dflt : Int} {ps : Array (Int × Int)} {len : Nat} {x : Int32} {off : Int} {tgt : Nat} (hd : decode M.2.1 pc = .ok (.lookupswitch dflt ps, len)) (hp : (ps.toList.zip (ps.toList.drop 1)).all (fun (a, next) => a.1 < next.1) = true) (ho : Op.lookupswitch.offset ps.toList dflt x.toInt = off) (ht : (pc : Int) + off = (tgt : Int)) (k : Run G M d tgt lv st h Q) : Run G M d pc lv (.int x :: st) h Q :=
  R_lift (fun C _ _ _ _ kk => lv_lookup C.1 C.2.1 hd hp ho ht kk) k
theorem R_iret {v : Int32} (hd : decode M.2.1 pc = .ok (.ireturn, 1)) (hr : M.2.2.2.1 = some .int) (q : Q (.returned (some (.int v))) h) : Run G M d pc lv [.int v] h Q :=
  R_end (fun C hq hf => W_mono (fun _ => MQ_X) (W.iret C.1 C.2.1 (C.2.2.2.1.trans hr) hq hf hd C.2.2.2.2.1)) q
theorem R_zret {v : Int32} (hd : decode M.2.1 pc = .ok (.ireturn, 1)) (hr : M.2.2.2.1 = some .boolean) (hv : narrow .boolean (.int v) = .int v) (q : Q (.returned (some (.int v))) h) : Run G M d pc lv [.int v] h Q :=
  R_end (fun C hq hf => W_mono (fun _ => MQ_X) (W.zret C.1 C.2.1 (C.2.2.2.1.trans hr) hv hq hf hd C.2.2.2.2.1)) q
theorem R_lret {v : Int64} (hd : decode M.2.1 pc = .ok (.lreturn, 1)) (hr : M.2.2.2.1 = some .long) (q : Q (.returned (some (.long v))) h) : Run G M d pc lv [.long v] h Q :=
  R_end (fun C hq hf => W_mono (fun _ => MQ_X) (W.lret C.1 C.2.1 (C.2.2.2.1.trans hr) hq hf hd C.2.2.2.2.1)) q
theorem R_vret (hd : decode M.2.1 pc = .ok (.return_, 1)) (hr : M.2.2.2.1 = none) (q : Q (.returned none) h) : Run G M d pc lv [] h Q :=
  R_end (fun C hq hf => W_mono (fun _ => MQ_X) (W.vret C.1 C.2.1 (C.2.2.2.1.trans hr) hq hf hd C.2.2.2.2.1)) q
end RS

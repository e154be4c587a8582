/-! LAYER 2: segments of the component's methods (printed by gen32.py) -/
set_option maxRecDepth 100000
theorem sX0_namedMany_0 {G : GG} {x : Nat} {h : AH} {Q : Outcome → AH → Prop} (B : XB G x h) (w : XB G x h → Run G mX0_namedMany 2 4 [(0, .ref x), (1, .int 0), (2, .int 0)] [] h Q) : Run G mX0_namedMany 2 0 [(0, .ref x)] [] h Q := by
  refine R_iconst (v := 0) dX0_namedMany_0 (by decide) ?_
  refine R_istore_n (lv' := [(1, .int 0), (0, .ref x)]) dX0_namedMany_1 rfl (by decide) rfl ?_
  refine R_iconst (v := 0) dX0_namedMany_2 (by decide) ?_
  refine R_istore_n (lv' := [(2, .int 0), (1, .int 0), (0, .ref x)]) dX0_namedMany_3 rfl (by decide) rfl ?_
  exact R_sub [2, 1, 0] rfl (w B)
theorem sX0_namedMany_4 {G : GG} {x : Nat} {h : AH} {Q : Outcome → AH → Prop} {a1 : Int32} {a2 : Int32} (B : XB G x h) (w : ((aI h 8 x) ≤ a2 → (Q (.returned (some (.int a1))) h)) ∧ (¬ (aI h 8 x) ≤ a2 → (vp_in a2 12 ∧ ∃ q2 : Nat, (aR h (x + 4) a2.toNatClampNeg) = some q2 ∧ (IsK G h q2 (6, 0) ∧ (((aI h 386 q2) = (-1) → (Run G mX0_bit 1 0 [(0, .int (bi false))] [] h (fun o h5 => ∃ r6 : Int32, o = .returned (some (.int r6)) ∧ XB G x h5 ∧ (XB G x h5 → Run G mX0_namedMany 2 4 [(0, .ref x), (1, .int (a1 + r6)), (2, .int (a2 + 1))] [] h5 Q)))) ∧ (¬ (aI h 386 q2) = (-1) → (Run G mX0_bit 1 0 [(0, .int (bi true))] [] h (fun o h7 => ∃ r8 : Int32, o = .returned (some (.int r8)) ∧ XB G x h7 ∧ (XB G x h7 → Run G mX0_namedMany 2 4 [(0, .ref x), (1, .int (a1 + r8)), (2, .int (a2 + 1))] [] h7 Q))))))))) : Run G mX0_namedMany 2 4 [(0, .ref x), (1, .int a1), (2, .int a2)] [] h Q := by
  refine R_iload_n dX0_namedMany_4 2 rfl ?_
  refine R_aload_n dX0_namedMany_5 0 rfl ?_
  refine X_getS (k := 8) B dX0_namedMany_6 q272 (by decide) rfl ?_
  refine R_icmp_ge (tgt := 42) dX0_namedMany_9 (by decide) (fun c10 => ?_) (fun c10 => ?_)
  · have w := w.1 c10
    refine R_iload_n dX0_namedMany_42 1 rfl ?_
    exact R_iret dX0_namedMany_43 rfl w
  · have w := w.2 c10
    refine R_iload_n dX0_namedMany_12 1 rfl ?_
    refine R_aload_n dX0_namedMany_13 0 rfl ?_
    refine X_getA (k := 7) (o := 4) (j := 107) (n := 12) B dX0_namedMany_14 q271 (by decide) rfl rfl ?_
    refine R_iload_n dX0_namedMany_17 2 rfl ?_
    obtain ⟨c1, q2, e3, w⟩ := w
    refine X_aald (k := 7) (j := 7) (E := "NameRests$Person") B dX0_namedMany_18 rfl (by decide) (by decide) rfl c1 ?_
    refine R_top (v' := .ref q2) (congrArg va_rf e3) ?_
    obtain ⟨k4, w⟩ := w
    refine R_getIN (k := 2) (f := 386) ok6 dX0_namedMany_19 q393 (by decide) rfl (by decide) k4 ?_
    refine R_iconst (v := (-1)) dX0_namedMany_22 (by decide) ?_
    refine R_icmp_eq (tgt := 30) dX0_namedMany_23 (by decide) (fun c9 => ?_) (fun c9 => ?_)
    · have w := w.1 c9
      refine R_iconst (v := 0) dX0_namedMany_30 (by decide) ?_
      refine R_invS (Mc := mX0_bit) (As := [.int (bi false)]) (st := [.int a1]) dX0_namedMany_31 q505 q506 q103 wX0_bit pX0_bit rfl (Nat.le_of_ble_eq_true rfl) (by decide) (by decide) (Nat.le_of_ble_eq_true rfl) (aft_i w (fun r6 h5 w => ?_))
      obtain ⟨Bh5, w⟩ := w
      refine R_iadd dX0_namedMany_34 ?_
      refine R_istore_n (lv' := [(1, .int (a1 + r6)), (0, .ref x), (2, .int a2)]) dX0_namedMany_35 rfl (by decide) rfl ?_
      refine R_iinc (v := (a2 + 1)) (lv' := [(2, .int (a2 + 1)), (1, .int (a1 + r6)), (0, .ref x)]) dX0_namedMany_36 2 rfl (congrArg (fun z => a2 + z) (show Int32.ofInt 1 = 1 by decide)) (by decide) rfl ?_
      refine R_goto (tgt := 4) dX0_namedMany_39 (by decide) ?_
      exact R_sub [2, 1, 0] rfl (w Bh5)
    · have w := w.2 c9
      refine R_iconst (v := 1) dX0_namedMany_26 (by decide) ?_
      refine R_goto (tgt := 31) dX0_namedMany_27 (by decide) ?_
      refine R_invS (Mc := mX0_bit) (As := [.int (bi true)]) (st := [.int a1]) dX0_namedMany_31 q505 q506 q103 wX0_bit pX0_bit rfl (Nat.le_of_ble_eq_true rfl) (by decide) (by decide) (Nat.le_of_ble_eq_true rfl) (aft_i w (fun r8 h7 w => ?_))
      obtain ⟨Bh7, w⟩ := w
      refine R_iadd dX0_namedMany_34 ?_
      refine R_istore_n (lv' := [(1, .int (a1 + r8)), (0, .ref x), (2, .int a2)]) dX0_namedMany_35 rfl (by decide) rfl ?_
      refine R_iinc (v := (a2 + 1)) (lv' := [(2, .int (a2 + 1)), (1, .int (a1 + r8)), (0, .ref x)]) dX0_namedMany_36 2 rfl (congrArg (fun z => a2 + z) (show Int32.ofInt 1 = 1 by decide)) (by decide) rfl ?_
      refine R_goto (tgt := 4) dX0_namedMany_39 (by decide) ?_
      exact R_sub [2, 1, 0] rfl (w Bh7)
theorem sX0_namesUsed_0 {G : GG} {x : Nat} {h : AH} {Q : Outcome → AH → Prop} (B : XB G x h) (w : XB G x h → Run G mX0_namesUsed 2 4 [(0, .ref x), (1, .int 0), (2, .int 0)] [] h Q) : Run G mX0_namesUsed 2 0 [(0, .ref x)] [] h Q := by
  refine R_iconst (v := 0) dX0_namesUsed_0 (by decide) ?_
  refine R_istore_n (lv' := [(1, .int 0), (0, .ref x)]) dX0_namesUsed_1 rfl (by decide) rfl ?_
  refine R_iconst (v := 0) dX0_namesUsed_2 (by decide) ?_
  refine R_istore_n (lv' := [(2, .int 0), (1, .int 0), (0, .ref x)]) dX0_namesUsed_3 rfl (by decide) rfl ?_
  exact R_sub [2, 1, 0] rfl (w B)
theorem sX0_namesUsed_4 {G : GG} {x : Nat} {h : AH} {Q : Outcome → AH → Prop} {a1 : Int32} {a2 : Int32} (B : XB G x h) (w : ((aI h 8 x) ≤ a2 → (Run G mX0_ones 1 0 [(0, .int a1)] [] h (fun o h1 => ∃ r2 : Int32, o = .returned (some (.int r2)) ∧ XB G x h1 ∧ (Q (.returned (some (.int r2))) h1)))) ∧ (¬ (aI h 8 x) ≤ a2 → (vp_in a2 12 ∧ (((aA h (x + 13) a2.toNatClampNeg) = (-1) → (XB G x h → Run G mX0_namesUsed 2 4 [(0, .ref x), (1, .int a1), (2, .int (a2 + 1))] [] h Q)) ∧ (¬ (aA h (x + 13) a2.toNatClampNeg) = (-1) → (vp_in a2 12 ∧ (XB G x h → Run G mX0_namesUsed 2 4 [(0, .ref x), (1, .int (a1 ||| ((1 : Int32) <<< ((aA h (x + 13) a2.toNatClampNeg) &&& 31)))), (2, .int (a2 + 1))] [] h Q))))))) : Run G mX0_namesUsed 2 4 [(0, .ref x), (1, .int a1), (2, .int a2)] [] h Q := by
  refine R_iload_n dX0_namesUsed_4 2 rfl ?_
  refine R_aload_n dX0_namesUsed_5 0 rfl ?_
  refine X_getS (k := 8) B dX0_namesUsed_6 q272 (by decide) rfl ?_
  refine R_icmp_ge (tgt := 39) dX0_namesUsed_9 (by decide) (fun c6 => ?_) (fun c6 => ?_)
  · have w := w.1 c6
    refine R_iload_n dX0_namesUsed_39 1 rfl ?_
    refine R_invS (Mc := mX0_ones) (As := [.int a1]) (st := []) dX0_namesUsed_40 q727 q728 q103 wX0_ones pX0_ones rfl (Nat.le_of_ble_eq_true rfl) (by decide) (by decide) (Nat.le_of_ble_eq_true rfl) (aft_i w (fun r2 h1 w => ?_))
    obtain ⟨Bh1, w⟩ := w
    exact R_iret dX0_namesUsed_43 rfl w
  · have w := w.2 c6
    refine R_aload_n dX0_namesUsed_12 0 rfl ?_
    refine X_getA (k := 21) (o := 13) (j := 100) (n := 12) B dX0_namesUsed_13 q286 (by decide) rfl rfl ?_
    refine R_iload_n dX0_namesUsed_16 2 rfl ?_
    obtain ⟨c5, w⟩ := w
    refine X_iald (k := 21) B dX0_namesUsed_17 rfl c5 ?_
    refine R_iconst (v := (-1)) dX0_namesUsed_18 (by decide) ?_
    refine R_icmp_eq (tgt := 33) dX0_namesUsed_19 (by decide) (fun c4 => ?_) (fun c4 => ?_)
    · have w := w.1 c4
      refine R_iinc (v := (a2 + 1)) (lv' := [(2, .int (a2 + 1)), (0, .ref x), (1, .int a1)]) dX0_namesUsed_33 2 rfl (congrArg (fun z => a2 + z) (show Int32.ofInt 1 = 1 by decide)) (by decide) rfl ?_
      refine R_goto (tgt := 4) dX0_namesUsed_36 (by decide) ?_
      exact R_sub [1, 2, 0] rfl (w B)
    · have w := w.2 c4
      refine R_iload_n dX0_namesUsed_22 1 rfl ?_
      refine R_iconst (v := 1) dX0_namesUsed_23 (by decide) ?_
      refine R_aload_n dX0_namesUsed_24 0 rfl ?_
      refine X_getA (k := 21) (o := 13) (j := 100) (n := 12) B dX0_namesUsed_25 q286 (by decide) rfl rfl ?_
      refine R_iload_n dX0_namesUsed_28 2 rfl ?_
      obtain ⟨c3, w⟩ := w
      refine X_iald (k := 21) B dX0_namesUsed_29 rfl c3 ?_
      refine R_ishl dX0_namesUsed_30 ?_
      refine R_ior dX0_namesUsed_31 ?_
      refine R_istore_n (lv' := [(1, .int (a1 ||| ((1 : Int32) <<< ((aA h (x + 13) a2.toNatClampNeg) &&& 31)))), (0, .ref x), (2, .int a2)]) dX0_namesUsed_32 rfl (by decide) rfl ?_
      refine R_iinc (v := (a2 + 1)) (lv' := [(2, .int (a2 + 1)), (1, .int (a1 ||| ((1 : Int32) <<< ((aA h (x + 13) a2.toNatClampNeg) &&& 31)))), (0, .ref x)]) dX0_namesUsed_33 2 rfl (congrArg (fun z => a2 + z) (show Int32.ofInt 1 = 1 by decide)) (by decide) rfl ?_
      refine R_goto (tgt := 4) dX0_namesUsed_36 (by decide) ?_
      exact R_sub [2, 1, 0] rfl (w B)
theorem sX0_needs_0 {G : GG} {x : Nat} {h : AH} {Q : Outcome → AH → Prop} {a1 : Int32} {a2 : Int32} {a3 : Int32} (B : XB G x h) (w : Run G mX0_within 1 0 [(0, .long a2.toInt64), (2, .long 1), (4, .long 20)] [] h (fun o h1 => ∃ b2 : Bool, o = .returned (some (.int (bi b2))) ∧ XB G x h1 ∧ ((b2 = false → (Q (.returned (some (.int (-1)))) h1)) ∧ (b2 = true → (Run G mX0_within 1 0 [(0, .long a3.toInt64), (2, .long 0), (4, .long 1)] [] h1 (fun o h3 => ∃ b4 : Bool, o = .returned (some (.int (bi b4))) ∧ XB G x h3 ∧ ((b4 = true → (XB G x h3 → Run G mX0_needs 309 27 [(0, .ref x), (1, .int a1), (2, .int a2), (3, .int a3), (4, .int 0)] [] h3 Q)) ∧ (b4 = false → (Q (.returned (some (.int (-1)))) h3))))))))) : Run G mX0_needs 309 0 [(0, .ref x), (1, .int a1), (2, .int a2), (3, .int a3)] [] h Q := by
  refine R_iload_n dX0_needs_0 2 rfl ?_
  refine R_i2l dX0_needs_1 ?_
  refine R_lconst (v := 1) dX0_needs_2 (by decide) ?_
  refine R_ldc2 (v := 20) dX0_needs_3 q508 ?_
  refine R_invS (Mc := mX0_within) (As := [.long a2.toInt64, .long 1, .long 20]) (st := []) dX0_needs_6 q366 q367 q103 wX0_within pX0_within rfl (Nat.le_of_ble_eq_true rfl) (by decide) (by decide) (Nat.le_of_ble_eq_true rfl) (aft_z w (fun b2 h1 w => ?_))
  obtain ⟨Bh1, w⟩ := w
  refine R_ifz_eq (tgt := 22) dX0_needs_9 (by decide) (fun c6 => ?_) (fun c6 => ?_)
  · have w := w.1 c6
    refine R_iconst (v := (-1)) dX0_needs_22 (by decide) ?_
    exact R_iret dX0_needs_23 rfl w
  · have w := w.2 c6
    refine R_iload_n dX0_needs_12 3 rfl ?_
    refine R_i2l dX0_needs_13 ?_
    refine R_lconst (v := 0) dX0_needs_14 (by decide) ?_
    refine R_lconst (v := 1) dX0_needs_15 (by decide) ?_
    refine R_invS (Mc := mX0_within) (As := [.long a3.toInt64, .long 0, .long 1]) (st := []) dX0_needs_16 q366 q367 q103 wX0_within pX0_within rfl (Nat.le_of_ble_eq_true rfl) (by decide) (by decide) (Nat.le_of_ble_eq_true rfl) (aft_z w (fun b4 h3 w => ?_))
    obtain ⟨Bh3, w⟩ := w
    refine R_ifz_ne (tgt := 24) dX0_needs_19 (by decide) (fun c5 => ?_) (fun c5 => ?_)
    · have w := w.1 c5
      refine R_iconst (v := 0) dX0_needs_24 (by decide) ?_
      refine R_istore (lv' := [(4, .int 0), (0, .ref x), (1, .int a1), (2, .int a2), (3, .int a3)]) dX0_needs_25 (by decide) rfl ?_
      exact R_sub [1, 2, 3, 4, 0] rfl (w Bh3)
    · have w := w.2 c5
      refine R_iconst (v := (-1)) dX0_needs_22 (by decide) ?_
      exact R_iret dX0_needs_23 rfl w
theorem sX0_needs_27 {G : GG} {x : Nat} {h : AH} {Q : Outcome → AH → Prop} {a1 : Int32} {a2 : Int32} {a3 : Int32} {a4 : Int32} (B : XB G x h) (w : ((aI h 8 x) ≤ a4 → (XB G x h → Run G mX0_needs 309 74 [(0, .ref x), (2, .int a2), (3, .int a3), (4, .int a1), (5, .int 0), (6, .int 0), (7, .int 0)] [] h Q)) ∧ (¬ (aI h 8 x) ≤ a4 → (vp_in a4 12 ∧ ∃ q2 : Nat, (aR h (x + 4) a4.toNatClampNeg) = some q2 ∧ (IsK G h q2 (6, 0) ∧ (∃ q5 : Nat, (aP h 385 q2) = some q5 ∧ (IsK G h q5 (4, 0) ∧ (vp_in a4 12 ∧ (XB G x (sA h (x + 14) a4.toNatClampNeg (aI h 256 q5)) → Run G mX0_needs 309 27 [(0, .ref x), (1, .int a1), (2, .int a2), (3, .int a3), (4, .int (a4 + 1))] [] (sA h (x + 14) a4.toNatClampNeg (aI h 256 q5)) Q)))))))) : Run G mX0_needs 309 27 [(0, .ref x), (1, .int a1), (2, .int a2), (3, .int a3), (4, .int a4)] [] h Q := by
  refine R_iload dX0_needs_27 4 rfl ?_
  refine R_aload_n dX0_needs_29 0 rfl ?_
  refine X_getS (k := 8) B dX0_needs_30 q272 (by decide) rfl ?_
  refine R_icmp_ge (tgt := 62) dX0_needs_33 (by decide) (fun c9 => ?_) (fun c9 => ?_)
  · have w := w.1 c9
    refine R_iload_n dX0_needs_62 1 rfl ?_
    refine R_istore (lv' := [(4, .int a1), (0, .ref x), (1, .int a1), (2, .int a2), (3, .int a3)]) dX0_needs_63 (by decide) rfl ?_
    refine R_iconst (v := 0) dX0_needs_65 (by decide) ?_
    refine R_istore (lv' := [(5, .int 0), (4, .int a1), (0, .ref x), (1, .int a1), (2, .int a2), (3, .int a3)]) dX0_needs_66 (by decide) rfl ?_
    refine R_iconst (v := 0) dX0_needs_68 (by decide) ?_
    refine R_istore (lv' := [(6, .int 0), (5, .int 0), (4, .int a1), (0, .ref x), (1, .int a1), (2, .int a2), (3, .int a3)]) dX0_needs_69 (by decide) rfl ?_
    refine R_iconst (v := 0) dX0_needs_71 (by decide) ?_
    refine R_istore (lv' := [(7, .int 0), (6, .int 0), (5, .int 0), (4, .int a1), (0, .ref x), (1, .int a1), (2, .int a2), (3, .int a3)]) dX0_needs_72 (by decide) rfl ?_
    exact R_sub [4, 6, 7, 3, 2, 1, 0] rfl (w B)
  · have w := w.2 c9
    refine R_aload_n dX0_needs_36 0 rfl ?_
    refine X_getA (k := 22) (o := 14) (j := 100) (n := 12) B dX0_needs_37 q287 (by decide) rfl rfl ?_
    refine R_iload dX0_needs_40 4 rfl ?_
    refine R_aload_n dX0_needs_42 0 rfl ?_
    refine X_getA (k := 7) (o := 4) (j := 107) (n := 12) B dX0_needs_43 q271 (by decide) rfl rfl ?_
    refine R_iload dX0_needs_46 4 rfl ?_
    obtain ⟨c1, q2, e3, w⟩ := w
    refine X_aald (k := 7) (j := 7) (E := "NameRests$Person") B dX0_needs_48 rfl (by decide) (by decide) rfl c1 ?_
    refine R_top (v' := .ref q2) (congrArg va_rf e3) ?_
    obtain ⟨k4, w⟩ := w
    obtain ⟨q5, e6, w⟩ := w
    refine R_getPN (k := 1) (f := 385) ok6 dX0_needs_49 q391 (by decide) rfl (by decide) k4 ?_
    refine R_top (v' := .ref q5) (congrArg va_rf e6) ?_
    obtain ⟨k7, w⟩ := w
    refine R_getIN (k := 0) (f := 256) ok4 dX0_needs_52 q260 (by decide) rfl (by decide) k7 ?_
    obtain ⟨c8, w⟩ := w
    refine X_iast (k := 22) B dX0_needs_55 rfl c8 ?_
    refine R_iinc (v := (a4 + 1)) (lv' := [(4, .int (a4 + 1)), (0, .ref x), (1, .int a1), (2, .int a2), (3, .int a3)]) dX0_needs_56 4 rfl (congrArg (fun z => a4 + z) (show Int32.ofInt 1 = 1 by decide)) (by decide) rfl ?_
    refine R_goto (tgt := 27) dX0_needs_59 (by decide) ?_
    exact R_sub [1, 2, 3, 4, 0] rfl (w B.A)
theorem sX0_needs_74 {G : GG} {x : Nat} {h : AH} {Q : Outcome → AH → Prop} {a2 : Int32} {a3 : Int32} {a4 : Int32} {a5 : Int32} {a6 : Int32} {a7 : Int32} (B : XB G x h) (w : (a2 ≤ a7 → (XB G x h → Run G mX0_needs 309 191 [(0, .ref x), (2, .int a2), (3, .int a3), (5, .int a5), (6, .int a6), (7, .int 0)] [] h Q)) ∧ (¬ a2 ≤ a7 → (XB G x h → Run G mX0_needs 309 83 [(0, .ref x), (2, .int a2), (3, .int a3), (4, .int a4), (5, .int a5), (6, .int a6), (7, .int a7), (8, .int 0)] [] h Q))) : Run G mX0_needs 309 74 [(0, .ref x), (2, .int a2), (3, .int a3), (4, .int a4), (5, .int a5), (6, .int a6), (7, .int a7)] [] h Q := by
  refine R_iload dX0_needs_74 6 rfl ?_
  refine R_iload_n dX0_needs_76 1 rfl ?_
  refine R_icmp_ge (tgt := 188) dX0_needs_77 (by decide) (fun c1 => ?_) (fun c1 => ?_)
  · have w := w.1 c1
    refine R_iconst (v := 0) dX0_needs_188 (by decide) ?_
    refine R_istore (lv' := [(7, .int 0), (0, .ref x), (2, .int a2), (3, .int a3), (4, .int a4), (5, .int a5), (6, .int a6)]) dX0_needs_189 (by decide) rfl ?_
    exact R_sub [1, 2, 3, 5, 6, 0] rfl (w B)
  · have w := w.2 c1
    refine R_iconst (v := 0) dX0_needs_80 (by decide) ?_
    refine R_istore (lv' := [(8, .int 0), (0, .ref x), (2, .int a2), (3, .int a3), (4, .int a4), (5, .int a5), (6, .int a6), (7, .int a7)]) dX0_needs_81 (by decide) rfl ?_
    exact R_sub [1, 2, 3, 4, 5, 6, 7, 0] rfl (w B)
theorem sX0_needs_83 {G : GG} {x : Nat} {h : AH} {Q : Outcome → AH → Prop} {a2 : Int32} {a3 : Int32} {a4 : Int32} {a5 : Int32} {a6 : Int32} {a7 : Int32} {a8 : Int32} (B : XB G x h) (w : ((aI h 8 x) ≤ a8 → (Run G mX0_nameAll 308 0 [(0, .ref x), (1, .int 0)] [] h (fun o h1 => o = .returned none ∧ XB G x h1 ∧ (Run G mX0_namesUsed 2 0 [(0, .ref x)] [] h1 (fun o h2 => ∃ r3 : Int32, o = .returned (some (.int r3)) ∧ XB G x h2 ∧ (XB G x h2 → Run G mX0_needs 309 74 [(0, .ref x), (2, .int a2), (3, .int a3), (4, .int a4), (5, .int (a5 + r3)), (6, .int (if a6 < r3 then r3 else a6)), (7, .int (a7 + 1))] [] h2 Q)))))) ∧ (¬ (aI h 8 x) ≤ a8 → (vp_in a8 12 ∧ ∃ q5 : Nat, (aR h (x + 4) a8.toNatClampNeg) = some q5 ∧ (IsK G h q5 (6, 0) ∧ (∃ q8 : Nat, (aP h 385 q5) = some q8 ∧ (vp_in a8 12 ∧ ∃ q11 : Nat, (aR h (x + 4) a8.toNatClampNeg) = some q11 ∧ (IsK G h q11 (6, 0) ∧ (vp_in a8 12 ∧ ∃ q15 : Nat, (aR h (x + 4) a8.toNatClampNeg) = some q15 ∧ (IsK G h q15 (6, 0) ∧ (¬ (100 - (aI h 384 q15)) = 0 ∧ (IsK G h q8 (4, 0) ∧ (XB G x (sI h 256 q8 (((aI h 384 q11) + 1) + (((((a4 * 1103515245) + 12345)).toUInt32 >>> ((8 : Int32).toUInt32 &&& Int32.toUInt32 31)).toInt32 - ((((a4 * 1103515245) + 12345)).toUInt32 >>> ((8 : Int32).toUInt32 &&& Int32.toUInt32 31)).toInt32 / (100 - (aI h 384 q15)) * (100 - (aI h 384 q15))))) → Run G mX0_needs 309 83 [(0, .ref x), (2, .int a2), (3, .int a3), (4, .int ((a4 * 1103515245) + 12345)), (5, .int a5), (6, .int a6), (7, .int a7), (8, .int (a8 + 1))] [] (sI h 256 q8 (((aI h 384 q11) + 1) + (((((a4 * 1103515245) + 12345)).toUInt32 >>> ((8 : Int32).toUInt32 &&& Int32.toUInt32 31)).toInt32 - ((((a4 * 1103515245) + 12345)).toUInt32 >>> ((8 : Int32).toUInt32 &&& Int32.toUInt32 31)).toInt32 / (100 - (aI h 384 q15)) * (100 - (aI h 384 q15))))) Q)))))))))))) : Run G mX0_needs 309 83 [(0, .ref x), (2, .int a2), (3, .int a3), (4, .int a4), (5, .int a5), (6, .int a6), (7, .int a7), (8, .int a8)] [] h Q := by
  refine R_iload dX0_needs_83 7 rfl ?_
  refine R_aload_n dX0_needs_85 0 rfl ?_
  refine X_getS (k := 8) B dX0_needs_86 q272 (by decide) rfl ?_
  refine R_icmp_ge (tgt := 155) dX0_needs_89 (by decide) (fun c20 => ?_) (fun c20 => ?_)
  · have w := w.1 c20
    refine R_aload_n dX0_needs_155 0 rfl ?_
    refine R_iconst (v := 0) dX0_needs_156 (by decide) ?_
    refine R_invV (Mc := mX0_nameAll) (b := x) (As := [.int 0]) (st := []) ok0 (by decide) B.1 dX0_needs_157 q765 q767 qs38 q103 wX0_nameAll pX0_nameAll rfl (Nat.le_of_ble_eq_true rfl) (by decide) (by decide) (Nat.le_of_ble_eq_true rfl) (aft_v w (fun h1 w => ?_))
    obtain ⟨Bh1, w⟩ := w
    refine R_aload_n dX0_needs_160 0 rfl ?_
    refine R_invV (Mc := mX0_namesUsed) (b := x) (As := []) (st := []) ok0 (by decide) Bh1.1 dX0_needs_161 q773 q775 qs39 q103 wX0_namesUsed pX0_namesUsed rfl (Nat.le_of_ble_eq_true rfl) (by decide) (by decide) (Nat.le_of_ble_eq_true rfl) (aft_i w (fun r3 h2 w => ?_))
    obtain ⟨Bh2, w⟩ := w
    refine R_istore (lv' := [(8, .int r3), (0, .ref x), (2, .int a2), (3, .int a3), (4, .int a4), (5, .int a5), (6, .int a6), (7, .int a7)]) dX0_needs_164 (by decide) rfl ?_
    refine R_iload dX0_needs_166 5 rfl ?_
    refine R_iload dX0_needs_168 0 rfl ?_
    refine R_iadd dX0_needs_170 ?_
    refine R_istore (lv' := [(5, .int (a5 + r3)), (8, .int r3), (0, .ref x), (2, .int a2), (3, .int a3), (4, .int a4), (6, .int a6), (7, .int a7)]) dX0_needs_171 (by decide) rfl ?_
    refine R_iload dX0_needs_173 6 rfl ?_
    refine R_iload dX0_needs_175 1 rfl ?_
    refine R_mmax dX0_needs_177 q689 q690 q120 q691 (by decide) (Nat.le_of_ble_eq_true rfl) ?_
    refine R_istore (lv' := [(6, .int (if a6 < r3 then r3 else a6)), (5, .int (a5 + r3)), (8, .int r3), (0, .ref x), (2, .int a2), (3, .int a3), (4, .int a4), (7, .int a7)]) dX0_needs_180 (by decide) rfl ?_
    refine R_iinc (v := (a7 + 1)) (lv' := [(7, .int (a7 + 1)), (6, .int (if a6 < r3 then r3 else a6)), (5, .int (a5 + r3)), (8, .int r3), (0, .ref x), (2, .int a2), (3, .int a3), (4, .int a4)]) dX0_needs_182 7 rfl (congrArg (fun z => a7 + z) (show Int32.ofInt 1 = 1 by decide)) (by decide) rfl ?_
    refine R_goto (tgt := 74) dX0_needs_185 (by decide) ?_
    exact R_sub [4, 5, 6, 7, 2, 1, 0] rfl (w Bh2)
  · have w := w.2 c20
    refine R_iload dX0_needs_92 3 rfl ?_
    refine R_ldcw (v := 1103515245) dX0_needs_94 q797 ?_
    refine R_imul dX0_needs_97 ?_
    refine R_sipush (v := 12345) dX0_needs_98 (by decide) ?_
    refine R_iadd dX0_needs_101 ?_
    refine R_istore (lv' := [(4, .int ((a4 * 1103515245) + 12345)), (0, .ref x), (2, .int a2), (3, .int a3), (5, .int a5), (6, .int a6), (7, .int a7), (8, .int a8)]) dX0_needs_102 (by decide) rfl ?_
    refine R_aload_n dX0_needs_104 1 rfl ?_
    refine X_getA (k := 7) (o := 4) (j := 107) (n := 12) B dX0_needs_105 q271 (by decide) rfl rfl ?_
    refine R_iload dX0_needs_108 7 rfl ?_
    obtain ⟨c4, q5, e6, w⟩ := w
    refine X_aald (k := 7) (j := 7) (E := "NameRests$Person") B dX0_needs_110 rfl (by decide) (by decide) rfl c4 ?_
    refine R_top (v' := .ref q5) (congrArg va_rf e6) ?_
    obtain ⟨k7, w⟩ := w
    obtain ⟨q8, e9, w⟩ := w
    refine R_getPN (k := 1) (f := 385) ok6 dX0_needs_111 q391 (by decide) rfl (by decide) k7 ?_
    refine R_top (v' := .ref q8) (congrArg va_rf e9) ?_
    refine R_aload_n dX0_needs_114 1 rfl ?_
    refine X_getA (k := 7) (o := 4) (j := 107) (n := 12) B dX0_needs_115 q271 (by decide) rfl rfl ?_
    refine R_iload dX0_needs_118 7 rfl ?_
    obtain ⟨c10, q11, e12, w⟩ := w
    refine X_aald (k := 7) (j := 7) (E := "NameRests$Person") B dX0_needs_120 rfl (by decide) (by decide) rfl c10 ?_
    refine R_top (v' := .ref q11) (congrArg va_rf e12) ?_
    obtain ⟨k13, w⟩ := w
    refine R_getIN (k := 0) (f := 384) ok6 dX0_needs_121 q389 (by decide) rfl (by decide) k13 ?_
    refine R_iconst (v := 1) dX0_needs_124 (by decide) ?_
    refine R_iadd dX0_needs_125 ?_
    refine R_iload dX0_needs_126 0 rfl ?_
    refine R_bipush (v := 8) dX0_needs_128 (by decide) ?_
    refine R_iushr dX0_needs_130 ?_
    refine R_bipush (v := 100) dX0_needs_131 (by decide) ?_
    refine R_aload_n dX0_needs_133 1 rfl ?_
    refine X_getA (k := 7) (o := 4) (j := 107) (n := 12) B dX0_needs_134 q271 (by decide) rfl rfl ?_
    refine R_iload dX0_needs_137 7 rfl ?_
    obtain ⟨c14, q15, e16, w⟩ := w
    refine X_aald (k := 7) (j := 7) (E := "NameRests$Person") B dX0_needs_139 rfl (by decide) (by decide) rfl c14 ?_
    refine R_top (v' := .ref q15) (congrArg va_rf e16) ?_
    obtain ⟨k17, w⟩ := w
    refine R_getIN (k := 0) (f := 384) ok6 dX0_needs_140 q389 (by decide) rfl (by decide) k17 ?_
    refine R_isub dX0_needs_143 ?_
    obtain ⟨c19, w⟩ := w
    refine R_irem dX0_needs_144 c19 ?_
    refine R_iadd dX0_needs_145 ?_
    obtain ⟨k18, w⟩ := w
    refine R_putIN (k := 0) (f := 256) ok4 dX0_needs_146 q260 (by decide) rfl rfl rfl rfl rfl (by decide) k18 ?_
    refine R_iinc (v := (a8 + 1)) (lv' := [(8, .int (a8 + 1)), (4, .int ((a4 * 1103515245) + 12345)), (0, .ref x), (2, .int a2), (3, .int a3), (5, .int a5), (6, .int a6), (7, .int a7)]) dX0_needs_149 7 rfl (congrArg (fun z => a8 + z) (show Int32.ofInt 1 = 1 by decide)) (by decide) rfl ?_
    refine R_goto (tgt := 83) dX0_needs_152 (by decide) ?_
    exact R_sub [2, 3, 4, 1, 5, 6, 7, 0] rfl (w B.I)
theorem sX0_needs_191 {G : GG} {x : Nat} {h : AH} {Q : Outcome → AH → Prop} {a2 : Int32} {a3 : Int32} {a5 : Int32} {a6 : Int32} {a7 : Int32} (B : XB G x h) (w : ((aI h 8 x) ≤ a7 → ((¬ a3 = 0 → (Q (.returned (some (.int a6))) h)) ∧ (a3 = 0 → (¬ a2 = 0 ∧ (Q (.returned (some (.int (a5 / a2)))) h))))) ∧ (¬ (aI h 8 x) ≤ a7 → (vp_in a7 12 ∧ ∃ q4 : Nat, (aR h (x + 4) a7.toNatClampNeg) = some q4 ∧ (IsK G h q4 (6, 0) ∧ (∃ q7 : Nat, (aP h 385 q4) = some q7 ∧ (vp_in a7 12 ∧ (IsK G h q7 (4, 0) ∧ (XB G x (sI h 256 q7 (aA h (x + 14) a7.toNatClampNeg)) → Run G mX0_needs 309 191 [(0, .ref x), (2, .int a2), (3, .int a3), (5, .int a5), (6, .int a6), (7, .int (a7 + 1))] [] (sI h 256 q7 (aA h (x + 14) a7.toNatClampNeg)) Q)))))))) : Run G mX0_needs 309 191 [(0, .ref x), (2, .int a2), (3, .int a3), (5, .int a5), (6, .int a6), (7, .int a7)] [] h Q := by
  refine R_iload dX0_needs_191 5 rfl ?_
  refine R_aload_n dX0_needs_193 0 rfl ?_
  refine X_getS (k := 8) B dX0_needs_194 q272 (by decide) rfl ?_
  refine R_icmp_ge (tgt := 226) dX0_needs_197 (by decide) (fun c11 => ?_) (fun c11 => ?_)
  · have w := w.1 c11
    refine R_iload_n dX0_needs_226 2 rfl ?_
    refine R_if_ne (tgt := 237) dX0_needs_227 (by decide) (fun c2 => ?_) (fun c2 => ?_)
    · have w := w.1 c2
      refine R_iload dX0_needs_237 4 rfl ?_
      exact R_iret dX0_needs_239 rfl w
    · have w := w.2 c2
      refine R_iload dX0_needs_230 3 rfl ?_
      refine R_iload_n dX0_needs_232 1 rfl ?_
      obtain ⟨c1, w⟩ := w
      refine R_idiv dX0_needs_233 c1 ?_
      refine R_goto (tgt := 239) dX0_needs_234 (by decide) ?_
      exact R_iret dX0_needs_239 rfl w
  · have w := w.2 c11
    refine R_aload_n dX0_needs_200 0 rfl ?_
    refine X_getA (k := 7) (o := 4) (j := 107) (n := 12) B dX0_needs_201 q271 (by decide) rfl rfl ?_
    refine R_iload dX0_needs_204 5 rfl ?_
    obtain ⟨c3, q4, e5, w⟩ := w
    refine X_aald (k := 7) (j := 7) (E := "NameRests$Person") B dX0_needs_206 rfl (by decide) (by decide) rfl c3 ?_
    refine R_top (v' := .ref q4) (congrArg va_rf e5) ?_
    obtain ⟨k6, w⟩ := w
    obtain ⟨q7, e8, w⟩ := w
    refine R_getPN (k := 1) (f := 385) ok6 dX0_needs_207 q391 (by decide) rfl (by decide) k6 ?_
    refine R_top (v' := .ref q7) (congrArg va_rf e8) ?_
    refine R_aload_n dX0_needs_210 0 rfl ?_
    refine X_getA (k := 22) (o := 14) (j := 100) (n := 12) B dX0_needs_211 q287 (by decide) rfl rfl ?_
    refine R_iload dX0_needs_214 5 rfl ?_
    obtain ⟨c10, w⟩ := w
    refine X_iald (k := 22) B dX0_needs_216 rfl c10 ?_
    obtain ⟨k9, w⟩ := w
    refine R_putIN (k := 0) (f := 256) ok4 dX0_needs_217 q260 (by decide) rfl rfl rfl rfl rfl (by decide) k9 ?_
    refine R_iinc (v := (a7 + 1)) (lv' := [(7, .int (a7 + 1)), (0, .ref x), (2, .int a2), (3, .int a3), (5, .int a5), (6, .int a6)]) dX0_needs_220 5 rfl (congrArg (fun z => a7 + z) (show Int32.ofInt 1 = 1 by decide)) (by decide) rfl ?_
    refine R_goto (tgt := 191) dX0_needs_223 (by decide) ?_
    exact R_sub [1, 2, 3, 4, 5, 0] rfl (w B.I)
theorem sX0_never_0 {G : GG} {x : Nat} {h : AH} {Q : Outcome → AH → Prop} {a1 : Int32} (B : XB G x h) (w : Run G mX0_isPerson 2 0 [(0, .ref x), (1, .int a1)] [] h (fun o h1 => ∃ b2 : Bool, o = .returned (some (.int (bi b2))) ∧ XB G x h1 ∧ ((b2 = true → (vp_in a1 12 ∧ ∃ q4 : Nat, (aR h1 (x + 4) a1.toNatClampNeg) = some q4 ∧ (IsK G h1 q4 (6, 0) ∧ ((¬ (aI h1 386 q4) = (-1) → (Run G mX0_placeOf 1 0 [(0, .ref x), (1, .int a1)] [] h1 (fun o h7 => ∃ r8 : Int32, o = .returned (some (.int r8)) ∧ XB G x h7 ∧ (XB G x h7 → Run G mX0_never 3 35 [(0, .ref x), (1, .int a1), (2, .int 0), (3, .int (r8 + 1))] [] h7 Q)))) ∧ ((aI h1 386 q4) = (-1) → (Q (.returned (some (.int 0))) h1)))))) ∧ (b2 = false → (Q (.returned (some (.int (-1)))) h1))))) : Run G mX0_never 3 0 [(0, .ref x), (1, .int a1)] [] h Q := by
  refine R_aload_n dX0_never_0 0 rfl ?_
  refine R_iload_n dX0_never_1 1 rfl ?_
  refine R_invV (Mc := mX0_isPerson) (b := x) (As := [.int a1]) (st := []) ok0 (by decide) B.1 dX0_never_2 q436 q438 qs3 q103 wX0_isPerson pX0_isPerson rfl (Nat.le_of_ble_eq_true rfl) (by decide) (by decide) (Nat.le_of_ble_eq_true rfl) (aft_z w (fun b2 h1 w => ?_))
  obtain ⟨Bh1, w⟩ := w
  refine R_ifz_ne (tgt := 10) dX0_never_5 (by decide) (fun c10 => ?_) (fun c10 => ?_)
  · have w := w.1 c10
    refine R_aload_n dX0_never_10 0 rfl ?_
    refine X_getA (k := 7) (o := 4) (j := 107) (n := 12) Bh1 dX0_never_11 q271 (by decide) rfl rfl ?_
    refine R_iload_n dX0_never_14 1 rfl ?_
    obtain ⟨c3, q4, e5, w⟩ := w
    refine X_aald (k := 7) (j := 7) (E := "NameRests$Person") Bh1 dX0_never_15 rfl (by decide) (by decide) rfl c3 ?_
    refine R_top (v' := .ref q4) (congrArg va_rf e5) ?_
    obtain ⟨k6, w⟩ := w
    refine R_getIN (k := 2) (f := 386) ok6 dX0_never_16 q393 (by decide) rfl (by decide) k6 ?_
    refine R_iconst (v := (-1)) dX0_never_19 (by decide) ?_
    refine R_icmp_ne (tgt := 25) dX0_never_20 (by decide) (fun c9 => ?_) (fun c9 => ?_)
    · have w := w.1 c9
      refine R_iconst (v := 0) dX0_never_25 (by decide) ?_
      refine R_istore_n (lv' := [(2, .int 0), (0, .ref x), (1, .int a1)]) dX0_never_26 rfl (by decide) rfl ?_
      refine R_aload_n dX0_never_27 1 rfl ?_
      refine R_iload_n dX0_never_28 2 rfl ?_
      refine R_invV (Mc := mX0_placeOf) (b := x) (As := [.int a1]) (st := []) ok0 (by decide) Bh1.1 dX0_never_29 q496 q498 qs7 q103 wX0_placeOf pX0_placeOf rfl (Nat.le_of_ble_eq_true rfl) (by decide) (by decide) (Nat.le_of_ble_eq_true rfl) (aft_i w (fun r8 h7 w => ?_))
      obtain ⟨Bh7, w⟩ := w
      refine R_iconst (v := 1) dX0_never_32 (by decide) ?_
      refine R_iadd dX0_never_33 ?_
      refine R_istore_n (lv' := [(3, .int (r8 + 1)), (2, .int 0), (0, .ref x), (1, .int a1)]) dX0_never_34 rfl (by decide) rfl ?_
      exact R_sub [2, 3, 1, 0] rfl (w Bh7)
    · have w := w.2 c9
      refine R_iconst (v := 0) dX0_never_23 (by decide) ?_
      exact R_iret dX0_never_24 rfl w
  · have w := w.2 c10
    refine R_iconst (v := (-1)) dX0_never_8 (by decide) ?_
    exact R_iret dX0_never_9 rfl w
theorem sX0_never_35 {G : GG} {x : Nat} {h : AH} {Q : Outcome → AH → Prop} {a1 : Int32} {a2 : Int32} {a3 : Int32} (B : XB G x h) (w : ((aI h 8 x) ≤ a3 → (Q (.returned (some (.int a2))) h)) ∧ (¬ (aI h 8 x) ≤ a3 → (vp_in a3 12 ∧ (vp_in (aA h (x + 5) a3.toNatClampNeg) 12 ∧ ∃ q2 : Nat, (aR h (x + 4) (aA h (x + 5) a3.toNatClampNeg).toNatClampNeg) = some q2 ∧ (IsK G h q2 (6, 0) ∧ (vp_in a1 12 ∧ ∃ q6 : Nat, (aR h (x + 4) a1.toNatClampNeg) = some q6 ∧ (IsK G h q6 (6, 0) ∧ (((aI h 386 q2) = (aI h 386 q6) → (XB G x h → Run G mX0_never 3 79 [(0, .ref x), (1, .int a1), (2, .int a2), (3, .int a3), (4, .int (aA h (x + 5) a3.toNatClampNeg)), (5, .int 0)] [] h Q)) ∧ (¬ (aI h 386 q2) = (aI h 386 q6) → (XB G x h → Run G mX0_never 3 35 [(0, .ref x), (1, .int a1), (2, .int a2), (3, .int (a3 + 1))] [] h Q)))))))))) : Run G mX0_never 3 35 [(0, .ref x), (1, .int a1), (2, .int a2), (3, .int a3)] [] h Q := by
  refine R_iload_n dX0_never_35 3 rfl ?_
  refine R_aload_n dX0_never_36 0 rfl ?_
  refine X_getS (k := 8) B dX0_never_37 q272 (by decide) rfl ?_
  refine R_icmp_ge (tgt := 150) dX0_never_40 (by decide) (fun c11 => ?_) (fun c11 => ?_)
  · have w := w.1 c11
    refine R_iload_n dX0_never_150 2 rfl ?_
    exact R_iret dX0_never_151 rfl w
  · have w := w.2 c11
    refine R_aload_n dX0_never_43 0 rfl ?_
    refine X_getA (k := 9) (o := 5) (j := 100) (n := 12) B dX0_never_44 q273 (by decide) rfl rfl ?_
    refine R_iload_n dX0_never_47 3 rfl ?_
    obtain ⟨c10, w⟩ := w
    refine X_iald (k := 9) B dX0_never_48 rfl c10 ?_
    refine R_istore (lv' := [(4, .int (aA h (x + 5) a3.toNatClampNeg)), (0, .ref x), (1, .int a1), (2, .int a2), (3, .int a3)]) dX0_never_49 (by decide) rfl ?_
    refine R_aload_n dX0_never_51 1 rfl ?_
    refine X_getA (k := 7) (o := 4) (j := 107) (n := 12) B dX0_never_52 q271 (by decide) rfl rfl ?_
    refine R_iload dX0_never_55 0 rfl ?_
    obtain ⟨c1, q2, e3, w⟩ := w
    refine X_aald (k := 7) (j := 7) (E := "NameRests$Person") B dX0_never_57 rfl (by decide) (by decide) rfl c1 ?_
    refine R_top (v' := .ref q2) (congrArg va_rf e3) ?_
    obtain ⟨k4, w⟩ := w
    refine R_getIN (k := 2) (f := 386) ok6 dX0_never_58 q393 (by decide) rfl (by decide) k4 ?_
    refine R_aload_n dX0_never_61 1 rfl ?_
    refine X_getA (k := 7) (o := 4) (j := 107) (n := 12) B dX0_never_62 q271 (by decide) rfl rfl ?_
    refine R_iload_n dX0_never_65 2 rfl ?_
    obtain ⟨c5, q6, e7, w⟩ := w
    refine X_aald (k := 7) (j := 7) (E := "NameRests$Person") B dX0_never_66 rfl (by decide) (by decide) rfl c5 ?_
    refine R_top (v' := .ref q6) (congrArg va_rf e7) ?_
    obtain ⟨k8, w⟩ := w
    refine R_getIN (k := 2) (f := 386) ok6 dX0_never_67 q393 (by decide) rfl (by decide) k8 ?_
    refine R_icmp_eq (tgt := 76) dX0_never_70 (by decide) (fun c9 => ?_) (fun c9 => ?_)
    · have w := w.1 c9
      refine R_iconst (v := 0) dX0_never_76 (by decide) ?_
      refine R_istore (lv' := [(5, .int 0), (4, .int (aA h (x + 5) a3.toNatClampNeg)), (0, .ref x), (1, .int a1), (2, .int a2), (3, .int a3)]) dX0_never_77 (by decide) rfl ?_
      exact R_sub [2, 3, 4, 5, 1, 0] rfl (w B)
    · have w := w.2 c9
      refine R_goto (tgt := 144) dX0_never_73 (by decide) ?_
      refine R_iinc (v := (a3 + 1)) (lv' := [(3, .int (a3 + 1)), (4, .int (aA h (x + 5) a3.toNatClampNeg)), (0, .ref x), (1, .int a1), (2, .int a2)]) dX0_never_144 4 rfl (congrArg (fun z => a3 + z) (show Int32.ofInt 1 = 1 by decide)) (by decide) rfl ?_
      refine R_goto (tgt := 35) dX0_never_147 (by decide) ?_
      exact R_sub [2, 3, 4, 0] rfl (w B)
theorem sX0_never_79 {G : GG} {x : Nat} {h : AH} {Q : Outcome → AH → Prop} {a1 : Int32} {a2 : Int32} {a3 : Int32} {a4 : Int32} {a5 : Int32} (B : XB G x h) (w : ((aI h 8 x) ≤ a5 → (XB G x h → Run G mX0_never 3 35 [(0, .ref x), (1, .int a1), (2, .int a2), (3, .int (a3 + 1))] [] h Q)) ∧ (¬ (aI h 8 x) ≤ a5 → ((a5 = a1 → (Run G mX0_bit 1 0 [(0, .int (bi false))] [] h (fun o h1 => ∃ r2 : Int32, o = .returned (some (.int r2)) ∧ XB G x h1 ∧ (XB G x h1 → Run G mX0_never 3 79 [(0, .ref x), (1, .int a1), (2, .int (a2 ||| (r2 <<< (a5 &&& 31)))), (3, .int a3), (4, .int a4), (5, .int (a5 + 1))] [] h1 Q)))) ∧ (¬ a5 = a1 → ((a5 = a4 → (Run G mX0_bit 1 0 [(0, .int (bi false))] [] h (fun o h3 => ∃ r4 : Int32, o = .returned (some (.int r4)) ∧ XB G x h3 ∧ (XB G x h3 → Run G mX0_never 3 79 [(0, .ref x), (1, .int a1), (2, .int (a2 ||| (r4 <<< (a5 &&& 31)))), (3, .int a3), (4, .int a4), (5, .int (a5 + 1))] [] h3 Q)))) ∧ (¬ a5 = a4 → (vp_in a5 12 ∧ ∃ q6 : Nat, (aR h (x + 4) a5.toNatClampNeg) = some q6 ∧ (vp_in a4 12 ∧ ∃ q9 : Nat, (aR h (x + 4) a4.toNatClampNeg) = some q9 ∧ (IsK G h q9 (6, 0) ∧ (IsK G h q6 (6, 0) ∧ (Run G mX6_lives 1 0 [(0, .ref q6), (1, .int (aI h 384 q9))] [] h (fun o h12 => ∃ b13 : Bool, o = .returned (some (.int (bi b13))) ∧ XB G x h12 ∧ ((b13 = false → (Run G mX0_bit 1 0 [(0, .int (bi false))] [] h12 (fun o h14 => ∃ r15 : Int32, o = .returned (some (.int r15)) ∧ XB G x h14 ∧ (XB G x h14 → Run G mX0_never 3 79 [(0, .ref x), (1, .int a1), (2, .int (a2 ||| (r15 <<< (a5 &&& 31)))), (3, .int a3), (4, .int a4), (5, .int (a5 + 1))] [] h14 Q)))) ∧ (b13 = true → (Run G mX0_bit 1 0 [(0, .int (bi true))] [] h12 (fun o h16 => ∃ r17 : Int32, o = .returned (some (.int r17)) ∧ XB G x h16 ∧ (XB G x h16 → Run G mX0_never 3 79 [(0, .ref x), (1, .int a1), (2, .int (a2 ||| (r17 <<< (a5 &&& 31)))), (3, .int a3), (4, .int a4), (5, .int (a5 + 1))] [] h16 Q))))))))))))))))) : Run G mX0_never 3 79 [(0, .ref x), (1, .int a1), (2, .int a2), (3, .int a3), (4, .int a4), (5, .int a5)] [] h Q := by
  refine R_iload dX0_never_79 5 rfl ?_
  refine R_aload_n dX0_never_81 0 rfl ?_
  refine X_getS (k := 8) B dX0_never_82 q272 (by decide) rfl ?_
  refine R_icmp_ge (tgt := 144) dX0_never_85 (by decide) (fun c22 => ?_) (fun c22 => ?_)
  · have w := w.1 c22
    refine R_iinc (v := (a3 + 1)) (lv' := [(3, .int (a3 + 1)), (0, .ref x), (1, .int a1), (2, .int a2), (4, .int a4), (5, .int a5)]) dX0_never_144 3 rfl (congrArg (fun z => a3 + z) (show Int32.ofInt 1 = 1 by decide)) (by decide) rfl ?_
    refine R_goto (tgt := 35) dX0_never_147 (by decide) ?_
    exact R_sub [1, 2, 3, 0] rfl (w B)
  · have w := w.2 c22
    refine R_iload_n dX0_never_88 2 rfl ?_
    refine R_iload dX0_never_89 5 rfl ?_
    refine R_iload_n dX0_never_91 1 rfl ?_
    refine R_icmp_eq (tgt := 129) dX0_never_92 (by decide) (fun c21 => ?_) (fun c21 => ?_)
    · have w := w.1 c21
      refine R_iconst (v := 0) dX0_never_129 (by decide) ?_
      refine R_invS (Mc := mX0_bit) (As := [.int (bi false)]) (st := [.int a2]) dX0_never_130 q505 q506 q103 wX0_bit pX0_bit rfl (Nat.le_of_ble_eq_true rfl) (by decide) (by decide) (Nat.le_of_ble_eq_true rfl) (aft_i w (fun r2 h1 w => ?_))
      obtain ⟨Bh1, w⟩ := w
      refine R_iload dX0_never_133 5 rfl ?_
      refine R_ishl dX0_never_135 ?_
      refine R_ior dX0_never_136 ?_
      refine R_istore_n (lv' := [(2, .int (a2 ||| (r2 <<< (a5 &&& 31)))), (0, .ref x), (1, .int a1), (3, .int a3), (4, .int a4), (5, .int a5)]) dX0_never_137 rfl (by decide) rfl ?_
      refine R_iinc (v := (a5 + 1)) (lv' := [(5, .int (a5 + 1)), (2, .int (a2 ||| (r2 <<< (a5 &&& 31)))), (0, .ref x), (1, .int a1), (3, .int a3), (4, .int a4)]) dX0_never_138 5 rfl (congrArg (fun z => a5 + z) (show Int32.ofInt 1 = 1 by decide)) (by decide) rfl ?_
      refine R_goto (tgt := 79) dX0_never_141 (by decide) ?_
      exact R_sub [2, 3, 1, 4, 5, 0] rfl (w Bh1)
    · have w := w.2 c21
      refine R_iload dX0_never_95 5 rfl ?_
      refine R_iload dX0_never_97 4 rfl ?_
      refine R_icmp_eq (tgt := 129) dX0_never_99 (by decide) (fun c20 => ?_) (fun c20 => ?_)
      · have w := w.1 c20
        refine R_iconst (v := 0) dX0_never_129 (by decide) ?_
        refine R_invS (Mc := mX0_bit) (As := [.int (bi false)]) (st := [.int a2]) dX0_never_130 q505 q506 q103 wX0_bit pX0_bit rfl (Nat.le_of_ble_eq_true rfl) (by decide) (by decide) (Nat.le_of_ble_eq_true rfl) (aft_i w (fun r4 h3 w => ?_))
        obtain ⟨Bh3, w⟩ := w
        refine R_iload dX0_never_133 5 rfl ?_
        refine R_ishl dX0_never_135 ?_
        refine R_ior dX0_never_136 ?_
        refine R_istore_n (lv' := [(2, .int (a2 ||| (r4 <<< (a5 &&& 31)))), (0, .ref x), (1, .int a1), (3, .int a3), (4, .int a4), (5, .int a5)]) dX0_never_137 rfl (by decide) rfl ?_
        refine R_iinc (v := (a5 + 1)) (lv' := [(5, .int (a5 + 1)), (2, .int (a2 ||| (r4 <<< (a5 &&& 31)))), (0, .ref x), (1, .int a1), (3, .int a3), (4, .int a4)]) dX0_never_138 5 rfl (congrArg (fun z => a5 + z) (show Int32.ofInt 1 = 1 by decide)) (by decide) rfl ?_
        refine R_goto (tgt := 79) dX0_never_141 (by decide) ?_
        exact R_sub [2, 3, 1, 4, 5, 0] rfl (w Bh3)
      · have w := w.2 c20
        refine R_aload_n dX0_never_102 0 rfl ?_
        refine X_getA (k := 7) (o := 4) (j := 107) (n := 12) B dX0_never_103 q271 (by decide) rfl rfl ?_
        refine R_iload dX0_never_106 5 rfl ?_
        obtain ⟨c5, q6, e7, w⟩ := w
        refine X_aald (k := 7) (j := 7) (E := "NameRests$Person") B dX0_never_108 rfl (by decide) (by decide) rfl c5 ?_
        refine R_top (v' := .ref q6) (congrArg va_rf e7) ?_
        refine R_aload_n dX0_never_109 0 rfl ?_
        refine X_getA (k := 7) (o := 4) (j := 107) (n := 12) B dX0_never_110 q271 (by decide) rfl rfl ?_
        refine R_iload dX0_never_113 4 rfl ?_
        obtain ⟨c8, q9, e10, w⟩ := w
        refine X_aald (k := 7) (j := 7) (E := "NameRests$Person") B dX0_never_115 rfl (by decide) (by decide) rfl c8 ?_
        refine R_top (v' := .ref q9) (congrArg va_rf e10) ?_
        obtain ⟨k11, w⟩ := w
        refine R_getIN (k := 0) (f := 384) ok6 dX0_never_116 q389 (by decide) rfl (by decide) k11 ?_
        obtain ⟨k19, w⟩ := w
        refine R_invV (Mc := mX6_lives) (b := q6) (As := [.int (aI h 384 q9)]) (st := [.int a2]) ok6 (by decide) k19 dX0_never_119 q444 q445 q446 q112 wX6_lives pX6_lives rfl (Nat.le_of_ble_eq_true rfl) (by decide) (by decide) (Nat.le_of_ble_eq_true rfl) (aft_z w (fun b13 h12 w => ?_))
        obtain ⟨Bh12, w⟩ := w
        refine R_ifz_eq (tgt := 129) dX0_never_122 (by decide) (fun c18 => ?_) (fun c18 => ?_)
        · have w := w.1 c18
          refine R_iconst (v := 0) dX0_never_129 (by decide) ?_
          refine R_invS (Mc := mX0_bit) (As := [.int (bi false)]) (st := [.int a2]) dX0_never_130 q505 q506 q103 wX0_bit pX0_bit rfl (Nat.le_of_ble_eq_true rfl) (by decide) (by decide) (Nat.le_of_ble_eq_true rfl) (aft_i w (fun r15 h14 w => ?_))
          obtain ⟨Bh14, w⟩ := w
          refine R_iload dX0_never_133 5 rfl ?_
          refine R_ishl dX0_never_135 ?_
          refine R_ior dX0_never_136 ?_
          refine R_istore_n (lv' := [(2, .int (a2 ||| (r15 <<< (a5 &&& 31)))), (0, .ref x), (1, .int a1), (3, .int a3), (4, .int a4), (5, .int a5)]) dX0_never_137 rfl (by decide) rfl ?_
          refine R_iinc (v := (a5 + 1)) (lv' := [(5, .int (a5 + 1)), (2, .int (a2 ||| (r15 <<< (a5 &&& 31)))), (0, .ref x), (1, .int a1), (3, .int a3), (4, .int a4)]) dX0_never_138 5 rfl (congrArg (fun z => a5 + z) (show Int32.ofInt 1 = 1 by decide)) (by decide) rfl ?_
          refine R_goto (tgt := 79) dX0_never_141 (by decide) ?_
          exact R_sub [2, 3, 1, 4, 5, 0] rfl (w Bh14)
        · have w := w.2 c18
          refine R_iconst (v := 1) dX0_never_125 (by decide) ?_
          refine R_goto (tgt := 130) dX0_never_126 (by decide) ?_
          refine R_invS (Mc := mX0_bit) (As := [.int (bi true)]) (st := [.int a2]) dX0_never_130 q505 q506 q103 wX0_bit pX0_bit rfl (Nat.le_of_ble_eq_true rfl) (by decide) (by decide) (Nat.le_of_ble_eq_true rfl) (aft_i w (fun r17 h16 w => ?_))
          obtain ⟨Bh16, w⟩ := w
          refine R_iload dX0_never_133 5 rfl ?_
          refine R_ishl dX0_never_135 ?_
          refine R_ior dX0_never_136 ?_
          refine R_istore_n (lv' := [(2, .int (a2 ||| (r17 <<< (a5 &&& 31)))), (0, .ref x), (1, .int a1), (3, .int a3), (4, .int a4), (5, .int a5)]) dX0_never_137 rfl (by decide) rfl ?_
          refine R_iinc (v := (a5 + 1)) (lv' := [(5, .int (a5 + 1)), (2, .int (a2 ||| (r17 <<< (a5 &&& 31)))), (0, .ref x), (1, .int a1), (3, .int a3), (4, .int a4)]) dX0_never_138 5 rfl (congrArg (fun z => a5 + z) (show Int32.ofInt 1 = 1 by decide)) (by decide) rfl ?_
          refine R_goto (tgt := 79) dX0_never_141 (by decide) ?_
          exact R_sub [2, 3, 1, 4, 5, 0] rfl (w Bh16)
theorem sX0_nobodyBears_0 {G : GG} {x : Nat} {h : AH} {Q : Outcome → AH → Prop} (B : XB G x h) (w : XB G x h → Run G mX0_nobodyBears 1 2 [(0, .ref x), (1, .int 0)] [] h Q) : Run G mX0_nobodyBears 1 0 [(0, .ref x)] [] h Q := by
  refine R_iconst (v := 0) dX0_nobodyBears_0 (by decide) ?_
  refine R_istore_n (lv' := [(1, .int 0), (0, .ref x)]) dX0_nobodyBears_1 rfl (by decide) rfl ?_
  exact R_sub [1, 0] rfl (w B)
theorem sX0_nobodyBears_2 {G : GG} {x : Nat} {h : AH} {Q : Outcome → AH → Prop} {a1 : Int32} (B : XB G x h) (w : ((aI h 8 x) ≤ a1 → (Q (.returned none) h)) ∧ (¬ (aI h 8 x) ≤ a1 → (vp_in a1 12 ∧ (XB G x (sA h (x + 13) a1.toNatClampNeg (-1)) → Run G mX0_nobodyBears 1 2 [(0, .ref x), (1, .int (a1 + 1))] [] (sA h (x + 13) a1.toNatClampNeg (-1)) Q)))) : Run G mX0_nobodyBears 1 2 [(0, .ref x), (1, .int a1)] [] h Q := by
  refine R_iload_n dX0_nobodyBears_2 1 rfl ?_
  refine R_aload_n dX0_nobodyBears_3 0 rfl ?_
  refine X_getS (k := 8) B dX0_nobodyBears_4 q272 (by decide) rfl ?_
  refine R_icmp_ge (tgt := 23) dX0_nobodyBears_7 (by decide) (fun c2 => ?_) (fun c2 => ?_)
  · have w := w.1 c2
    exact R_vret dX0_nobodyBears_23 rfl w
  · have w := w.2 c2
    refine R_aload_n dX0_nobodyBears_10 0 rfl ?_
    refine X_getA (k := 21) (o := 13) (j := 100) (n := 12) B dX0_nobodyBears_11 q286 (by decide) rfl rfl ?_
    refine R_iload_n dX0_nobodyBears_14 1 rfl ?_
    refine R_iconst (v := (-1)) dX0_nobodyBears_15 (by decide) ?_
    obtain ⟨c1, w⟩ := w
    refine X_iast (k := 21) B dX0_nobodyBears_16 rfl c1 ?_
    refine R_iinc (v := (a1 + 1)) (lv' := [(1, .int (a1 + 1)), (0, .ref x)]) dX0_nobodyBears_17 1 rfl (congrArg (fun z => a1 + z) (show Int32.ofInt 1 = 1 by decide)) (by decide) rfl ?_
    refine R_goto (tgt := 2) dX0_nobodyBears_20 (by decide) ?_
    exact R_sub [1, 0] rfl (w B.A)
theorem sX0_of_0 {G : GG} {x : Nat} {h : AH} {Q : Outcome → AH → Prop} {a1 : Int32} {a2 : Int32} (B : XB G x h) (w : Run G mX0_within 1 0 [(0, .long a2.toInt64), (2, .long 0), (4, .long 3)] [] h (fun o h1 => ∃ b2 : Bool, o = .returned (some (.int (bi b2))) ∧ XB G x h1 ∧ ((b2 = false → (Run G mX0_within 1 0 [(0, .long a2.toInt64), (2, .long 10), (4, .long 12)] [] h1 (fun o h3 => ∃ b4 : Bool, o = .returned (some (.int (bi b4))) ∧ XB G x h3 ∧ ((b4 = false → (Run G mX0_within 1 0 [(0, .long a2.toInt64), (2, .long 20), (4, .long 22)] [] h3 (fun o h5 => ∃ b6 : Bool, o = .returned (some (.int (bi b6))) ∧ XB G x h5 ∧ ((b6 = false → (Q (.returned (some (.int (-2000000000)))) h5)) ∧ (b6 = true → (Run G mX0_isMeeting 2 0 [(0, .ref x), (1, .int a1)] [] h5 (fun o h7 => ∃ b8 : Bool, o = .returned (some (.int (bi b8))) ∧ XB G x h7 ∧ ((b8 = true → ((¬ a2 = 20 → ((¬ a2 = 21 → (Run G mX0_doesCount 3 0 [(0, .ref x), (1, .int a1)] [] h7 (fun o h9 => ∃ b10 : Bool, o = .returned (some (.int (bi b10))) ∧ XB G x h9 ∧ (Run G mX0_bit 1 0 [(0, .int (bi b10))] [] h9 (fun o h11 => ∃ r12 : Int32, o = .returned (some (.int r12)) ∧ XB G x h11 ∧ (Q (.returned (some (.int r12))) h11)))))) ∧ (a2 = 21 → (vp_in a1 16 ∧ ∃ q14 : Nat, (aR h7 (x + 6) a1.toNatClampNeg) = some q14 ∧ (IsK G h7 q14 (7, 0) ∧ (Q (.returned (some (.int (aI h7 450 q14)))) h7)))))) ∧ (a2 = 20 → (vp_in a1 16 ∧ ∃ q19 : Nat, (aR h7 (x + 6) a1.toNatClampNeg) = some q19 ∧ (IsK G h7 q19 (7, 0) ∧ (vp_in a1 16 ∧ ∃ q23 : Nat, (aR h7 (x + 6) a1.toNatClampNeg) = some q23 ∧ (IsK G h7 q23 (7, 0) ∧ (Q (.returned (some (.int ((100 * (aI h7 448 q19)) + (aI h7 449 q23))))) h7)))))))) ∧ (b8 = false → (Q (.returned (some (.int (-2000000000)))) h7)))))))))) ∧ (b4 = true → (Run G mX0_isName 2 0 [(0, .int a1)] [] h3 (fun o h29 => ∃ b30 : Bool, o = .returned (some (.int (bi b30))) ∧ XB G x h29 ∧ ((b30 = true → ((¬ a2 = 10 → ((¬ a2 = 11 → (Run G mX0_bearersOf 2 0 [(0, .ref x), (1, .int a1)] [] h29 (fun o h31 => ∃ r32 : Int32, o = .returned (some (.int r32)) ∧ XB G x h31 ∧ (Q (.returned (some (.int r32))) h31)))) ∧ (a2 = 11 → (vp_in a1 12 ∧ (Q (.returned (some (.int (aA h29 (x + 9) a1.toNatClampNeg)))) h29))))) ∧ (a2 = 10 → (vp_in a1 12 ∧ ∃ q36 : Nat, (aR h29 (x + 8) a1.toNatClampNeg) = some q36 ∧ (IsK G h29 q36 (4, 0) ∧ (Q (.returned (some (.int (aI h29 256 q36)))) h29)))))) ∧ (b30 = false → (Q (.returned (some (.int (-2000000000)))) h29)))))))))) ∧ (b2 = true → (Run G mX0_isPerson 2 0 [(0, .ref x), (1, .int a1)] [] h1 (fun o h42 => ∃ b43 : Bool, o = .returned (some (.int (bi b43))) ∧ XB G x h42 ∧ ((b43 = false → (Q (.returned (some (.int (-2000000000)))) h42)) ∧ (b43 = true → (Run G mX0_ofPerson 2 0 [(0, .ref x), (1, .int a1), (2, .int a2)] [] h42 (fun o h44 => ∃ r45 : Int32, o = .returned (some (.int r45)) ∧ XB G x h44 ∧ (Q (.returned (some (.int r45))) h44))))))))))) : Run G mX0_of 4 0 [(0, .ref x), (1, .int a1), (2, .int a2)] [] h Q := by
  refine R_iload_n dX0_of_0 2 rfl ?_
  refine R_i2l dX0_of_1 ?_
  refine R_lconst (v := 0) dX0_of_2 (by decide) ?_
  refine R_ldc2 (v := 3) dX0_of_3 q422 ?_
  refine R_invS (Mc := mX0_within) (As := [.long a2.toInt64, .long 0, .long 3]) (st := []) dX0_of_6 q366 q367 q103 wX0_within pX0_within rfl (Nat.le_of_ble_eq_true rfl) (by decide) (by decide) (Nat.le_of_ble_eq_true rfl) (aft_z w (fun b2 h1 w => ?_))
  obtain ⟨Bh1, w⟩ := w
  refine R_ifz_eq (tgt := 32) dX0_of_9 (by decide) (fun c47 => ?_) (fun c47 => ?_)
  · have w := w.1 c47
    refine R_iload_n dX0_of_32 2 rfl ?_
    refine R_i2l dX0_of_33 ?_
    refine R_ldc2 (v := 10) dX0_of_34 q500 ?_
    refine R_ldc2 (v := 12) dX0_of_37 q413 ?_
    refine R_invS (Mc := mX0_within) (As := [.long a2.toInt64, .long 10, .long 12]) (st := []) dX0_of_40 q366 q367 q103 wX0_within pX0_within rfl (Nat.le_of_ble_eq_true rfl) (by decide) (by decide) (Nat.le_of_ble_eq_true rfl) (aft_z w (fun b4 h3 w => ?_))
    obtain ⟨Bh3, w⟩ := w
    refine R_ifz_eq (tgt := 97) dX0_of_43 (by decide) (fun c41 => ?_) (fun c41 => ?_)
    · have w := w.1 c41
      refine R_iload_n dX0_of_97 2 rfl ?_
      refine R_i2l dX0_of_98 ?_
      refine R_ldc2 (v := 20) dX0_of_99 q508 ?_
      refine R_ldc2 (v := 22) dX0_of_102 q509 ?_
      refine R_invS (Mc := mX0_within) (As := [.long a2.toInt64, .long 20, .long 22]) (st := []) dX0_of_105 q366 q367 q103 wX0_within pX0_within rfl (Nat.le_of_ble_eq_true rfl) (by decide) (by decide) (Nat.le_of_ble_eq_true rfl) (aft_z w (fun b6 h5 w => ?_))
      obtain ⟨Bh5, w⟩ := w
      refine R_ifz_eq (tgt := 119) dX0_of_108 (by decide) (fun c28 => ?_) (fun c28 => ?_)
      · have w := w.1 c28
        refine R_ldc (v := (-2000000000)) dX0_of_119 q474 ?_
        exact R_iret dX0_of_121 rfl w
      · have w := w.2 c28
        refine R_aload_n dX0_of_111 0 rfl ?_
        refine R_iload_n dX0_of_112 1 rfl ?_
        refine R_invV (Mc := mX0_isMeeting) (b := x) (As := [.int a1]) (st := []) ok0 (by decide) Bh5.1 dX0_of_113 q510 q512 qs9 q103 wX0_isMeeting pX0_isMeeting rfl (Nat.le_of_ble_eq_true rfl) (by decide) (by decide) (Nat.le_of_ble_eq_true rfl) (aft_z w (fun b8 h7 w => ?_))
        obtain ⟨Bh7, w⟩ := w
        refine R_ifz_ne (tgt := 122) dX0_of_116 (by decide) (fun c27 => ?_) (fun c27 => ?_)
        · have w := w.1 c27
          refine R_iload_n dX0_of_122 2 rfl ?_
          refine R_bipush (v := 20) dX0_of_123 (by decide) ?_
          refine R_icmp_ne (tgt := 153) dX0_of_125 (by decide) (fun c26 => ?_) (fun c26 => ?_)
          · have w := w.1 c26
            refine R_iload_n dX0_of_153 2 rfl ?_
            refine R_bipush (v := 21) dX0_of_154 (by decide) ?_
            refine R_icmp_ne (tgt := 171) dX0_of_156 (by decide) (fun c17 => ?_) (fun c17 => ?_)
            · have w := w.1 c17
              refine R_aload_n dX0_of_171 0 rfl ?_
              refine R_iload_n dX0_of_172 1 rfl ?_
              refine R_invV (Mc := mX0_doesCount) (b := x) (As := [.int a1]) (st := []) ok0 (by decide) Bh7.1 dX0_of_173 q514 q516 qs10 q103 wX0_doesCount pX0_doesCount rfl (Nat.le_of_ble_eq_true rfl) (by decide) (by decide) (Nat.le_of_ble_eq_true rfl) (aft_z w (fun b10 h9 w => ?_))
              obtain ⟨Bh9, w⟩ := w
              refine R_invS (Mc := mX0_bit) (As := [.int (bi b10)]) (st := []) dX0_of_176 q505 q506 q103 wX0_bit pX0_bit rfl (Nat.le_of_ble_eq_true rfl) (by decide) (by decide) (Nat.le_of_ble_eq_true rfl) (aft_i w (fun r12 h11 w => ?_))
              obtain ⟨Bh11, w⟩ := w
              exact R_iret dX0_of_179 rfl w
            · have w := w.2 c17
              refine R_aload_n dX0_of_159 0 rfl ?_
              refine X_getA (k := 10) (o := 6) (j := 108) (n := 16) Bh7 dX0_of_160 q274 (by decide) rfl rfl ?_
              refine R_iload_n dX0_of_163 1 rfl ?_
              obtain ⟨c13, q14, e15, w⟩ := w
              refine X_aald (k := 10) (j := 8) (E := "NameRests$Meeting") Bh7 dX0_of_164 rfl (by decide) (by decide) rfl c13 ?_
              refine R_top (v' := .ref q14) (congrArg va_rf e15) ?_
              obtain ⟨k16, w⟩ := w
              refine R_getIN (k := 2) (f := 450) ok7 dX0_of_165 q458 (by decide) rfl (by decide) k16 ?_
              refine R_goto (tgt := 179) dX0_of_168 (by decide) ?_
              exact R_iret dX0_of_179 rfl w
          · have w := w.2 c26
            refine R_bipush (v := 100) dX0_of_128 (by decide) ?_
            refine R_aload_n dX0_of_130 0 rfl ?_
            refine X_getA (k := 10) (o := 6) (j := 108) (n := 16) Bh7 dX0_of_131 q274 (by decide) rfl rfl ?_
            refine R_iload_n dX0_of_134 1 rfl ?_
            obtain ⟨c18, q19, e20, w⟩ := w
            refine X_aald (k := 10) (j := 8) (E := "NameRests$Meeting") Bh7 dX0_of_135 rfl (by decide) (by decide) rfl c18 ?_
            refine R_top (v' := .ref q19) (congrArg va_rf e20) ?_
            obtain ⟨k21, w⟩ := w
            refine R_getIN (k := 0) (f := 448) ok7 dX0_of_136 q454 (by decide) rfl (by decide) k21 ?_
            refine R_imul dX0_of_139 ?_
            refine R_aload_n dX0_of_140 0 rfl ?_
            refine X_getA (k := 10) (o := 6) (j := 108) (n := 16) Bh7 dX0_of_141 q274 (by decide) rfl rfl ?_
            refine R_iload_n dX0_of_144 1 rfl ?_
            obtain ⟨c22, q23, e24, w⟩ := w
            refine X_aald (k := 10) (j := 8) (E := "NameRests$Meeting") Bh7 dX0_of_145 rfl (by decide) (by decide) rfl c22 ?_
            refine R_top (v' := .ref q23) (congrArg va_rf e24) ?_
            obtain ⟨k25, w⟩ := w
            refine R_getIN (k := 1) (f := 449) ok7 dX0_of_146 q456 (by decide) rfl (by decide) k25 ?_
            refine R_iadd dX0_of_149 ?_
            refine R_goto (tgt := 179) dX0_of_150 (by decide) ?_
            exact R_iret dX0_of_179 rfl w
        · have w := w.2 c27
          refine R_ldc (v := (-2000000000)) dX0_of_119 q474 ?_
          exact R_iret dX0_of_121 rfl w
    · have w := w.2 c41
      refine R_iload_n dX0_of_46 1 rfl ?_
      refine R_invS (Mc := mX0_isName) (As := [.int a1]) (st := []) dX0_of_47 q428 q429 q103 wX0_isName pX0_isName rfl (Nat.le_of_ble_eq_true rfl) (by decide) (by decide) (Nat.le_of_ble_eq_true rfl) (aft_z w (fun b30 h29 w => ?_))
      obtain ⟨Bh29, w⟩ := w
      refine R_ifz_ne (tgt := 58) dX0_of_50 (by decide) (fun c40 => ?_) (fun c40 => ?_)
      · have w := w.1 c40
        refine R_iload_n dX0_of_58 2 rfl ?_
        refine R_bipush (v := 10) dX0_of_59 (by decide) ?_
        refine R_icmp_ne (tgt := 76) dX0_of_61 (by decide) (fun c39 => ?_) (fun c39 => ?_)
        · have w := w.1 c39
          refine R_iload_n dX0_of_76 2 rfl ?_
          refine R_bipush (v := 11) dX0_of_77 (by decide) ?_
          refine R_icmp_ne (tgt := 91) dX0_of_79 (by decide) (fun c34 => ?_) (fun c34 => ?_)
          · have w := w.1 c34
            refine R_aload_n dX0_of_91 0 rfl ?_
            refine R_iload_n dX0_of_92 1 rfl ?_
            refine R_invV (Mc := mX0_bearersOf) (b := x) (As := [.int a1]) (st := []) ok0 (by decide) Bh29.1 dX0_of_93 q501 q503 qs8 q103 wX0_bearersOf pX0_bearersOf rfl (Nat.le_of_ble_eq_true rfl) (by decide) (by decide) (Nat.le_of_ble_eq_true rfl) (aft_i w (fun r32 h31 w => ?_))
            obtain ⟨Bh31, w⟩ := w
            exact R_iret dX0_of_96 rfl w
          · have w := w.2 c34
            refine R_aload_n dX0_of_82 0 rfl ?_
            refine X_getA (k := 15) (o := 9) (j := 100) (n := 12) Bh29 dX0_of_83 q279 (by decide) rfl rfl ?_
            refine R_iload_n dX0_of_86 1 rfl ?_
            obtain ⟨c33, w⟩ := w
            refine X_iald (k := 15) Bh29 dX0_of_87 rfl c33 ?_
            refine R_goto (tgt := 96) dX0_of_88 (by decide) ?_
            exact R_iret dX0_of_96 rfl w
        · have w := w.2 c39
          refine R_aload_n dX0_of_64 0 rfl ?_
          refine X_getA (k := 14) (o := 8) (j := 106) (n := 12) Bh29 dX0_of_65 q278 (by decide) rfl rfl ?_
          refine R_iload_n dX0_of_68 1 rfl ?_
          obtain ⟨c35, q36, e37, w⟩ := w
          refine X_aald (k := 14) (j := 6) (E := "NameRests$Held") Bh29 dX0_of_69 rfl (by decide) (by decide) rfl c35 ?_
          refine R_top (v' := .ref q36) (congrArg va_rf e37) ?_
          obtain ⟨k38, w⟩ := w
          refine R_getIN (k := 0) (f := 256) ok4 dX0_of_70 q260 (by decide) rfl (by decide) k38 ?_
          refine R_goto (tgt := 96) dX0_of_73 (by decide) ?_
          exact R_iret dX0_of_96 rfl w
      · have w := w.2 c40
        refine R_ldc (v := (-2000000000)) dX0_of_53 q474 ?_
        refine R_goto (tgt := 96) dX0_of_55 (by decide) ?_
        exact R_iret dX0_of_96 rfl w
  · have w := w.2 c47
    refine R_aload_n dX0_of_12 0 rfl ?_
    refine R_iload_n dX0_of_13 1 rfl ?_
    refine R_invV (Mc := mX0_isPerson) (b := x) (As := [.int a1]) (st := []) ok0 (by decide) Bh1.1 dX0_of_14 q436 q438 qs3 q103 wX0_isPerson pX0_isPerson rfl (Nat.le_of_ble_eq_true rfl) (by decide) (by decide) (Nat.le_of_ble_eq_true rfl) (aft_z w (fun b43 h42 w => ?_))
    obtain ⟨Bh42, w⟩ := w
    refine R_ifz_eq (tgt := 29) dX0_of_17 (by decide) (fun c46 => ?_) (fun c46 => ?_)
    · have w := w.1 c46
      refine R_ldc (v := (-2000000000)) dX0_of_29 q474 ?_
      exact R_iret dX0_of_31 rfl w
    · have w := w.2 c46
      refine R_aload_n dX0_of_20 0 rfl ?_
      refine R_iload_n dX0_of_21 1 rfl ?_
      refine R_iload_n dX0_of_22 2 rfl ?_
      refine R_invV (Mc := mX0_ofPerson) (b := x) (As := [.int a1, .int a2]) (st := []) ok0 (by decide) Bh42.1 dX0_of_23 q492 q494 qs6 q103 wX0_ofPerson pX0_ofPerson rfl (Nat.le_of_ble_eq_true rfl) (by decide) (by decide) (Nat.le_of_ble_eq_true rfl) (aft_i w (fun r45 h44 w => ?_))
      obtain ⟨Bh44, w⟩ := w
      refine R_goto (tgt := 31) dX0_of_26 (by decide) ?_
      exact R_iret dX0_of_31 rfl w
theorem sX0_ofPerson_0 {G : GG} {x : Nat} {h : AH} {Q : Outcome → AH → Prop} {a1 : Int32} {a2 : Int32} (B : XB G x h) (w : (a2 = 0 → (vp_in a1 12 ∧ ∃ q3 : Nat, (aR h (x + 4) a1.toNatClampNeg) = some q3 ∧ (IsK G h q3 (6, 0) ∧ (Q (.returned (some (.int (aI h 384 q3)))) h)))) ∧ (¬ a2 = 0 → ((a2 = 1 → (vp_in a1 12 ∧ ∃ q8 : Nat, (aR h (x + 4) a1.toNatClampNeg) = some q8 ∧ (IsK G h q8 (6, 0) ∧ (∃ q11 : Nat, (aP h 385 q8) = some q11 ∧ (IsK G h q11 (4, 0) ∧ (Q (.returned (some (.int (aI h 256 q11)))) h)))))) ∧ (¬ a2 = 1 → ((a2 = 2 → (vp_in a1 12 ∧ ∃ q16 : Nat, (aR h (x + 4) a1.toNatClampNeg) = some q16 ∧ (IsK G h q16 (6, 0) ∧ (Q (.returned (some (.int (aI h 386 q16)))) h)))) ∧ (¬ a2 = 2 → (Run G mX0_placeOf 1 0 [(0, .ref x), (1, .int a1)] [] h (fun o h19 => ∃ r20 : Int32, o = .returned (some (.int r20)) ∧ XB G x h19 ∧ (Q (.returned (some (.int r20))) h19))))))))) : Run G mX0_ofPerson 2 0 [(0, .ref x), (1, .int a1), (2, .int a2)] [] h Q := by
  refine R_iload_n dX0_ofPerson_0 2 rfl ?_
  by_cases c1 : a2 = 0
  · have w := w.1 c1
    refine R_tableIn (off := 27) (tgt := 28) dX0_ofPerson_1 (by rw [c1]; decide) (by rw [c1]; decide) (by rw [c1]; rfl) (by decide) ?_
    refine R_aload_n dX0_ofPerson_28 0 rfl ?_
    refine X_getA (k := 7) (o := 4) (j := 107) (n := 12) B dX0_ofPerson_29 q271 (by decide) rfl rfl ?_
    refine R_iload_n dX0_ofPerson_32 1 rfl ?_
    obtain ⟨c2, q3, e4, w⟩ := w
    refine X_aald (k := 7) (j := 7) (E := "NameRests$Person") B dX0_ofPerson_33 rfl (by decide) (by decide) rfl c2 ?_
    refine R_top (v' := .ref q3) (congrArg va_rf e4) ?_
    obtain ⟨k5, w⟩ := w
    refine R_getIN (k := 0) (f := 384) ok6 dX0_ofPerson_34 q389 (by decide) rfl (by decide) k5 ?_
    exact R_iret dX0_ofPerson_37 rfl w
  · have w := w.2 c1
    by_cases c6 : a2 = 1
    · have w := w.1 c6
      refine R_tableIn (off := 37) (tgt := 38) dX0_ofPerson_1 (by rw [c6]; decide) (by rw [c6]; decide) (by rw [c6]; rfl) (by decide) ?_
      refine R_aload_n dX0_ofPerson_38 0 rfl ?_
      refine X_getA (k := 7) (o := 4) (j := 107) (n := 12) B dX0_ofPerson_39 q271 (by decide) rfl rfl ?_
      refine R_iload_n dX0_ofPerson_42 1 rfl ?_
      obtain ⟨c7, q8, e9, w⟩ := w
      refine X_aald (k := 7) (j := 7) (E := "NameRests$Person") B dX0_ofPerson_43 rfl (by decide) (by decide) rfl c7 ?_
      refine R_top (v' := .ref q8) (congrArg va_rf e9) ?_
      obtain ⟨k10, w⟩ := w
      obtain ⟨q11, e12, w⟩ := w
      refine R_getPN (k := 1) (f := 385) ok6 dX0_ofPerson_44 q391 (by decide) rfl (by decide) k10 ?_
      refine R_top (v' := .ref q11) (congrArg va_rf e12) ?_
      obtain ⟨k13, w⟩ := w
      refine R_getIN (k := 0) (f := 256) ok4 dX0_ofPerson_47 q260 (by decide) rfl (by decide) k13 ?_
      exact R_iret dX0_ofPerson_50 rfl w
    · have w := w.2 c6
      by_cases c14 : a2 = 2
      · have w := w.1 c14
        refine R_tableIn (off := 50) (tgt := 51) dX0_ofPerson_1 (by rw [c14]; decide) (by rw [c14]; decide) (by rw [c14]; rfl) (by decide) ?_
        refine R_aload_n dX0_ofPerson_51 0 rfl ?_
        refine X_getA (k := 7) (o := 4) (j := 107) (n := 12) B dX0_ofPerson_52 q271 (by decide) rfl rfl ?_
        refine R_iload_n dX0_ofPerson_55 1 rfl ?_
        obtain ⟨c15, q16, e17, w⟩ := w
        refine X_aald (k := 7) (j := 7) (E := "NameRests$Person") B dX0_ofPerson_56 rfl (by decide) (by decide) rfl c15 ?_
        refine R_top (v' := .ref q16) (congrArg va_rf e17) ?_
        obtain ⟨k18, w⟩ := w
        refine R_getIN (k := 2) (f := 386) ok6 dX0_ofPerson_57 q393 (by decide) rfl (by decide) k18 ?_
        exact R_iret dX0_ofPerson_60 rfl w
      · have w := w.2 c14
        refine R_tableOut (tgt := 61) dX0_ofPerson_1 (sw_out a2 0 2 (by decide) (by decide) (fun j h1 h2 => ?_)) (by decide) ?_
        · intro e
          have e2 : j = 0 ∨ j = 1 ∨ j = 2 := by omega
          rcases e2 with rfl | rfl | rfl
          · exact lv_neT c1 (by decide) e
          · exact lv_neT c6 (by decide) e
          · exact lv_neT c14 (by decide) e
        · refine R_aload_n dX0_ofPerson_61 0 rfl ?_
          refine R_iload_n dX0_ofPerson_62 1 rfl ?_
          refine R_invV (Mc := mX0_placeOf) (b := x) (As := [.int a1]) (st := []) ok0 (by decide) B.1 dX0_ofPerson_63 q496 q498 qs7 q103 wX0_placeOf pX0_placeOf rfl (Nat.le_of_ble_eq_true rfl) (by decide) (by decide) (Nat.le_of_ble_eq_true rfl) (aft_i w (fun r20 h19 w => ?_))
          obtain ⟨Bh19, w⟩ := w
          exact R_iret dX0_ofPerson_66 rfl w
theorem sX0_ones_0 {G : GG} {x : Nat} {h : AH} {Q : Outcome → AH → Prop} {a0 : Int32} (B : XB G x h) (w : XB G x h → Run G mX0_ones 1 4 [(1, .int 0), (2, .int a0)] [] h Q) : Run G mX0_ones 1 0 [(0, .int a0)] [] h Q := by
  refine R_iconst (v := 0) dX0_ones_0 (by decide) ?_
  refine R_istore_n (lv' := [(1, .int 0), (0, .int a0)]) dX0_ones_1 rfl (by decide) rfl ?_
  refine R_iload_n dX0_ones_2 1 rfl ?_
  refine R_istore_n (lv' := [(2, .int a0), (1, .int 0), (0, .int a0)]) dX0_ones_3 rfl (by decide) rfl ?_
  exact R_sub [1, 0] rfl (w B)
theorem sX0_ones_4 {G : GG} {x : Nat} {h : AH} {Q : Outcome → AH → Prop} {a1 : Int32} {a2 : Int32} (B : XB G x h) (w : (a2 = 0 → (Q (.returned (some (.int a1))) h)) ∧ (¬ a2 = 0 → (XB G x h → Run G mX0_ones 1 4 [(1, .int (a1 + 1)), (2, .int (a2 &&& (a2 - 1)))] [] h Q))) : Run G mX0_ones 1 4 [(1, .int a1), (2, .int a2)] [] h Q := by
  refine R_iload_n dX0_ones_4 1 rfl ?_
  refine R_if_eq (tgt := 20) dX0_ones_5 (by decide) (fun c1 => ?_) (fun c1 => ?_)
  · have w := w.1 c1
    refine R_iload_n dX0_ones_20 0 rfl ?_
    exact R_iret dX0_ones_21 rfl w
  · have w := w.2 c1
    refine R_iinc (v := (a1 + 1)) (lv' := [(1, .int (a1 + 1)), (2, .int a2)]) dX0_ones_8 0 rfl (congrArg (fun z => a1 + z) (show Int32.ofInt 1 = 1 by decide)) (by decide) rfl ?_
    refine R_iload_n dX0_ones_11 1 rfl ?_
    refine R_iload_n dX0_ones_12 1 rfl ?_
    refine R_iconst (v := 1) dX0_ones_13 (by decide) ?_
    refine R_isub dX0_ones_14 ?_
    refine R_iand dX0_ones_15 ?_
    refine R_istore_n (lv' := [(2, .int (a2 &&& (a2 - 1))), (1, .int (a1 + 1))]) dX0_ones_16 rfl (by decide) rfl ?_
    refine R_goto (tgt := 4) dX0_ones_17 (by decide) ?_
    exact R_sub [1, 0] rfl (w B)
theorem sX0_peek_0 {G : GG} {x : Nat} {h : AH} {Q : Outcome → AH → Prop} (B : XB G x h) (w : ((aI h 4 x) ≤ (aI h 6 x) → (Q (.returned (some (.int (-1)))) h)) ∧ (¬ (aI h 4 x) ≤ (aI h 6 x) → (vp_in (aI h 6 x) 120 ∧ (Q (.returned (some (.int (aA h (x + 2) (aI h 6 x).toNatClampNeg)))) h)))) : Run G mX0_peek 1 0 [(0, .ref x)] [] h Q := by
  refine R_aload_n dX0_peek_0 0 rfl ?_
  refine X_getS (k := 6) B dX0_peek_1 q270 (by decide) rfl ?_
  refine R_aload_n dX0_peek_4 0 rfl ?_
  refine X_getS (k := 4) B dX0_peek_5 q268 (by decide) rfl ?_
  refine R_icmp_ge (tgt := 23) dX0_peek_8 (by decide) (fun c2 => ?_) (fun c2 => ?_)
  · have w := w.1 c2
    refine R_iconst (v := (-1)) dX0_peek_23 (by decide) ?_
    exact R_iret dX0_peek_24 rfl w
  · have w := w.2 c2
    refine R_aload_n dX0_peek_11 0 rfl ?_
    refine X_getA (k := 3) (o := 2) (j := 100) (n := 120) B dX0_peek_12 q267 (by decide) rfl rfl ?_
    refine R_aload_n dX0_peek_15 0 rfl ?_
    refine X_getS (k := 6) B dX0_peek_16 q270 (by decide) rfl ?_
    obtain ⟨c1, w⟩ := w
    refine X_iald (k := 3) B dX0_peek_19 rfl c1 ?_
    refine R_goto (tgt := 24) dX0_peek_20 (by decide) ?_
    exact R_iret dX0_peek_24 rfl w
theorem sX0_people_0 {G : GG} {x : Nat} {h : AH} {Q : Outcome → AH → Prop} {a1 : Int32} {a2 : Int32} {a3 : Int32} (B : XB G x h) (w : Run G mX0_isShelf 2 0 [(0, .int a1)] [] h (fun o h1 => ∃ b2 : Bool, o = .returned (some (.int (bi b2))) ∧ XB G x h1 ∧ ((b2 = false → (Q (.returned (some (.int (-1)))) h1)) ∧ (b2 = true → (Run G mX0_within 1 0 [(0, .long a3.toInt64), (2, .long 1), (4, .long 12)] [] h1 (fun o h3 => ∃ b4 : Bool, o = .returned (some (.int (bi b4))) ∧ XB G x h3 ∧ ((b4 = true → (vp_in a1 6 ∧ (((aR h3 (x + 18) a1.toNatClampNeg) = none → (XB G x h3 → Run G mX0_people 4 54 [(0, .ref x), (2, .int a2), (3, .int a3), (4, va_rf (aR h3 (x + 18) a1.toNatClampNeg)), (5, .int (aI h3 8 x)), (6, .int 0)] [] h3 Q)) ∧ (((aR h3 (x + 18) a1.toNatClampNeg)).isSome = true → (Run G mX0_sortOf 1 0 [(0, va_rf (aR h3 (x + 18) a1.toNatClampNeg))] [] h3 (fun o h8 => ∃ r9 : Int32, o = .returned (some (.int r9)) ∧ XB G x h8 ∧ ((r9 = 0 → (XB G x h8 → Run G mX0_people 4 54 [(0, .ref x), (2, .int a2), (3, .int a3), (4, va_rf (aR h3 (x + 18) a1.toNatClampNeg)), (5, .int (aI h8 8 x)), (6, .int 0)] [] h8 Q)) ∧ (¬ r9 = 0 → (Q (.returned (some (.int (-12)))) h8))))))))) ∧ (b4 = false → (Q (.returned (some (.int (-1)))) h3))))))))) : Run G mX0_people 4 0 [(0, .ref x), (1, .int a1), (2, .int a2), (3, .int a3)] [] h Q := by
  refine R_iload_n dX0_people_0 1 rfl ?_
  refine R_invS (Mc := mX0_isShelf) (As := [.int a1]) (st := []) dX0_people_1 q409 q410 q103 wX0_isShelf pX0_isShelf rfl (Nat.le_of_ble_eq_true rfl) (by decide) (by decide) (Nat.le_of_ble_eq_true rfl) (aft_z w (fun b2 h1 w => ?_))
  obtain ⟨Bh1, w⟩ := w
  refine R_ifz_eq (tgt := 19) dX0_people_4 (by decide) (fun c12 => ?_) (fun c12 => ?_)
  · have w := w.1 c12
    refine R_iconst (v := (-1)) dX0_people_19 (by decide) ?_
    exact R_iret dX0_people_20 rfl w
  · have w := w.2 c12
    refine R_iload_n dX0_people_7 3 rfl ?_
    refine R_i2l dX0_people_8 ?_
    refine R_lconst (v := 1) dX0_people_9 (by decide) ?_
    refine R_ldc2 (v := 12) dX0_people_10 q413 ?_
    refine R_invS (Mc := mX0_within) (As := [.long a3.toInt64, .long 1, .long 12]) (st := []) dX0_people_13 q366 q367 q103 wX0_within pX0_within rfl (Nat.le_of_ble_eq_true rfl) (by decide) (by decide) (Nat.le_of_ble_eq_true rfl) (aft_z w (fun b4 h3 w => ?_))
    obtain ⟨Bh3, w⟩ := w
    refine R_ifz_ne (tgt := 21) dX0_people_16 (by decide) (fun c11 => ?_) (fun c11 => ?_)
    · have w := w.1 c11
      refine R_aload_n dX0_people_21 0 rfl ?_
      refine X_getA (k := 30) (o := 18) (j := 110) (n := 6) Bh3 dX0_people_22 q297 (by decide) rfl rfl ?_
      refine R_iload_n dX0_people_25 1 rfl ?_
      obtain ⟨c5, w⟩ := w
      refine X_aald (k := 30) (j := 10) (E := "java/lang/Object") Bh3 dX0_people_26 rfl (by decide) (by decide) rfl c5 ?_
      refine R_astoreQ (lv' := [(4, va_rf (aR h3 (x + 18) a1.toNatClampNeg)), (0, .ref x), (1, .int a1), (2, .int a2), (3, .int a3)]) dX0_people_27 (by decide) rfl ?_
      refine R_aloadQ dX0_people_29 0 rfl ?_
      refine R_ifnull (tgt := 45) dX0_people_31 (by decide) (fun e6 => ?_) (fun q7 e6 => ?_)
      · have w := w.1 e6
        refine R_aload_n dX0_people_45 1 rfl ?_
        refine X_getS (k := 8) Bh3 dX0_people_46 q272 (by decide) rfl ?_
        refine R_istore (lv' := [(5, .int (aI h3 8 x)), (4, va_rf (aR h3 (x + 18) a1.toNatClampNeg)), (0, .ref x), (1, .int a1), (2, .int a2), (3, .int a3)]) dX0_people_49 (by decide) (by simp [rf_cat, cat_i, cat_r, cat_l]) ?_
        refine R_iconst (v := 0) dX0_people_51 (by decide) ?_
        refine R_istore (lv' := [(6, .int 0), (5, .int (aI h3 8 x)), (4, va_rf (aR h3 (x + 18) a1.toNatClampNeg)), (0, .ref x), (1, .int a1), (2, .int a2), (3, .int a3)]) dX0_people_52 (by decide) rfl ?_
        exact R_sub [3, 5, 6, 2, 1, 0] rfl (w Bh3)
      · have w := w.2 (by rw [e6]; rfl)
        refine R_aloadQ dX0_people_34 0 rfl ?_
        refine R_invS (Mc := mX0_sortOf) (As := [va_rf (aR h3 (x + 18) a1.toNatClampNeg)]) (st := []) dX0_people_36 q414 q415 q103 wX0_sortOf pX0_sortOf rfl (by simp [lg_sl, rf_cat, cat_i, cat_r, cat_l, mX0_sortOf]) (by decide) (by decide) (Nat.le_of_ble_eq_true rfl) (run_la (by simp [lv_args, rf_cat, cat_i, cat_r, cat_l]) (aft_i w (fun r9 h8 w => ?_)))
        obtain ⟨Bh8, w⟩ := w
        refine R_if_eq (tgt := 45) dX0_people_39 (by decide) (fun c10 => ?_) (fun c10 => ?_)
        · have w := w.1 c10
          refine R_aload_n dX0_people_45 1 rfl ?_
          refine X_getS (k := 8) Bh8 dX0_people_46 q272 (by decide) rfl ?_
          refine R_istore (lv' := [(5, .int (aI h8 8 x)), (4, va_rf (aR h3 (x + 18) a1.toNatClampNeg)), (0, .ref x), (1, .int a1), (2, .int a2), (3, .int a3)]) dX0_people_49 (by decide) (by simp [rf_cat, cat_i, cat_r, cat_l]) ?_
          refine R_iconst (v := 0) dX0_people_51 (by decide) ?_
          refine R_istore (lv' := [(6, .int 0), (5, .int (aI h8 8 x)), (4, va_rf (aR h3 (x + 18) a1.toNatClampNeg)), (0, .ref x), (1, .int a1), (2, .int a2), (3, .int a3)]) dX0_people_52 (by decide) rfl ?_
          exact R_sub [3, 5, 6, 2, 1, 0] rfl (w Bh8)
        · have w := w.2 c10
          refine R_bipush (v := (-12)) dX0_people_42 (by decide) ?_
          exact R_iret dX0_people_44 rfl w
    · have w := w.2 c11
      refine R_iconst (v := (-1)) dX0_people_19 (by decide) ?_
      exact R_iret dX0_people_20 rfl w
theorem sX0_people_54 {G : GG} {x : Nat} {h : AH} {Q : Outcome → AH → Prop} {a2 : Int32} {a3 : Int32} {a4 : Option Nat} {a5 : Int32} {a6 : Int32} (B : XB G x h) (w : (a3 ≤ a6 → (Q (.returned (some (.int a6))) h)) ∧ (¬ a3 ≤ a6 → (Run G mX0_toldIn 1 0 [(0, .ref x), (1, va_rf a4), (2, .long (a2.toInt64 + (3 * a6.toInt64)))] [] h (fun o h1 => (∃ r2 : Int32, o = .returned (some (.int r2)) ∧ XB G x h1 ∧ (Run G mX0_toldIn 1 0 [(0, .ref x), (1, va_rf a4), (2, .long ((a2.toInt64 + (3 * a6.toInt64)) + 1))] [] h1 (fun o h3 => (∃ r4 : Int32, o = .returned (some (.int r4)) ∧ XB G x h3 ∧ (Run G mX0_toldIn 1 0 [(0, .ref x), (1, va_rf a4), (2, .long ((a2.toInt64 + (3 * a6.toInt64)) + 2))] [] h3 (fun o h5 => (∃ r6 : Int32, o = .returned (some (.int r6)) ∧ XB G x h5 ∧ (((aI h5 8 x) = 12 → (Q (.returned (some (.int ((aI h5 8 x) - a5)))) h5)) ∧ (¬ (aI h5 8 x) = 12 → (Run G mX0_mayLive 3 0 [(0, .int r2), (1, .int r4)] [] h5 (fun o h7 => ∃ b8 : Bool, o = .returned (some (.int (bi b8))) ∧ XB G x h7 ∧ ((b8 = false → (Q (.returned (some (.int ((aI h7 8 x) - a5)))) h7)) ∧ (b8 = true → ((r6 = (-1) → (Run G mX6_init 3 0 [(0, .ref (aN h7)), (1, .int r2), (2, .int r4)] [] (sNew h7 (6, 0) 3) (fun o h9 => o = .returned none ∧ XB G x h9 ∧ (IsK G h9 (aN h7) (6, 0) ∧ (Run G mX0_add 1 0 [(0, .ref x), (1, .ref (aN h7))] [] (sI h9 386 (aN h7) r6) (fun o h11 => o = .returned none ∧ XB G x h11 ∧ (XB G x h11 → Run G mX0_people 4 54 [(0, .ref x), (2, .int a2), (3, .int a3), (4, va_rf a4), (5, .int a5), (6, .int (a6 + 1))] [] h11 Q))))))) ∧ (¬ r6 = (-1) → (Run G mX0_isName 2 0 [(0, .int r6)] [] h7 (fun o h12 => ∃ b13 : Bool, o = .returned (some (.int (bi b13))) ∧ XB G x h12 ∧ ((b13 = true → (Run G mX6_init 3 0 [(0, .ref (aN h12)), (1, .int r2), (2, .int r4)] [] (sNew h12 (6, 0) 3) (fun o h14 => o = .returned none ∧ XB G x h14 ∧ (IsK G h14 (aN h12) (6, 0) ∧ (Run G mX0_add 1 0 [(0, .ref x), (1, .ref (aN h12))] [] (sI h14 386 (aN h12) r6) (fun o h16 => o = .returned none ∧ XB G x h16 ∧ (XB G x h16 → Run G mX0_people 4 54 [(0, .ref x), (2, .int a2), (3, .int a3), (4, va_rf a4), (5, .int a5), (6, .int (a6 + 1))] [] h16 Q))))))) ∧ (b13 = false → (Q (.returned (some (.int ((aI h12 8 x) - a5)))) h12)))))))))))))) ∨ (∃ y21 : Nat, o = .threw y21 ∧ y21 = x + 10 ∧ XB G x h5 ∧ (Q (.returned (some (.int ((aI h5 8 x) - a5)))) h5))))) ∨ (∃ y22 : Nat, o = .threw y22 ∧ y22 = x + 10 ∧ XB G x h3 ∧ (Q (.returned (some (.int ((aI h3 8 x) - a5)))) h3))))) ∨ (∃ y23 : Nat, o = .threw y23 ∧ y23 = x + 10 ∧ XB G x h1 ∧ (Q (.returned (some (.int ((aI h1 8 x) - a5)))) h1)))))) : Run G mX0_people 4 54 [(0, .ref x), (2, .int a2), (3, .int a3), (4, va_rf a4), (5, .int a5), (6, .int a6)] [] h Q := by
  refine R_iload dX0_people_54 5 rfl ?_
  refine R_iload_n dX0_people_56 2 rfl ?_
  refine R_icmp_ge (tgt := 178) dX0_people_57 (by decide) (fun c24 => ?_) (fun c24 => ?_)
  · have w := w.1 c24
    refine R_goto (tgt := 192) dX0_people_178 (by decide) ?_
    refine R_iload dX0_people_192 5 rfl ?_
    exact R_iret dX0_people_194 rfl w
  · have w := w.2 c24
    refine R_iload_n dX0_people_60 1 rfl ?_
    refine R_i2l dX0_people_61 ?_
    refine R_ldc2 (v := 3) dX0_people_62 q422 ?_
    refine R_iload dX0_people_65 5 rfl ?_
    refine R_i2l dX0_people_67 ?_
    refine R_lmul dX0_people_68 ?_
    refine R_ladd dX0_people_69 ?_
    refine R_lstore (lv' := [(7, .long (a2.toInt64 + (3 * a6.toInt64))), (0, .ref x), (2, .int a2), (3, .int a3), (4, va_rf a4), (5, .int a5), (6, .int a6)]) dX0_people_70 (by decide) rfl ?_
    refine R_aload_n dX0_people_72 1 rfl ?_
    refine R_aloadQ dX0_people_73 4 rfl ?_
    refine R_lload dX0_people_75 0 rfl ?_
    refine R_invV (Mc := mX0_toldIn) (b := x) (As := [va_rf a4, .long (a2.toInt64 + (3 * a6.toInt64))]) (st := []) ok0 (by decide) B.1 dX0_people_77 q423 q425 qs2 q103 wX0_toldIn pX0_toldIn rfl (by simp [lg_sl, rf_cat, cat_i, cat_r, cat_l, mX0_toldIn]) (by decide) (by decide) (Nat.le_of_ble_eq_true rfl) (run_la (by simp [lv_args, rf_cat, cat_i, cat_r, cat_l]) (aft_iT w (fun r2 h1 w => ?_) (fun y23 h1 w => ?_)))
    · obtain ⟨Bh1, w⟩ := w
      refine R_istore (lv' := [(9, .int r2), (7, .long (a2.toInt64 + (3 * a6.toInt64))), (0, .ref x), (2, .int a2), (3, .int a3), (4, va_rf a4), (5, .int a5), (6, .int a6)]) dX0_people_80 (by decide) rfl ?_
      refine R_aload_n dX0_people_82 2 rfl ?_
      refine R_aloadQ dX0_people_83 5 rfl ?_
      refine R_lload dX0_people_85 1 rfl ?_
      refine R_lconst (v := 1) dX0_people_87 (by decide) ?_
      refine R_ladd dX0_people_88 ?_
      refine R_invV (Mc := mX0_toldIn) (b := x) (As := [va_rf a4, .long ((a2.toInt64 + (3 * a6.toInt64)) + 1)]) (st := []) ok0 (by decide) Bh1.1 dX0_people_89 q423 q425 qs2 q103 wX0_toldIn pX0_toldIn rfl (by simp [lg_sl, rf_cat, cat_i, cat_r, cat_l, mX0_toldIn]) (by decide) (by decide) (Nat.le_of_ble_eq_true rfl) (run_la (by simp [lv_args, rf_cat, cat_i, cat_r, cat_l]) (aft_iT w (fun r4 h3 w => ?_) (fun y22 h3 w => ?_)))
      · obtain ⟨Bh3, w⟩ := w
        refine R_istore (lv' := [(10, .int r4), (9, .int r2), (7, .long (a2.toInt64 + (3 * a6.toInt64))), (0, .ref x), (2, .int a2), (3, .int a3), (4, va_rf a4), (5, .int a5), (6, .int a6)]) dX0_people_92 (by decide) rfl ?_
        refine R_aload_n dX0_people_94 3 rfl ?_
        refine R_aloadQ dX0_people_95 6 rfl ?_
        refine R_lload dX0_people_97 2 rfl ?_
        refine R_ldc2 (v := 2) dX0_people_99 q427 ?_
        refine R_ladd dX0_people_102 ?_
        refine R_invV (Mc := mX0_toldIn) (b := x) (As := [va_rf a4, .long ((a2.toInt64 + (3 * a6.toInt64)) + 2)]) (st := []) ok0 (by decide) Bh3.1 dX0_people_103 q423 q425 qs2 q103 wX0_toldIn pX0_toldIn rfl (by simp [lg_sl, rf_cat, cat_i, cat_r, cat_l, mX0_toldIn]) (by decide) (by decide) (Nat.le_of_ble_eq_true rfl) (run_la (by simp [lv_args, rf_cat, cat_i, cat_r, cat_l]) (aft_iT w (fun r6 h5 w => ?_) (fun y21 h5 w => ?_)))
        · obtain ⟨Bh5, w⟩ := w
          refine R_istore (lv' := [(11, .int r6), (10, .int r4), (9, .int r2), (7, .long (a2.toInt64 + (3 * a6.toInt64))), (0, .ref x), (2, .int a2), (3, .int a3), (4, va_rf a4), (5, .int a5), (6, .int a6)]) dX0_people_106 (by decide) rfl ?_
          refine R_aload_n dX0_people_108 4 rfl ?_
          refine X_getS (k := 8) Bh5 dX0_people_109 q272 (by decide) rfl ?_
          refine R_bipush (v := 12) dX0_people_112 (by decide) ?_
          refine R_icmp_eq (tgt := 141) dX0_people_114 (by decide) (fun c20 => ?_) (fun c20 => ?_)
          · have w := w.1 c20
            refine R_aload_n dX0_people_141 4 rfl ?_
            refine X_getA (k := 16) (o := 10) (j := 2) (n := 0) Bh5 dX0_people_142 q280 (by decide) rfl rfl ?_
            refine R_athrow dX0_people_145 ?_
            refine Thr.caught (hp := 181) rfl (by decide) (by decide) q220 (Cls.obj ok2 (by decide) (Bh5.2 16 _ rfl).2) ?_
            refine R_astore (lv' := [(7, .ref (x + 10)), (11, .int r6), (10, .int r4), (9, .int r2), (0, .ref x), (2, .int a2), (3, .int a3), (4, va_rf a4), (5, .int a5), (6, .int a6)]) dX0_people_181 (by decide) rfl ?_
            refine R_aload_n dX0_people_183 4 rfl ?_
            refine X_getS (k := 8) Bh5 dX0_people_184 q272 (by decide) rfl ?_
            refine R_iload dX0_people_187 8 rfl ?_
            refine R_isub dX0_people_189 ?_
            refine R_istore (lv' := [(6, .int ((aI h5 8 x) - a5)), (7, .ref (x + 10)), (11, .int r6), (10, .int r4), (9, .int r2), (0, .ref x), (2, .int a2), (3, .int a3), (4, va_rf a4), (5, .int a5)]) dX0_people_190 (by decide) rfl ?_
            refine R_iload dX0_people_192 0 rfl ?_
            exact R_iret dX0_people_194 rfl w
          · have w := w.2 c20
            refine R_iload dX0_people_117 2 rfl ?_
            refine R_iload dX0_people_119 1 rfl ?_
            refine R_invS (Mc := mX0_mayLive) (As := [.int r2, .int r4]) (st := []) dX0_people_121 q373 q374 q103 wX0_mayLive pX0_mayLive rfl (Nat.le_of_ble_eq_true rfl) (by decide) (by decide) (Nat.le_of_ble_eq_true rfl) (aft_z w (fun b8 h7 w => ?_))
            obtain ⟨Bh7, w⟩ := w
            refine R_ifz_eq (tgt := 141) dX0_people_124 (by decide) (fun c19 => ?_) (fun c19 => ?_)
            · have w := w.1 c19
              refine R_aload_n dX0_people_141 4 rfl ?_
              refine X_getA (k := 16) (o := 10) (j := 2) (n := 0) Bh7 dX0_people_142 q280 (by decide) rfl rfl ?_
              refine R_athrow dX0_people_145 ?_
              refine Thr.caught (hp := 181) rfl (by decide) (by decide) q220 (Cls.obj ok2 (by decide) (Bh7.2 16 _ rfl).2) ?_
              refine R_astore (lv' := [(7, .ref (x + 10)), (11, .int r6), (10, .int r4), (9, .int r2), (0, .ref x), (2, .int a2), (3, .int a3), (4, va_rf a4), (5, .int a5), (6, .int a6)]) dX0_people_181 (by decide) rfl ?_
              refine R_aload_n dX0_people_183 4 rfl ?_
              refine X_getS (k := 8) Bh7 dX0_people_184 q272 (by decide) rfl ?_
              refine R_iload dX0_people_187 8 rfl ?_
              refine R_isub dX0_people_189 ?_
              refine R_istore (lv' := [(6, .int ((aI h7 8 x) - a5)), (7, .ref (x + 10)), (11, .int r6), (10, .int r4), (9, .int r2), (0, .ref x), (2, .int a2), (3, .int a3), (4, va_rf a4), (5, .int a5)]) dX0_people_190 (by decide) rfl ?_
              refine R_iload dX0_people_192 0 rfl ?_
              exact R_iret dX0_people_194 rfl w
            · have w := w.2 c19
              refine R_iload dX0_people_127 0 rfl ?_
              refine R_iconst (v := (-1)) dX0_people_129 (by decide) ?_
              refine R_icmp_eq (tgt := 146) dX0_people_130 (by decide) (fun c18 => ?_) (fun c18 => ?_)
              · have w := w.1 c18
                refine R_new ok6 dX0_people_146 q214 q381 q112 (by decide) nfd6 ?_
                refine R_dup dX0_people_149 rfl ?_
                refine R_iload dX0_people_150 2 rfl ?_
                refine R_iload dX0_people_152 1 rfl ?_
                refine R_invI (Mc := mX6_init) (b := (aN h7)) (As := [.int r2, .int r4]) (st := [.ref (aN h7)]) dX0_people_154 q382 q383 q112 rfl q384 rfl pX6_init rfl (Nat.le_of_ble_eq_true rfl) (by decide) (by decide) (Nat.le_of_ble_eq_true rfl) (aft_v w (fun h9 w => ?_))
                obtain ⟨Bh9, w⟩ := w
                refine R_astore (lv' := [(12, .ref (aN h7)), (11, .int r6), (10, .int r4), (9, .int r2), (7, .long (a2.toInt64 + (3 * a6.toInt64))), (0, .ref x), (2, .int a2), (3, .int a3), (4, va_rf a4), (5, .int a5), (6, .int a6)]) dX0_people_157 (by decide) rfl ?_
                refine R_aload dX0_people_159 0 rfl ?_
                refine R_iload dX0_people_161 1 rfl ?_
                obtain ⟨k10, w⟩ := w
                refine R_putIN (k := 2) (f := 386) ok6 dX0_people_163 q393 (by decide) rfl rfl rfl rfl rfl (by decide) k10 ?_
                refine R_aload_n dX0_people_166 5 rfl ?_
                refine R_aload dX0_people_167 0 rfl ?_
                refine R_invV (Mc := mX0_add) (b := x) (As := [.ref (aN h7)]) (st := []) ok0 (by decide) Bh9.I.1 dX0_people_169 q401 q403 qs1 q103 wX0_add pX0_add rfl (Nat.le_of_ble_eq_true rfl) (by decide) (by decide) (Nat.le_of_ble_eq_true rfl) (aft_v w (fun h11 w => ?_))
                obtain ⟨Bh11, w⟩ := w
                refine R_iinc (v := (a6 + 1)) (lv' := [(6, .int (a6 + 1)), (12, .ref (aN h7)), (11, .int r6), (10, .int r4), (9, .int r2), (7, .long (a2.toInt64 + (3 * a6.toInt64))), (0, .ref x), (2, .int a2), (3, .int a3), (4, va_rf a4), (5, .int a5)]) dX0_people_172 10 rfl (congrArg (fun z => a6 + z) (show Int32.ofInt 1 = 1 by decide)) (by decide) rfl ?_
                refine R_goto (tgt := 54) dX0_people_175 (by decide) ?_
                exact R_sub [6, 7, 8, 9, 10, 0] rfl (w Bh11)
              · have w := w.2 c18
                refine R_iload dX0_people_133 0 rfl ?_
                refine R_invS (Mc := mX0_isName) (As := [.int r6]) (st := []) dX0_people_135 q428 q429 q103 wX0_isName pX0_isName rfl (Nat.le_of_ble_eq_true rfl) (by decide) (by decide) (Nat.le_of_ble_eq_true rfl) (aft_z w (fun b13 h12 w => ?_))
                obtain ⟨Bh12, w⟩ := w
                refine R_ifz_ne (tgt := 146) dX0_people_138 (by decide) (fun c17 => ?_) (fun c17 => ?_)
                · have w := w.1 c17
                  refine R_new ok6 dX0_people_146 q214 q381 q112 (by decide) nfd6 ?_
                  refine R_dup dX0_people_149 rfl ?_
                  refine R_iload dX0_people_150 2 rfl ?_
                  refine R_iload dX0_people_152 1 rfl ?_
                  refine R_invI (Mc := mX6_init) (b := (aN h12)) (As := [.int r2, .int r4]) (st := [.ref (aN h12)]) dX0_people_154 q382 q383 q112 rfl q384 rfl pX6_init rfl (Nat.le_of_ble_eq_true rfl) (by decide) (by decide) (Nat.le_of_ble_eq_true rfl) (aft_v w (fun h14 w => ?_))
                  obtain ⟨Bh14, w⟩ := w
                  refine R_astore (lv' := [(12, .ref (aN h12)), (11, .int r6), (10, .int r4), (9, .int r2), (7, .long (a2.toInt64 + (3 * a6.toInt64))), (0, .ref x), (2, .int a2), (3, .int a3), (4, va_rf a4), (5, .int a5), (6, .int a6)]) dX0_people_157 (by decide) rfl ?_
                  refine R_aload dX0_people_159 0 rfl ?_
                  refine R_iload dX0_people_161 1 rfl ?_
                  obtain ⟨k15, w⟩ := w
                  refine R_putIN (k := 2) (f := 386) ok6 dX0_people_163 q393 (by decide) rfl rfl rfl rfl rfl (by decide) k15 ?_
                  refine R_aload_n dX0_people_166 5 rfl ?_
                  refine R_aload dX0_people_167 0 rfl ?_
                  refine R_invV (Mc := mX0_add) (b := x) (As := [.ref (aN h12)]) (st := []) ok0 (by decide) Bh14.I.1 dX0_people_169 q401 q403 qs1 q103 wX0_add pX0_add rfl (Nat.le_of_ble_eq_true rfl) (by decide) (by decide) (Nat.le_of_ble_eq_true rfl) (aft_v w (fun h16 w => ?_))
                  obtain ⟨Bh16, w⟩ := w
                  refine R_iinc (v := (a6 + 1)) (lv' := [(6, .int (a6 + 1)), (12, .ref (aN h12)), (11, .int r6), (10, .int r4), (9, .int r2), (7, .long (a2.toInt64 + (3 * a6.toInt64))), (0, .ref x), (2, .int a2), (3, .int a3), (4, va_rf a4), (5, .int a5)]) dX0_people_172 10 rfl (congrArg (fun z => a6 + z) (show Int32.ofInt 1 = 1 by decide)) (by decide) rfl ?_
                  refine R_goto (tgt := 54) dX0_people_175 (by decide) ?_
                  exact R_sub [6, 7, 8, 9, 10, 0] rfl (w Bh16)
                · have w := w.2 c17
                  refine R_aload_n dX0_people_141 4 rfl ?_
                  refine X_getA (k := 16) (o := 10) (j := 2) (n := 0) Bh12 dX0_people_142 q280 (by decide) rfl rfl ?_
                  refine R_athrow dX0_people_145 ?_
                  refine Thr.caught (hp := 181) rfl (by decide) (by decide) q220 (Cls.obj ok2 (by decide) (Bh12.2 16 _ rfl).2) ?_
                  refine R_astore (lv' := [(7, .ref (x + 10)), (11, .int r6), (10, .int r4), (9, .int r2), (0, .ref x), (2, .int a2), (3, .int a3), (4, va_rf a4), (5, .int a5), (6, .int a6)]) dX0_people_181 (by decide) rfl ?_
                  refine R_aload_n dX0_people_183 4 rfl ?_
                  refine X_getS (k := 8) Bh12 dX0_people_184 q272 (by decide) rfl ?_
                  refine R_iload dX0_people_187 8 rfl ?_
                  refine R_isub dX0_people_189 ?_
                  refine R_istore (lv' := [(6, .int ((aI h12 8 x) - a5)), (7, .ref (x + 10)), (11, .int r6), (10, .int r4), (9, .int r2), (0, .ref x), (2, .int a2), (3, .int a3), (4, va_rf a4), (5, .int a5)]) dX0_people_190 (by decide) rfl ?_
                  refine R_iload dX0_people_192 0 rfl ?_
                  exact R_iret dX0_people_194 rfl w
        · obtain ⟨ey, Bh5, w⟩ := w
          subst ey
          refine Thr.caught (hp := 181) rfl (by decide) (by decide) q220 (Cls.obj ok2 (by decide) (Bh5.2 16 _ rfl).2) ?_
          refine R_astore (lv' := [(7, .ref (x + 10)), (10, .int r4), (9, .int r2), (0, .ref x), (2, .int a2), (3, .int a3), (4, va_rf a4), (5, .int a5), (6, .int a6)]) dX0_people_181 (by decide) rfl ?_
          refine R_aload_n dX0_people_183 3 rfl ?_
          refine X_getS (k := 8) Bh5 dX0_people_184 q272 (by decide) rfl ?_
          refine R_iload dX0_people_187 7 rfl ?_
          refine R_isub dX0_people_189 ?_
          refine R_istore (lv' := [(6, .int ((aI h5 8 x) - a5)), (7, .ref (x + 10)), (10, .int r4), (9, .int r2), (0, .ref x), (2, .int a2), (3, .int a3), (4, va_rf a4), (5, .int a5)]) dX0_people_190 (by decide) rfl ?_
          refine R_iload dX0_people_192 0 rfl ?_
          exact R_iret dX0_people_194 rfl w
      · obtain ⟨ey, Bh3, w⟩ := w
        subst ey
        refine Thr.caught (hp := 181) rfl (by decide) (by decide) q220 (Cls.obj ok2 (by decide) (Bh3.2 16 _ rfl).2) ?_
        refine R_astore (lv' := [(7, .ref (x + 10)), (9, .int r2), (0, .ref x), (2, .int a2), (3, .int a3), (4, va_rf a4), (5, .int a5), (6, .int a6)]) dX0_people_181 (by decide) rfl ?_
        refine R_aload_n dX0_people_183 2 rfl ?_
        refine X_getS (k := 8) Bh3 dX0_people_184 q272 (by decide) rfl ?_
        refine R_iload dX0_people_187 6 rfl ?_
        refine R_isub dX0_people_189 ?_
        refine R_istore (lv' := [(6, .int ((aI h3 8 x) - a5)), (7, .ref (x + 10)), (9, .int r2), (0, .ref x), (2, .int a2), (3, .int a3), (4, va_rf a4), (5, .int a5)]) dX0_people_190 (by decide) rfl ?_
        refine R_iload dX0_people_192 0 rfl ?_
        exact R_iret dX0_people_194 rfl w
    · obtain ⟨ey, Bh1, w⟩ := w
      subst ey
      refine Thr.caught (hp := 181) rfl (by decide) (by decide) q220 (Cls.obj ok2 (by decide) (Bh1.2 16 _ rfl).2) ?_
      refine R_astore (lv' := [(7, .ref (x + 10)), (0, .ref x), (2, .int a2), (3, .int a3), (4, va_rf a4), (5, .int a5), (6, .int a6)]) dX0_people_181 (by decide) rfl ?_
      refine R_aload_n dX0_people_183 1 rfl ?_
      refine X_getS (k := 8) Bh1 dX0_people_184 q272 (by decide) rfl ?_
      refine R_iload dX0_people_187 5 rfl ?_
      refine R_isub dX0_people_189 ?_
      refine R_istore (lv' := [(6, .int ((aI h1 8 x) - a5)), (7, .ref (x + 10)), (0, .ref x), (2, .int a2), (3, .int a3), (4, va_rf a4), (5, .int a5)]) dX0_people_190 (by decide) rfl ?_
      refine R_iload dX0_people_192 0 rfl ?_
      exact R_iret dX0_people_194 rfl w
theorem sX0_person_0 {G : GG} {x : Nat} {h : AH} {Q : Outcome → AH → Prop} {a1 : Int32} {a2 : Int32} (B : XB G x h) (w : Run G mX0_mayLive 3 0 [(0, .int a1), (1, .int a2)] [] h (fun o h1 => ∃ b2 : Bool, o = .returned (some (.int (bi b2))) ∧ XB G x h1 ∧ ((b2 = true → ((¬ (aI h1 8 x) = 12 → (Run G mX6_init 3 0 [(0, .ref (aN h1)), (1, .int a1), (2, .int a2)] [] (sNew h1 (6, 0) 3) (fun o h3 => o = .returned none ∧ XB G x h3 ∧ (Run G mX0_add 1 0 [(0, .ref x), (1, .ref (aN h1))] [] h3 (fun o h4 => o = .returned none ∧ XB G x h4 ∧ (Q (.returned (some (.int ((aI h4 8 x) - 1)))) h4)))))) ∧ ((aI h1 8 x) = 12 → (Q (.returned (some (.int (-3)))) h1)))) ∧ (b2 = false → (Q (.returned (some (.int (-1)))) h1))))) : Run G mX0_person 4 0 [(0, .ref x), (1, .int a1), (2, .int a2)] [] h Q := by
  refine R_iload_n dX0_person_0 1 rfl ?_
  refine R_iload_n dX0_person_1 2 rfl ?_
  refine R_invS (Mc := mX0_mayLive) (As := [.int a1, .int a2]) (st := []) dX0_person_2 q373 q374 q103 wX0_mayLive pX0_mayLive rfl (Nat.le_of_ble_eq_true rfl) (by decide) (by decide) (Nat.le_of_ble_eq_true rfl) (aft_z w (fun b2 h1 w => ?_))
  obtain ⟨Bh1, w⟩ := w
  refine R_ifz_ne (tgt := 10) dX0_person_5 (by decide) (fun c6 => ?_) (fun c6 => ?_)
  · have w := w.1 c6
    refine R_aload_n dX0_person_10 0 rfl ?_
    refine X_getS (k := 8) Bh1 dX0_person_11 q272 (by decide) rfl ?_
    refine R_bipush (v := 12) dX0_person_14 (by decide) ?_
    refine R_icmp_ne (tgt := 22) dX0_person_16 (by decide) (fun c5 => ?_) (fun c5 => ?_)
    · have w := w.1 c5
      refine R_aload_n dX0_person_22 0 rfl ?_
      refine R_new ok6 dX0_person_23 q214 q381 q112 (by decide) nfd6 ?_
      refine R_dup dX0_person_26 rfl ?_
      refine R_iload_n dX0_person_27 1 rfl ?_
      refine R_iload_n dX0_person_28 2 rfl ?_
      refine R_invI (Mc := mX6_init) (b := (aN h1)) (As := [.int a1, .int a2]) (st := [.ref (aN h1), .ref x]) dX0_person_29 q382 q383 q112 rfl q384 rfl pX6_init rfl (Nat.le_of_ble_eq_true rfl) (by decide) (by decide) (Nat.le_of_ble_eq_true rfl) (aft_v w (fun h3 w => ?_))
      obtain ⟨Bh3, w⟩ := w
      refine R_invV (Mc := mX0_add) (b := x) (As := [.ref (aN h1)]) (st := []) ok0 (by decide) Bh3.1 dX0_person_32 q401 q403 qs1 q103 wX0_add pX0_add rfl (Nat.le_of_ble_eq_true rfl) (by decide) (by decide) (Nat.le_of_ble_eq_true rfl) (aft_v w (fun h4 w => ?_))
      obtain ⟨Bh4, w⟩ := w
      refine R_aload_n dX0_person_35 0 rfl ?_
      refine X_getS (k := 8) Bh4 dX0_person_36 q272 (by decide) rfl ?_
      refine R_iconst (v := 1) dX0_person_39 (by decide) ?_
      refine R_isub dX0_person_40 ?_
      exact R_iret dX0_person_41 rfl w
    · have w := w.2 c5
      refine R_bipush (v := (-3)) dX0_person_19 (by decide) ?_
      exact R_iret dX0_person_21 rfl w
  · have w := w.2 c6
    refine R_iconst (v := (-1)) dX0_person_8 (by decide) ?_
    exact R_iret dX0_person_9 rfl w
theorem sX0_placeOf_0 {G : GG} {x : Nat} {h : AH} {Q : Outcome → AH → Prop} {a1 : Int32} (B : XB G x h) (w : XB G x h → Run G mX0_placeOf 1 2 [(0, .ref x), (1, .int a1), (2, .int 0)] [] h Q) : Run G mX0_placeOf 1 0 [(0, .ref x), (1, .int a1)] [] h Q := by
  refine R_iconst (v := 0) dX0_placeOf_0 (by decide) ?_
  refine R_istore_n (lv' := [(2, .int 0), (0, .ref x), (1, .int a1)]) dX0_placeOf_1 rfl (by decide) rfl ?_
  exact R_sub [1, 2, 0] rfl (w B)
theorem sX0_placeOf_2 {G : GG} {x : Nat} {h : AH} {Q : Outcome → AH → Prop} {a1 : Int32} {a2 : Int32} (B : XB G x h) (w : vp_in a2 12 ∧ (((aA h (x + 5) a2.toNatClampNeg) = a1 → (Q (.returned (some (.int a2))) h)) ∧ (¬ (aA h (x + 5) a2.toNatClampNeg) = a1 → (XB G x h → Run G mX0_placeOf 1 2 [(0, .ref x), (1, .int a1), (2, .int (a2 + 1))] [] h Q)))) : Run G mX0_placeOf 1 2 [(0, .ref x), (1, .int a1), (2, .int a2)] [] h Q := by
  refine R_aload_n dX0_placeOf_2 0 rfl ?_
  refine X_getA (k := 9) (o := 5) (j := 100) (n := 12) B dX0_placeOf_3 q273 (by decide) rfl rfl ?_
  refine R_iload_n dX0_placeOf_6 2 rfl ?_
  obtain ⟨c2, w⟩ := w
  refine X_iald (k := 9) B dX0_placeOf_7 rfl c2 ?_
  refine R_iload_n dX0_placeOf_8 1 rfl ?_
  refine R_icmp_eq (tgt := 18) dX0_placeOf_9 (by decide) (fun c1 => ?_) (fun c1 => ?_)
  · have w := w.1 c1
    refine R_iload_n dX0_placeOf_18 2 rfl ?_
    exact R_iret dX0_placeOf_19 rfl w
  · have w := w.2 c1
    refine R_iinc (v := (a2 + 1)) (lv' := [(2, .int (a2 + 1)), (0, .ref x), (1, .int a1)]) dX0_placeOf_12 2 rfl (congrArg (fun z => a2 + z) (show Int32.ofInt 1 = 1 by decide)) (by decide) rfl ?_
    refine R_goto (tgt := 2) dX0_placeOf_15 (by decide) ?_
    exact R_sub [1, 2, 0] rfl (w B)
theorem sX0_put_0 {G : GG} {x : Nat} {h : AH} {Q : Outcome → AH → Prop} {a1 : Int32} {a2 : Int32} {a3 : Int64} (B : XB G x h) (w : Run G mX0_refusal 3 0 [(0, .ref x), (1, .int a1), (2, .int a2)] [] h (fun o h1 => ∃ r2 : Int32, o = .returned (some (.int r2)) ∧ XB G x h1 ∧ ((r2 = 0 → (vp_in a1 6 ∧ (Run G mX0_sortOf 1 0 [(0, va_rf (aR h1 (x + 18) a1.toNatClampNeg))] [] h1 (fun o h4 => ∃ r5 : Int32, o = .returned (some (.int r5)) ∧ XB G x h4 ∧ ((r5 = 0 → (∃ q7 : Nat, (aR h1 (x + 18) a1.toNatClampNeg) = some q7 ∧ (CastOK G h4 q7 "[B" ∧ (∃ n10 : Nat, IsK G h4 q7 (102, n10) ∧ vp_in a2 n10 ∧ (Q (.returned (some (.int 1))) (sA h4 q7 a2.toNatClampNeg (vp_nar .byte a3.toInt32.toInt8.toInt32))))))) ∧ (¬ r5 = 0 → ((r5 = 1 → (∃ q14 : Nat, (aR h1 (x + 18) a1.toNatClampNeg) = some q14 ∧ (CastOK G h4 q14 "[S" ∧ (∃ n17 : Nat, IsK G h4 q14 (103, n17) ∧ vp_in a2 n17 ∧ (Q (.returned (some (.int 1))) (sA h4 q14 a2.toNatClampNeg (vp_nar .short a3.toInt32.toInt16.toInt32))))))) ∧ (¬ r5 = 1 → ((r5 = 2 → (∃ q21 : Nat, (aR h1 (x + 18) a1.toNatClampNeg) = some q21 ∧ (CastOK G h4 q21 "[I" ∧ (∃ n24 : Nat, IsK G h4 q21 (100, n24) ∧ vp_in a2 n24 ∧ (Q (.returned (some (.int 1))) (sA h4 q21 a2.toNatClampNeg a3.toInt32)))))) ∧ (¬ r5 = 2 → ((r5 = 3 → (∃ q28 : Nat, (aR h1 (x + 18) a1.toNatClampNeg) = some q28 ∧ (CastOK G h4 q28 "[J" ∧ (∃ n31 : Nat, IsK G h4 q28 (101, n31) ∧ vp_in a2 n31 ∧ (Q (.returned (some (.int 1))) (sL h4 q28 a2.toNatClampNeg a3)))))) ∧ (¬ r5 = 3 → (∃ q34 : Nat, (aR h1 (x + 18) a1.toNatClampNeg) = some q34 ∧ (CastOK G h4 q34 "[Z" ∧ (((lg_cmp a3 0) = 0 → (∃ n37 : Nat, IsK G h4 q34 (104, n37) ∧ vp_in a2 n37 ∧ (Q (.returned (some (.int 1))) (sA h4 q34 a2.toNatClampNeg (vp_nar .boolean 0))))) ∧ (¬ (lg_cmp a3 0) = 0 → (∃ n40 : Nat, IsK G h4 q34 (104, n40) ∧ vp_in a2 n40 ∧ (Q (.returned (some (.int 1))) (sA h4 q34 a2.toNatClampNeg (vp_nar .boolean 1)))))))))))))))))))) ∧ (¬ r2 = 0 → (Q (.returned (some (.int r2))) h1))))) : Run G mX0_put 4 0 [(0, .ref x), (1, .int a1), (2, .int a2), (3, .long a3)] [] h Q := by
  refine R_aload_n dX0_put_0 0 rfl ?_
  refine R_iload_n dX0_put_1 1 rfl ?_
  refine R_iload_n dX0_put_2 2 rfl ?_
  refine R_invV (Mc := mX0_refusal) (b := x) (As := [.int a1, .int a2]) (st := []) ok0 (by decide) B.1 dX0_put_3 q1169 q1171 qs43 q103 wX0_refusal pX0_refusal rfl (Nat.le_of_ble_eq_true rfl) (by decide) (by decide) (Nat.le_of_ble_eq_true rfl) (aft_i w (fun r2 h1 w => ?_))
  obtain ⟨Bh1, w⟩ := w
  refine R_istore (lv' := [(5, .int r2), (0, .ref x), (1, .int a1), (2, .int a2), (3, .long a3)]) dX0_put_6 (by decide) rfl ?_
  refine R_iload dX0_put_8 0 rfl ?_
  refine R_if_eq (tgt := 16) dX0_put_10 (by decide) (fun c44 => ?_) (fun c44 => ?_)
  · have w := w.1 c44
    refine R_aload_n dX0_put_16 1 rfl ?_
    refine X_getA (k := 30) (o := 18) (j := 110) (n := 6) Bh1 dX0_put_17 q297 (by decide) rfl rfl ?_
    refine R_iload_n dX0_put_20 2 rfl ?_
    obtain ⟨c3, w⟩ := w
    refine X_aald (k := 30) (j := 10) (E := "java/lang/Object") Bh1 dX0_put_21 rfl (by decide) (by decide) rfl c3 ?_
    refine R_astoreQ (lv' := [(6, va_rf (aR h1 (x + 18) a1.toNatClampNeg)), (5, .int r2), (0, .ref x), (1, .int a1), (2, .int a2), (3, .long a3)]) dX0_put_22 (by decide) rfl ?_
    refine R_aloadQ dX0_put_24 0 rfl ?_
    refine R_invS (Mc := mX0_sortOf) (As := [va_rf (aR h1 (x + 18) a1.toNatClampNeg)]) (st := []) dX0_put_26 q414 q415 q103 wX0_sortOf pX0_sortOf rfl (by simp [lg_sl, rf_cat, cat_i, cat_r, cat_l, mX0_sortOf]) (by decide) (by decide) (Nat.le_of_ble_eq_true rfl) (run_la (by simp [lv_args, rf_cat, cat_i, cat_r, cat_l]) (aft_i w (fun r5 h4 w => ?_)))
    obtain ⟨Bh4, w⟩ := w
    by_cases c6 : r5 = 0
    · have w := w.1 c6
      refine R_tableIn (off := 31) (tgt := 60) dX0_put_29 (by rw [c6]; decide) (by rw [c6]; decide) (by rw [c6]; rfl) (by decide) ?_
      refine R_aloadQ dX0_put_60 0 rfl ?_
      obtain ⟨q7, e8, w⟩ := w
      refine R_top (v' := .ref q7) (congrArg va_rf e8) ?_
      obtain ⟨c9, w⟩ := w
      refine R_cast dX0_put_62 q417 c9 ?_
      refine R_iload_n dX0_put_65 4 rfl ?_
      refine R_lload_n dX0_put_66 5 rfl ?_
      refine R_l2i dX0_put_67 ?_
      refine R_i2b dX0_put_68 ?_
      obtain ⟨n10, k11, c12, w⟩ := w
      refine R_bast dX0_put_69 k11 c12 ?_
      refine R_goto (tgt := 127) dX0_put_70 (by decide) ?_
      refine R_iconst (v := 1) dX0_put_127 (by decide) ?_
      exact R_iret dX0_put_128 rfl w
    · have w := w.2 c6
      by_cases c13 : r5 = 1
      · have w := w.1 c13
        refine R_tableIn (off := 44) (tgt := 73) dX0_put_29 (by rw [c13]; decide) (by rw [c13]; decide) (by rw [c13]; rfl) (by decide) ?_
        refine R_aloadQ dX0_put_73 0 rfl ?_
        obtain ⟨q14, e15, w⟩ := w
        refine R_top (v' := .ref q14) (congrArg va_rf e15) ?_
        obtain ⟨c16, w⟩ := w
        refine R_cast dX0_put_75 q418 c16 ?_
        refine R_iload_n dX0_put_78 4 rfl ?_
        refine R_lload_n dX0_put_79 5 rfl ?_
        refine R_l2i dX0_put_80 ?_
        refine R_i2s dX0_put_81 ?_
        obtain ⟨n17, k18, c19, w⟩ := w
        refine R_sast dX0_put_82 k18 c19 ?_
        refine R_goto (tgt := 127) dX0_put_83 (by decide) ?_
        refine R_iconst (v := 1) dX0_put_127 (by decide) ?_
        exact R_iret dX0_put_128 rfl w
      · have w := w.2 c13
        by_cases c20 : r5 = 2
        · have w := w.1 c20
          refine R_tableIn (off := 57) (tgt := 86) dX0_put_29 (by rw [c20]; decide) (by rw [c20]; decide) (by rw [c20]; rfl) (by decide) ?_
          refine R_aloadQ dX0_put_86 0 rfl ?_
          obtain ⟨q21, e22, w⟩ := w
          refine R_top (v' := .ref q21) (congrArg va_rf e22) ?_
          obtain ⟨c23, w⟩ := w
          refine R_cast dX0_put_88 q419 c23 ?_
          refine R_iload_n dX0_put_91 4 rfl ?_
          refine R_lload_n dX0_put_92 5 rfl ?_
          refine R_l2i dX0_put_93 ?_
          obtain ⟨n24, k25, c26, w⟩ := w
          refine R_iast dX0_put_94 k25 c26 ?_
          refine R_goto (tgt := 127) dX0_put_95 (by decide) ?_
          refine R_iconst (v := 1) dX0_put_127 (by decide) ?_
          exact R_iret dX0_put_128 rfl w
        · have w := w.2 c20
          by_cases c27 : r5 = 3
          · have w := w.1 c27
            refine R_tableIn (off := 69) (tgt := 98) dX0_put_29 (by rw [c27]; decide) (by rw [c27]; decide) (by rw [c27]; rfl) (by decide) ?_
            refine R_aloadQ dX0_put_98 0 rfl ?_
            obtain ⟨q28, e29, w⟩ := w
            refine R_top (v' := .ref q28) (congrArg va_rf e29) ?_
            obtain ⟨c30, w⟩ := w
            refine R_cast dX0_put_100 q420 c30 ?_
            refine R_iload_n dX0_put_103 4 rfl ?_
            refine R_lload_n dX0_put_104 5 rfl ?_
            obtain ⟨n31, k32, c33, w⟩ := w
            refine R_last dX0_put_105 k32 c33 ?_
            refine R_goto (tgt := 127) dX0_put_106 (by decide) ?_
            refine R_iconst (v := 1) dX0_put_127 (by decide) ?_
            exact R_iret dX0_put_128 rfl w
          · have w := w.2 c27
            refine R_tableOut (tgt := 109) dX0_put_29 (sw_out r5 0 3 (by decide) (by decide) (fun j h1 h2 => ?_)) (by decide) ?_
            · intro e
              have e2 : j = 0 ∨ j = 1 ∨ j = 2 ∨ j = 3 := by omega
              rcases e2 with rfl | rfl | rfl | rfl
              · exact lv_neT c6 (by decide) e
              · exact lv_neT c13 (by decide) e
              · exact lv_neT c20 (by decide) e
              · exact lv_neT c27 (by decide) e
            · refine R_aloadQ dX0_put_109 0 rfl ?_
              obtain ⟨q34, e35, w⟩ := w
              refine R_top (v' := .ref q34) (congrArg va_rf e35) ?_
              obtain ⟨c36, w⟩ := w
              refine R_cast dX0_put_111 q421 c36 ?_
              refine R_iload_n dX0_put_114 4 rfl ?_
              refine R_lload_n dX0_put_115 5 rfl ?_
              refine R_lconst (v := 0) dX0_put_116 (by decide) ?_
              refine R_lcmp dX0_put_117 ?_
              refine R_if_eq (tgt := 125) dX0_put_118 (by decide) (fun c43 => ?_) (fun c43 => ?_)
              · have w := w.1 c43
                refine R_iconst (v := 0) dX0_put_125 (by decide) ?_
                obtain ⟨n37, k38, c39, w⟩ := w
                refine R_zast dX0_put_126 k38 c39 ?_
                refine R_iconst (v := 1) dX0_put_127 (by decide) ?_
                exact R_iret dX0_put_128 rfl w
              · have w := w.2 c43
                refine R_iconst (v := 1) dX0_put_121 (by decide) ?_
                refine R_goto (tgt := 126) dX0_put_122 (by decide) ?_
                obtain ⟨n40, k41, c42, w⟩ := w
                refine R_zast dX0_put_126 k41 c42 ?_
                refine R_iconst (v := 1) dX0_put_127 (by decide) ?_
                exact R_iret dX0_put_128 rfl w
  · have w := w.2 c44
    refine R_iload dX0_put_13 0 rfl ?_
    exact R_iret dX0_put_15 rfl w
theorem sX0_rank_0 {G : GG} {x : Nat} {h : AH} {Q : Outcome → AH → Prop} {a1 : Int32} {a2 : Int32} {a3 : Int32} (B : XB G x h) (w : (¬ a1 = 0 → ((¬ a1 = 1 → (vp_in a2 12 ∧ ∃ q2 : Nat, (aR h (x + 8) a2.toNatClampNeg) = some q2 ∧ (IsK G h q2 (4, 0) ∧ (Q (.returned (some (.int (aI h 256 q2)))) h)))) ∧ (a1 = 1 → (Run G mX0_latestHeld 305 0 [(0, .ref x), (1, .int a2), (2, .int a3)] [] h (fun o h5 => ∃ r6 : Int32, o = .returned (some (.int r6)) ∧ XB G x h5 ∧ (Q (.returned (some (.int r6))) h5)))))) ∧ (a1 = 0 → (Q (.returned (some (.int 0))) h))) : Run G mX0_rank 306 0 [(0, .ref x), (1, .int a1), (2, .int a2), (3, .int a3)] [] h Q := by
  refine R_iload_n dX0_rank_0 1 rfl ?_
  refine R_if_ne (tgt := 6) dX0_rank_1 (by decide) (fun c8 => ?_) (fun c8 => ?_)
  · have w := w.1 c8
    refine R_iload_n dX0_rank_6 1 rfl ?_
    refine R_iconst (v := 1) dX0_rank_7 (by decide) ?_
    refine R_icmp_ne (tgt := 20) dX0_rank_8 (by decide) (fun c7 => ?_) (fun c7 => ?_)
    · have w := w.1 c7
      refine R_aload_n dX0_rank_20 0 rfl ?_
      refine X_getA (k := 14) (o := 8) (j := 106) (n := 12) B dX0_rank_21 q278 (by decide) rfl rfl ?_
      refine R_iload_n dX0_rank_24 2 rfl ?_
      obtain ⟨c1, q2, e3, w⟩ := w
      refine X_aald (k := 14) (j := 6) (E := "NameRests$Held") B dX0_rank_25 rfl (by decide) (by decide) rfl c1 ?_
      refine R_top (v' := .ref q2) (congrArg va_rf e3) ?_
      obtain ⟨k4, w⟩ := w
      refine R_getIN (k := 0) (f := 256) ok4 dX0_rank_26 q260 (by decide) rfl (by decide) k4 ?_
      exact R_iret dX0_rank_29 rfl w
    · have w := w.2 c7
      refine R_aload_n dX0_rank_11 0 rfl ?_
      refine R_iload_n dX0_rank_12 2 rfl ?_
      refine R_iload_n dX0_rank_13 3 rfl ?_
      refine R_invV (Mc := mX0_latestHeld) (b := x) (As := [.int a2, .int a3]) (st := []) ok0 (by decide) B.1 dX0_rank_14 q757 q759 qs37 q103 wX0_latestHeld pX0_latestHeld rfl (Nat.le_of_ble_eq_true rfl) (by decide) (by decide) (Nat.le_of_ble_eq_true rfl) (aft_i w (fun r6 h5 w => ?_))
      obtain ⟨Bh5, w⟩ := w
      refine R_goto (tgt := 29) dX0_rank_17 (by decide) ?_
      exact R_iret dX0_rank_29 rfl w
  · have w := w.2 c8
    refine R_iconst (v := 0) dX0_rank_4 (by decide) ?_
    exact R_iret dX0_rank_5 rfl w
theorem sX0_readAll_0 {G : GG} {x : Nat} {h : AH} {Q : Outcome → AH → Prop} {d d' : Nat} (hdd : d' + 1 ≤ d) (h9 : 20 ≤ d) (B : XB G x h) (w : Run G mX0_readLike d' 0 [(0, .ref x)] [] h (fun o h1 => (∃ q2 : Nat, o = .returned (some (.ref q2)) ∧ XB G x h1 ∧ (XB G x h1 → Run G mX0_readAll d 5 [(0, .ref x), (1, .ref q2)] [] h1 Q)) ∨ (∃ y3 : Nat, o = .threw y3 ∧ y3 = x + 3 ∧ XB G x h1 ∧ (Q (.threw (x + 3)) h1)))) : Run G mX0_readAll d 0 [(0, .ref x)] [] h Q := by
  refine R_aload_n dX0_readAll_0 0 rfl ?_
  refine R_invV (Mc := mX0_readLike) (b := x) (As := []) (st := []) ok0 (by decide) B.1 dX0_readAll_1 q554 q556 qs15 q103 wX0_readLike pX0_readLike rfl (Nat.le_of_ble_eq_true rfl) (by decide) hdd (Nat.le_of_ble_eq_true rfl) (aft_rT w (fun q2 h1 w => ?_) (fun y3 h1 w => ?_))
  · obtain ⟨Bh1, w⟩ := w
    refine R_astore_n (lv' := [(1, .ref q2), (0, .ref x)]) dX0_readAll_4 rfl (by decide) rfl ?_
    exact R_sub [1, 0] rfl (w Bh1)
  · obtain ⟨ey, Bh1, w⟩ := w
    subst ey
    exact Thr.leave (by decide) w
theorem sX0_readAll_5 {G : GG} {x : Nat} {h : AH} {Q : Outcome → AH → Prop} {a1 : Nat} {d d' : Nat} (hdd : d' + 1 ≤ d) (h9 : 20 ≤ d) (B : XB G x h) (w : Run G mX0_take 2 0 [(0, .ref x), (1, .int 38)] [] h (fun o h1 => ∃ b2 : Bool, o = .returned (some (.int (bi b2))) ∧ XB G x h1 ∧ ((b2 = false → (Q (.returned (some (.ref a1))) h1)) ∧ (b2 = true → (Run G mX0_readLike d' 0 [(0, .ref x)] [] (sNew h1 (13, 0) 3) (fun o h3 => (∃ q4 : Nat, o = .returned (some (.ref q4)) ∧ XB G x h3 ∧ (Run G mX13_init 3 0 [(0, .ref (aN h1)), (1, .int 38), (2, .ref a1), (3, .ref q4)] [] h3 (fun o h5 => o = .returned none ∧ XB G x h5 ∧ (XB G x h5 → Run G mX0_readAll d 5 [(0, .ref x), (1, .ref (aN h1))] [] h5 Q)))) ∨ (∃ y6 : Nat, o = .threw y6 ∧ y6 = x + 3 ∧ XB G x h3 ∧ (Q (.threw (x + 3)) h3)))))))) : Run G mX0_readAll d 5 [(0, .ref x), (1, .ref a1)] [] h Q := by
  refine R_aload_n dX0_readAll_5 0 rfl ?_
  refine R_bipush (v := 38) dX0_readAll_6 (by decide) ?_
  refine R_invV (Mc := mX0_take) (b := x) (As := [.int 38]) (st := []) ok0 (by decide) B.1 dX0_readAll_8 q626 q628 qs22 q103 wX0_take pX0_take rfl (Nat.le_of_ble_eq_true rfl) (by decide) (by omega) (Nat.le_of_ble_eq_true rfl) (aft_z w (fun b2 h1 w => ?_))
  obtain ⟨Bh1, w⟩ := w
  refine R_ifz_eq (tgt := 32) dX0_readAll_11 (by decide) (fun c7 => ?_) (fun c7 => ?_)
  · have w := w.1 c7
    refine R_aload_n dX0_readAll_32 1 rfl ?_
    exact R_aret (v := (some a1)) dX0_readAll_33 rfl w
  · have w := w.2 c7
    refine R_new ok13 dX0_readAll_14 q630 q631 q119 (by decide) nfd13 ?_
    refine R_dup dX0_readAll_17 rfl ?_
    refine R_bipush (v := 38) dX0_readAll_18 (by decide) ?_
    refine R_aload_n dX0_readAll_20 1 rfl ?_
    refine R_aload_n dX0_readAll_21 0 rfl ?_
    refine R_invV (Mc := mX0_readLike) (b := x) (As := []) (st := [.ref a1, .int 38, .ref (aN h1), .ref (aN h1)]) ok0 (by decide) Bh1.N.1 dX0_readAll_22 q554 q556 qs15 q103 wX0_readLike pX0_readLike rfl (Nat.le_of_ble_eq_true rfl) (by decide) hdd (Nat.le_of_ble_eq_true rfl) (aft_rT w (fun q4 h3 w => ?_) (fun y6 h3 w => ?_))
    · obtain ⟨Bh3, w⟩ := w
      refine R_invI (Mc := mX13_init) (b := (aN h1)) (As := [.int 38, .ref a1, .ref q4]) (st := [.ref (aN h1)]) dX0_readAll_25 q632 q633 q119 rfl q634 rfl pX13_init rfl (Nat.le_of_ble_eq_true rfl) (by decide) (by omega) (Nat.le_of_ble_eq_true rfl) (aft_v w (fun h5 w => ?_))
      obtain ⟨Bh5, w⟩ := w
      refine R_astore_n (lv' := [(1, .ref (aN h1)), (0, .ref x)]) dX0_readAll_28 rfl (by decide) rfl ?_
      refine R_goto (tgt := 5) dX0_readAll_29 (by decide) ?_
      exact R_sub [1, 0] rfl (w Bh5)
    · obtain ⟨ey, Bh3, w⟩ := w
      subst ey
      exact Thr.leave (by decide) w
theorem sX0_readEither_0 {G : GG} {x : Nat} {h : AH} {Q : Outcome → AH → Prop} {d d' : Nat} (hdd : d' + 1 ≤ d) (h9 : 20 ≤ d) (B : XB G x h) (w : Run G mX0_readAll d' 0 [(0, .ref x)] [] h (fun o h1 => (∃ q2 : Nat, o = .returned (some (.ref q2)) ∧ XB G x h1 ∧ (XB G x h1 → Run G mX0_readEither d 5 [(0, .ref x), (1, .ref q2)] [] h1 Q)) ∨ (∃ y3 : Nat, o = .threw y3 ∧ y3 = x + 3 ∧ XB G x h1 ∧ (Q (.threw (x + 3)) h1)))) : Run G mX0_readEither d 0 [(0, .ref x)] [] h Q := by
  refine R_aload_n dX0_readEither_0 0 rfl ?_
  refine R_invV (Mc := mX0_readAll) (b := x) (As := []) (st := []) ok0 (by decide) B.1 dX0_readEither_1 q550 q552 qs14 q103 wX0_readAll pX0_readAll rfl (Nat.le_of_ble_eq_true rfl) (by decide) hdd (Nat.le_of_ble_eq_true rfl) (aft_rT w (fun q2 h1 w => ?_) (fun y3 h1 w => ?_))
  · obtain ⟨Bh1, w⟩ := w
    refine R_astore_n (lv' := [(1, .ref q2), (0, .ref x)]) dX0_readEither_4 rfl (by decide) rfl ?_
    exact R_sub [1, 0] rfl (w Bh1)
  · obtain ⟨ey, Bh1, w⟩ := w
    subst ey
    exact Thr.leave (by decide) w
theorem sX0_readEither_5 {G : GG} {x : Nat} {h : AH} {Q : Outcome → AH → Prop} {a1 : Nat} {d d' : Nat} (hdd : d' + 1 ≤ d) (h9 : 20 ≤ d) (B : XB G x h) (w : Run G mX0_take 2 0 [(0, .ref x), (1, .int 124)] [] h (fun o h1 => ∃ b2 : Bool, o = .returned (some (.int (bi b2))) ∧ XB G x h1 ∧ ((b2 = false → (Q (.returned (some (.ref a1))) h1)) ∧ (b2 = true → (Run G mX0_readAll d' 0 [(0, .ref x)] [] (sNew h1 (13, 0) 3) (fun o h3 => (∃ q4 : Nat, o = .returned (some (.ref q4)) ∧ XB G x h3 ∧ (Run G mX13_init 3 0 [(0, .ref (aN h1)), (1, .int 124), (2, .ref a1), (3, .ref q4)] [] h3 (fun o h5 => o = .returned none ∧ XB G x h5 ∧ (XB G x h5 → Run G mX0_readEither d 5 [(0, .ref x), (1, .ref (aN h1))] [] h5 Q)))) ∨ (∃ y6 : Nat, o = .threw y6 ∧ y6 = x + 3 ∧ XB G x h3 ∧ (Q (.threw (x + 3)) h3)))))))) : Run G mX0_readEither d 5 [(0, .ref x), (1, .ref a1)] [] h Q := by
  refine R_aload_n dX0_readEither_5 0 rfl ?_
  refine R_bipush (v := 124) dX0_readEither_6 (by decide) ?_
  refine R_invV (Mc := mX0_take) (b := x) (As := [.int 124]) (st := []) ok0 (by decide) B.1 dX0_readEither_8 q626 q628 qs22 q103 wX0_take pX0_take rfl (Nat.le_of_ble_eq_true rfl) (by decide) (by omega) (Nat.le_of_ble_eq_true rfl) (aft_z w (fun b2 h1 w => ?_))
  obtain ⟨Bh1, w⟩ := w
  refine R_ifz_eq (tgt := 32) dX0_readEither_11 (by decide) (fun c7 => ?_) (fun c7 => ?_)
  · have w := w.1 c7
    refine R_aload_n dX0_readEither_32 1 rfl ?_
    exact R_aret (v := (some a1)) dX0_readEither_33 rfl w
  · have w := w.2 c7
    refine R_new ok13 dX0_readEither_14 q630 q631 q119 (by decide) nfd13 ?_
    refine R_dup dX0_readEither_17 rfl ?_
    refine R_bipush (v := 124) dX0_readEither_18 (by decide) ?_
    refine R_aload_n dX0_readEither_20 1 rfl ?_
    refine R_aload_n dX0_readEither_21 0 rfl ?_
    refine R_invV (Mc := mX0_readAll) (b := x) (As := []) (st := [.ref a1, .int 124, .ref (aN h1), .ref (aN h1)]) ok0 (by decide) Bh1.N.1 dX0_readEither_22 q550 q552 qs14 q103 wX0_readAll pX0_readAll rfl (Nat.le_of_ble_eq_true rfl) (by decide) hdd (Nat.le_of_ble_eq_true rfl) (aft_rT w (fun q4 h3 w => ?_) (fun y6 h3 w => ?_))
    · obtain ⟨Bh3, w⟩ := w
      refine R_invI (Mc := mX13_init) (b := (aN h1)) (As := [.int 124, .ref a1, .ref q4]) (st := [.ref (aN h1)]) dX0_readEither_25 q632 q633 q119 rfl q634 rfl pX13_init rfl (Nat.le_of_ble_eq_true rfl) (by decide) (by omega) (Nat.le_of_ble_eq_true rfl) (aft_v w (fun h5 w => ?_))
      obtain ⟨Bh5, w⟩ := w
      refine R_astore_n (lv' := [(1, .ref (aN h1)), (0, .ref x)]) dX0_readEither_28 rfl (by decide) rfl ?_
      refine R_goto (tgt := 5) dX0_readEither_29 (by decide) ?_
      exact R_sub [1, 0] rfl (w Bh5)
    · obtain ⟨ey, Bh3, w⟩ := w
      subst ey
      exact Thr.leave (by decide) w
theorem sX0_readLaw_0 {G : GG} {x : Nat} {h : AH} {Q : Outcome → AH → Prop} (B : XB G x h) (w : Run G mX0_readLine 201 0 [(0, .ref x)] [] (sI h 18 x 0) (fun o h1 => (∃ q2 : Nat, o = .returned (some (.ref q2)) ∧ XB G x h1 ∧ (XB G x h1 → Run G mX0_readLaw 202 12 [(0, .ref x), (1, .ref q2), (2, .ref q2)] [] h1 Q)) ∨ (∃ y3 : Nat, o = .threw y3 ∧ y3 = x + 3 ∧ XB G x h1 ∧ (Q (.threw (x + 3)) h1)))) : Run G mX0_readLaw 202 0 [(0, .ref x)] [] h Q := by
  refine R_aload_n dX0_readLaw_0 0 rfl ?_
  refine R_iconst (v := 0) dX0_readLaw_1 (by decide) ?_
  refine X_putS (k := 18) B dX0_readLaw_2 q283 (by decide) rfl rfl rfl rfl ?_
  refine R_aload_n dX0_readLaw_5 0 rfl ?_
  refine R_invV (Mc := mX0_readLine) (b := x) (As := []) (st := []) ok0 (by decide) B.I.1 dX0_readLaw_6 q526 q528 qs12 q103 wX0_readLine pX0_readLine rfl (Nat.le_of_ble_eq_true rfl) (by decide) (by decide) (Nat.le_of_ble_eq_true rfl) (aft_rT w (fun q2 h1 w => ?_) (fun y3 h1 w => ?_))
  · obtain ⟨Bh1, w⟩ := w
    refine R_astore_n (lv' := [(1, .ref q2), (0, .ref x)]) dX0_readLaw_9 rfl (by decide) rfl ?_
    refine R_aload_n dX0_readLaw_10 0 rfl ?_
    refine R_astore_n (lv' := [(2, .ref q2), (1, .ref q2), (0, .ref x)]) dX0_readLaw_11 rfl (by decide) rfl ?_
    exact R_sub [2, 1, 0] rfl (w Bh1)
  · obtain ⟨ey, Bh1, w⟩ := w
    subst ey
    exact Thr.leave (by decide) w
theorem sX0_readLaw_12 {G : GG} {x : Nat} {h : AH} {Q : Outcome → AH → Prop} {a1 : Nat} {a2 : Nat} (B : XB G x h) (w : Run G mX0_take 2 0 [(0, .ref x), (1, .int 59)] [] h (fun o h1 => ∃ b2 : Bool, o = .returned (some (.int (bi b2))) ∧ XB G x h1 ∧ ((b2 = false → (((aI h1 4 x) ≤ (aI h1 6 x) → (Q (.returned (some (.ref a1))) h1)) ∧ (¬ (aI h1 4 x) ≤ (aI h1 6 x) → (Q (.threw (x + 3)) h1)))) ∧ (b2 = true → (Run G mX0_readLine 201 0 [(0, .ref x)] [] h1 (fun o h4 => (∃ q5 : Nat, o = .returned (some (.ref q5)) ∧ XB G x h4 ∧ (IsK G h4 a2 (8, 0) ∧ (XB G x (sP h4 514 a2 (some q5)) → Run G mX0_readLaw 202 12 [(0, .ref x), (1, .ref a1), (2, va_rf (aP (sP h4 514 a2 (some q5)) 514 a2))] [] (sP h4 514 a2 (some q5)) Q))) ∨ (∃ y7 : Nat, o = .threw y7 ∧ y7 = x + 3 ∧ XB G x h4 ∧ (Q (.threw (x + 3)) h4)))))))) : Run G mX0_readLaw 202 12 [(0, .ref x), (1, .ref a1), (2, .ref a2)] [] h Q := by
  refine R_aload_n dX0_readLaw_12 0 rfl ?_
  refine R_bipush (v := 59) dX0_readLaw_13 (by decide) ?_
  refine R_invV (Mc := mX0_take) (b := x) (As := [.int 59]) (st := []) ok0 (by decide) B.1 dX0_readLaw_15 q626 q628 qs22 q103 wX0_take pX0_take rfl (Nat.le_of_ble_eq_true rfl) (by decide) (by decide) (Nat.le_of_ble_eq_true rfl) (aft_z w (fun b2 h1 w => ?_))
  obtain ⟨Bh1, w⟩ := w
  refine R_ifz_eq (tgt := 37) dX0_readLaw_18 (by decide) (fun c8 => ?_) (fun c8 => ?_)
  · have w := w.1 c8
    refine R_aload_n dX0_readLaw_37 0 rfl ?_
    refine X_getS (k := 6) Bh1 dX0_readLaw_38 q270 (by decide) rfl ?_
    refine R_aload_n dX0_readLaw_41 0 rfl ?_
    refine X_getS (k := 4) Bh1 dX0_readLaw_42 q268 (by decide) rfl ?_
    refine R_icmp_ge (tgt := 53) dX0_readLaw_45 (by decide) (fun c3 => ?_) (fun c3 => ?_)
    · have w := w.1 c3
      refine R_aload_n dX0_readLaw_53 1 rfl ?_
      exact R_aret (v := (some a1)) dX0_readLaw_54 rfl w
    · have w := w.2 c3
      refine R_aload_n dX0_readLaw_48 0 rfl ?_
      refine X_getA (k := 5) (o := 3) (j := 1) (n := 0) Bh1 dX0_readLaw_49 q269 (by decide) rfl rfl ?_
      refine R_athrow dX0_readLaw_52 ?_
      exact Thr.leave (by decide) w
  · have w := w.2 c8
    refine R_aload_n dX0_readLaw_21 2 rfl ?_
    refine R_aload_n dX0_readLaw_22 0 rfl ?_
    refine R_invV (Mc := mX0_readLine) (b := x) (As := []) (st := [.ref a2]) ok0 (by decide) Bh1.1 dX0_readLaw_23 q526 q528 qs12 q103 wX0_readLine pX0_readLine rfl (Nat.le_of_ble_eq_true rfl) (by decide) (by decide) (Nat.le_of_ble_eq_true rfl) (aft_rT w (fun q5 h4 w => ?_) (fun y7 h4 w => ?_))
    · obtain ⟨Bh4, w⟩ := w
      obtain ⟨k6, w⟩ := w
      refine R_top (v' := va_rf (some q5)) rfl ?_
      refine R_putPN (k := 2) (f := 514) ok8 dX0_readLaw_26 q538 (by decide) rfl rfl rfl (nar_rf _) (fit_rf _) (by decide) k6 ?_
      refine R_aload_n dX0_readLaw_29 2 rfl ?_
      refine R_getPN (k := 2) (f := 514) ok8 dX0_readLaw_30 q538 (by decide) rfl (by decide) k6 ?_
      refine R_astore_nQ (lv' := [(2, va_rf (aP (sP h4 514 a2 (some q5)) 514 a2)), (0, .ref x), (1, .ref a1)]) dX0_readLaw_33 rfl (by decide) rfl ?_
      refine R_goto (tgt := 12) dX0_readLaw_34 (by decide) ?_
      exact R_sub [1, 2, 0] rfl (w (XB.P rfl Bh4))
    · obtain ⟨ey, Bh4, w⟩ := w
      subst ey
      exact Thr.leave (by decide) w
theorem sX0_readLike_0 {G : GG} {x : Nat} {h : AH} {Q : Outcome → AH → Prop} {d d' : Nat} (hdd : d' + 1 ≤ d) (h9 : 20 ≤ d) (B : XB G x h) (w : Run G mX0_readPlus d' 0 [(0, .ref x)] [] h (fun o h1 => (∃ q2 : Nat, o = .returned (some (.ref q2)) ∧ XB G x h1 ∧ (Run G mX0_peek 1 0 [(0, .ref x)] [] h1 (fun o h3 => ∃ r4 : Int32, o = .returned (some (.int r4)) ∧ XB G x h3 ∧ ((r4 = 60 → (XB G x h3 → Run G mX0_readLike d 34 [(0, .ref x), (1, .ref q2)] [] h3 Q)) ∧ (¬ r4 = 60 → (Run G mX0_peek 1 0 [(0, .ref x)] [] h3 (fun o h5 => ∃ r6 : Int32, o = .returned (some (.int r6)) ∧ XB G x h5 ∧ ((r6 = 61 → (XB G x h5 → Run G mX0_readLike d 34 [(0, .ref x), (1, .ref q2)] [] h5 Q)) ∧ (¬ r6 = 61 → (Run G mX0_peek 1 0 [(0, .ref x)] [] h5 (fun o h7 => ∃ r8 : Int32, o = .returned (some (.int r8)) ∧ XB G x h7 ∧ ((r8 = 62 → (XB G x h7 → Run G mX0_readLike d 34 [(0, .ref x), (1, .ref q2)] [] h7 Q)) ∧ (¬ r8 = 62 → (Q (.returned (some (.ref q2))) h7)))))))))))))) ∨ (∃ y12 : Nat, o = .threw y12 ∧ y12 = x + 3 ∧ XB G x h1 ∧ (Q (.threw (x + 3)) h1)))) : Run G mX0_readLike d 0 [(0, .ref x)] [] h Q := by
  refine R_aload_n dX0_readLike_0 0 rfl ?_
  refine R_invV (Mc := mX0_readPlus) (b := x) (As := []) (st := []) ok0 (by decide) B.1 dX0_readLike_1 q558 q560 qs16 q103 wX0_readPlus pX0_readPlus rfl (Nat.le_of_ble_eq_true rfl) (by decide) hdd (Nat.le_of_ble_eq_true rfl) (aft_rT w (fun q2 h1 w => ?_) (fun y12 h1 w => ?_))
  · obtain ⟨Bh1, w⟩ := w
    refine R_astore_n (lv' := [(1, .ref q2), (0, .ref x)]) dX0_readLike_4 rfl (by decide) rfl ?_
    refine R_aload_n dX0_readLike_5 1 rfl ?_
    refine R_invV (Mc := mX0_peek) (b := x) (As := []) (st := []) ok0 (by decide) Bh1.1 dX0_readLike_6 q574 q576 qs20 q103 wX0_peek pX0_peek rfl (Nat.le_of_ble_eq_true rfl) (by decide) (by omega) (Nat.le_of_ble_eq_true rfl) (aft_i w (fun r4 h3 w => ?_))
    obtain ⟨Bh3, w⟩ := w
    refine R_bipush (v := 60) dX0_readLike_9 (by decide) ?_
    refine R_icmp_eq (tgt := 34) dX0_readLike_11 (by decide) (fun c11 => ?_) (fun c11 => ?_)
    · have w := w.1 c11
      exact R_sub [1, 0] rfl (w Bh3)
    · have w := w.2 c11
      refine R_aload_n dX0_readLike_14 1 rfl ?_
      refine R_invV (Mc := mX0_peek) (b := x) (As := []) (st := []) ok0 (by decide) Bh3.1 dX0_readLike_15 q574 q576 qs20 q103 wX0_peek pX0_peek rfl (Nat.le_of_ble_eq_true rfl) (by decide) (by omega) (Nat.le_of_ble_eq_true rfl) (aft_i w (fun r6 h5 w => ?_))
      obtain ⟨Bh5, w⟩ := w
      refine R_bipush (v := 61) dX0_readLike_18 (by decide) ?_
      refine R_icmp_eq (tgt := 34) dX0_readLike_20 (by decide) (fun c10 => ?_) (fun c10 => ?_)
      · have w := w.1 c10
        exact R_sub [1, 0] rfl (w Bh5)
      · have w := w.2 c10
        refine R_aload_n dX0_readLike_23 1 rfl ?_
        refine R_invV (Mc := mX0_peek) (b := x) (As := []) (st := []) ok0 (by decide) Bh5.1 dX0_readLike_24 q574 q576 qs20 q103 wX0_peek pX0_peek rfl (Nat.le_of_ble_eq_true rfl) (by decide) (by omega) (Nat.le_of_ble_eq_true rfl) (aft_i w (fun r8 h7 w => ?_))
        obtain ⟨Bh7, w⟩ := w
        refine R_bipush (v := 62) dX0_readLike_27 (by decide) ?_
        refine R_icmp_eq (tgt := 34) dX0_readLike_29 (by decide) (fun c9 => ?_) (fun c9 => ?_)
        · have w := w.1 c9
          exact R_sub [1, 0] rfl (w Bh7)
        · have w := w.2 c9
          refine R_aload_n dX0_readLike_32 0 rfl ?_
          exact R_aret (v := (some q2)) dX0_readLike_33 rfl w
  · obtain ⟨ey, Bh1, w⟩ := w
    subst ey
    exact Thr.leave (by decide) w
theorem sX0_readLike_34 {G : GG} {x : Nat} {h : AH} {Q : Outcome → AH → Prop} {a1 : Nat} {d d' : Nat} (hdd : d' + 1 ≤ d) (h9 : 20 ≤ d) (B : XB G x h) (w : vp_in (aI h 6 x) 120 ∧ (Run G mX0_readPlus d' 0 [(0, .ref x)] [] (sNew (sI h 6 x ((aI h 6 x) + 1)) (13, 0) 3) (fun o h1 => (∃ q2 : Nat, o = .returned (some (.ref q2)) ∧ XB G x h1 ∧ (Run G mX13_init 3 0 [(0, .ref (aN (sI h 6 x ((aI h 6 x) + 1)))), (1, .int (aA (sI h 6 x ((aI h 6 x) + 1)) (x + 2) (aI h 6 x).toNatClampNeg)), (2, .ref a1), (3, .ref q2)] [] h1 (fun o h3 => o = .returned none ∧ XB G x h3 ∧ (Q (.returned (some (.ref (aN (sI h 6 x ((aI h 6 x) + 1)))))) h3)))) ∨ (∃ y4 : Nat, o = .threw y4 ∧ y4 = x + 3 ∧ XB G x h1 ∧ (Q (.threw (x + 3)) h1))))) : Run G mX0_readLike d 34 [(0, .ref x), (1, .ref a1)] [] h Q := by
  refine R_aload_n dX0_readLike_34 0 rfl ?_
  refine X_getA (k := 3) (o := 2) (j := 100) (n := 120) B dX0_readLike_35 q267 (by decide) rfl rfl ?_
  refine R_aload_n dX0_readLike_38 0 rfl ?_
  refine R_dup dX0_readLike_39 rfl ?_
  refine X_getS (k := 6) B dX0_readLike_40 q270 (by decide) rfl ?_
  refine R_dup_x1 dX0_readLike_43 rfl rfl ?_
  refine R_iconst (v := 1) dX0_readLike_44 (by decide) ?_
  refine R_iadd dX0_readLike_45 ?_
  refine X_putS (k := 6) B dX0_readLike_46 q270 (by decide) rfl rfl rfl rfl ?_
  obtain ⟨c5, w⟩ := w
  refine X_iald (k := 3) B.I dX0_readLike_49 rfl c5 ?_
  refine R_istore_n (lv' := [(2, .int (aA (sI h 6 x ((aI h 6 x) + 1)) (x + 2) (aI h 6 x).toNatClampNeg)), (0, .ref x), (1, .ref a1)]) dX0_readLike_50 rfl (by decide) rfl ?_
  refine R_new ok13 dX0_readLike_51 q630 q631 q119 (by decide) nfd13 ?_
  refine R_dup dX0_readLike_54 rfl ?_
  refine R_iload_n dX0_readLike_55 0 rfl ?_
  refine R_aload_n dX0_readLike_56 2 rfl ?_
  refine R_aload_n dX0_readLike_57 1 rfl ?_
  refine R_invV (Mc := mX0_readPlus) (b := x) (As := []) (st := [.ref a1, .int (aA (sI h 6 x ((aI h 6 x) + 1)) (x + 2) (aI h 6 x).toNatClampNeg), .ref (aN (sI h 6 x ((aI h 6 x) + 1))), .ref (aN (sI h 6 x ((aI h 6 x) + 1)))]) ok0 (by decide) B.I.N.1 dX0_readLike_58 q558 q560 qs16 q103 wX0_readPlus pX0_readPlus rfl (Nat.le_of_ble_eq_true rfl) (by decide) hdd (Nat.le_of_ble_eq_true rfl) (aft_rT w (fun q2 h1 w => ?_) (fun y4 h1 w => ?_))
  · obtain ⟨Bh1, w⟩ := w
    refine R_invI (Mc := mX13_init) (b := (aN (sI h 6 x ((aI h 6 x) + 1)))) (As := [.int (aA (sI h 6 x ((aI h 6 x) + 1)) (x + 2) (aI h 6 x).toNatClampNeg), .ref a1, .ref q2]) (st := [.ref (aN (sI h 6 x ((aI h 6 x) + 1)))]) dX0_readLike_61 q632 q633 q119 rfl q634 rfl pX13_init rfl (Nat.le_of_ble_eq_true rfl) (by decide) (by omega) (Nat.le_of_ble_eq_true rfl) (aft_v w (fun h3 w => ?_))
    obtain ⟨Bh3, w⟩ := w
    exact R_aret (v := (some (aN (sI h 6 x ((aI h 6 x) + 1))))) dX0_readLike_64 rfl w
  · obtain ⟨ey, Bh1, w⟩ := w
    subst ey
    exact Thr.leave (by decide) w
theorem sX0_readLine_0 {G : GG} {x : Nat} {h : AH} {Q : Outcome → AH → Prop} (B : XB G x h) (w : Run G mX8_init 2 0 [(0, .ref (aN h))] [] (sNew h (8, 0) 3) (fun o h1 => o = .returned none ∧ XB G x h1 ∧ (Run G mX0_readEither 200 0 [(0, .ref x)] [] h1 (fun o h2 => (∃ q3 : Nat, o = .returned (some (.ref q3)) ∧ XB G x h2 ∧ (IsK G h2 (aN h) (8, 0) ∧ (Run G mX0_take 2 0 [(0, .ref x), (1, .int 63)] [] (sP h2 513 (aN h) (some q3)) (fun o h5 => ∃ b6 : Bool, o = .returned (some (.int (bi b6))) ∧ XB G x h5 ∧ ((b6 = false → (Q (.returned (some (.ref (aN h)))) h5)) ∧ (b6 = true → (IsK G h5 (aN h) (8, 0) ∧ (∃ q8 : Nat, (aP h5 513 (aN h)) = some q8 ∧ (Run G mX0_readEither 200 0 [(0, .ref x)] [] (sP h5 512 (aN h) (some q8)) (fun o h10 => (∃ q11 : Nat, o = .returned (some (.ref q11)) ∧ XB G x h10 ∧ (IsK G h10 (aN h) (8, 0) ∧ (Q (.returned (some (.ref (aN h)))) (sP h10 513 (aN h) (some q11))))) ∨ (∃ y13 : Nat, o = .threw y13 ∧ y13 = x + 3 ∧ XB G x h10 ∧ (Q (.threw (x + 3)) h10)))))))))))) ∨ (∃ y15 : Nat, o = .threw y15 ∧ y15 = x + 3 ∧ XB G x h2 ∧ (Q (.threw (x + 3)) h2)))))) : Run G mX0_readLine 201 0 [(0, .ref x)] [] h Q := by
  refine R_new ok8 dX0_readLine_0 q530 q531 q114 (by decide) nfd8 ?_
  refine R_dup dX0_readLine_3 rfl ?_
  refine R_invIN (Mc := mX8_init) (b := (aN h)) (As := []) (st := [.ref (aN h)]) dX0_readLine_4 q532 q533 q114 rfl q534 rfl pX8_init rfl (Nat.le_of_ble_eq_true rfl) (by decide) (by decide) (Nat.le_of_ble_eq_true rfl) (aft_v w (fun h1 w => ?_))
  obtain ⟨Bh1, w⟩ := w
  refine R_astore_n (lv' := [(1, .ref (aN h)), (0, .ref x)]) dX0_readLine_7 rfl (by decide) rfl ?_
  refine R_aload_n dX0_readLine_8 0 rfl ?_
  refine R_aload_n dX0_readLine_9 1 rfl ?_
  refine R_invV (Mc := mX0_readEither) (b := x) (As := []) (st := [.ref (aN h)]) ok0 (by decide) Bh1.1 dX0_readLine_10 q546 q548 qs13 q103 wX0_readEither pX0_readEither rfl (Nat.le_of_ble_eq_true rfl) (by decide) (by decide) (Nat.le_of_ble_eq_true rfl) (aft_rT w (fun q3 h2 w => ?_) (fun y15 h2 w => ?_))
  · obtain ⟨Bh2, w⟩ := w
    obtain ⟨k4, w⟩ := w
    refine R_top (v' := va_rf (some q3)) rfl ?_
    refine R_putPN (k := 1) (f := 513) ok8 dX0_readLine_13 q537 (by decide) rfl rfl rfl (nar_rf _) (fit_rf _) (by decide) k4 ?_
    refine R_aload_n dX0_readLine_16 1 rfl ?_
    refine R_bipush (v := 63) dX0_readLine_17 (by decide) ?_
    refine R_invV (Mc := mX0_take) (b := x) (As := [.int 63]) (st := []) ok0 (by decide) (XB.P rfl Bh2).1 dX0_readLine_19 q626 q628 qs22 q103 wX0_take pX0_take rfl (Nat.le_of_ble_eq_true rfl) (by decide) (by decide) (Nat.le_of_ble_eq_true rfl) (aft_z w (fun b6 h5 w => ?_))
    obtain ⟨Bh5, w⟩ := w
    refine R_ifz_eq (tgt := 41) dX0_readLine_22 (by decide) (fun c14 => ?_) (fun c14 => ?_)
    · have w := w.1 c14
      refine R_aload_n dX0_readLine_41 0 rfl ?_
      exact R_aret (v := (some (aN h))) dX0_readLine_42 rfl w
    · have w := w.2 c14
      refine R_aload_n dX0_readLine_25 0 rfl ?_
      refine R_aload_n dX0_readLine_26 0 rfl ?_
      obtain ⟨k7, w⟩ := w
      obtain ⟨q8, e9, w⟩ := w
      refine R_getPN (k := 1) (f := 513) ok8 dX0_readLine_27 q537 (by decide) rfl (by decide) k7 ?_
      refine R_top (v' := .ref q8) (congrArg va_rf e9) ?_
      refine R_top (v' := va_rf (some q8)) rfl ?_
      refine R_putPN (k := 0) (f := 512) ok8 dX0_readLine_30 q536 (by decide) rfl rfl rfl (nar_rf _) (fit_rf _) (by decide) k7 ?_
      refine R_aload_n dX0_readLine_33 0 rfl ?_
      refine R_aload_n dX0_readLine_34 1 rfl ?_
      refine R_invV (Mc := mX0_readEither) (b := x) (As := []) (st := [.ref (aN h)]) ok0 (by decide) (XB.P rfl Bh5).1 dX0_readLine_35 q546 q548 qs13 q103 wX0_readEither pX0_readEither rfl (Nat.le_of_ble_eq_true rfl) (by decide) (by decide) (Nat.le_of_ble_eq_true rfl) (aft_rT w (fun q11 h10 w => ?_) (fun y13 h10 w => ?_))
      · obtain ⟨Bh10, w⟩ := w
        obtain ⟨k12, w⟩ := w
        refine R_top (v' := va_rf (some q11)) rfl ?_
        refine R_putPN (k := 1) (f := 513) ok8 dX0_readLine_38 q537 (by decide) rfl rfl rfl (nar_rf _) (fit_rf _) (by decide) k12 ?_
        refine R_aload_n dX0_readLine_41 0 rfl ?_
        exact R_aret (v := (some (aN h))) dX0_readLine_42 rfl w
      · obtain ⟨ey, Bh10, w⟩ := w
        subst ey
        exact Thr.leave (by decide) w
  · obtain ⟨ey, Bh2, w⟩ := w
    subst ey
    exact Thr.leave (by decide) w
theorem sX0_readOne_0 {G : GG} {x : Nat} {h : AH} {Q : Outcome → AH → Prop} {d d' : Nat} (hdd : d' + 1 ≤ d) (h9 : 20 ≤ d) (B : XB G x h) (w : Run G mX0_isDigit 2 0 [(0, .ref x)] [] h (fun o h1 => ∃ b2 : Bool, o = .returned (some (.int (bi b2))) ∧ XB G x h1 ∧ ((b2 = false → (Run G mX0_peek 1 0 [(0, .ref x)] [] h1 (fun o h3 => ∃ r4 : Int32, o = .returned (some (.int r4)) ∧ XB G x h3 ∧ (Run G mX0_nameOf 1 0 [(0, .int r4)] [] h3 (fun o h5 => ∃ r6 : Int32, o = .returned (some (.int r6)) ∧ XB G x h5 ∧ ((r6 = (-1) → (Run G mX0_peek 1 0 [(0, .ref x)] [] h5 (fun o h7 => ∃ r8 : Int32, o = .returned (some (.int r8)) ∧ XB G x h7 ∧ ((r8 = 33 → (XB G x h7 → Run G mX0_readOne d 124 [(0, .ref x), (2, .int r8)] [] h7 Q)) ∧ (¬ r8 = 33 → ((r8 = 45 → (XB G x h7 → Run G mX0_readOne d 124 [(0, .ref x), (2, .int r8)] [] h7 Q)) ∧ (¬ r8 = 45 → ((¬ r8 = 40 → (Q (.threw (x + 3)) h7)) ∧ (r8 = 40 → (XB G x h7 → Run G mX0_readOne d 124 [(0, .ref x), (2, .int r8)] [] h7 Q)))))))))) ∧ (¬ r6 = (-1) → (Run G mX11_init 3 0 [(0, .ref (aN (sI h5 6 x ((aI h5 6 x) + 1)))), (1, .ref x), (2, .int r6)] [] (sNew (sI h5 6 x ((aI h5 6 x) + 1)) (11, 0) 2) (fun o h12 => o = .returned none ∧ XB G x h12 ∧ (Q (.returned (some (.ref (aN (sI h5 6 x ((aI h5 6 x) + 1)))))) h12)))))))))) ∧ (b2 = true → (XB G x h1 → Run G mX0_readOne d 14 [(0, .ref x), (1, .int 0), (2, .int (aI h1 6 x))] [] h1 Q))))) : Run G mX0_readOne d 0 [(0, .ref x)] [] h Q := by
  refine R_aload_n dX0_readOne_0 0 rfl ?_
  refine R_invV (Mc := mX0_isDigit) (b := x) (As := []) (st := []) ok0 (by decide) B.1 dX0_readOne_1 q570 q572 qs19 q103 wX0_isDigit pX0_isDigit rfl (Nat.le_of_ble_eq_true rfl) (by decide) (by omega) (Nat.le_of_ble_eq_true rfl) (aft_z w (fun b2 h1 w => ?_))
  obtain ⟨Bh1, w⟩ := w
  refine R_ifz_eq (tgt := 68) dX0_readOne_4 (by decide) (fun c14 => ?_) (fun c14 => ?_)
  · have w := w.1 c14
    refine R_aload_n dX0_readOne_68 0 rfl ?_
    refine R_invV (Mc := mX0_peek) (b := x) (As := []) (st := []) ok0 (by decide) Bh1.1 dX0_readOne_69 q574 q576 qs20 q103 wX0_peek pX0_peek rfl (Nat.le_of_ble_eq_true rfl) (by decide) (by omega) (Nat.le_of_ble_eq_true rfl) (aft_i w (fun r4 h3 w => ?_))
    obtain ⟨Bh3, w⟩ := w
    refine R_invS (Mc := mX0_nameOf) (As := [.int r4]) (st := []) dX0_readOne_72 q593 q594 q103 wX0_nameOf pX0_nameOf rfl (Nat.le_of_ble_eq_true rfl) (by decide) (by omega) (Nat.le_of_ble_eq_true rfl) (aft_i w (fun r6 h5 w => ?_))
    obtain ⟨Bh5, w⟩ := w
    refine R_istore_n (lv' := [(1, .int r6), (0, .ref x)]) dX0_readOne_75 rfl (by decide) rfl ?_
    refine R_iload_n dX0_readOne_76 0 rfl ?_
    refine R_iconst (v := (-1)) dX0_readOne_77 (by decide) ?_
    refine R_icmp_eq (tgt := 101) dX0_readOne_78 (by decide) (fun c13 => ?_) (fun c13 => ?_)
    · have w := w.1 c13
      refine R_aload_n dX0_readOne_101 1 rfl ?_
      refine R_invV (Mc := mX0_peek) (b := x) (As := []) (st := []) ok0 (by decide) Bh5.1 dX0_readOne_102 q574 q576 qs20 q103 wX0_peek pX0_peek rfl (Nat.le_of_ble_eq_true rfl) (by decide) (by omega) (Nat.le_of_ble_eq_true rfl) (aft_i w (fun r8 h7 w => ?_))
      obtain ⟨Bh7, w⟩ := w
      refine R_istore_n (lv' := [(2, .int r8), (1, .int r6), (0, .ref x)]) dX0_readOne_105 rfl (by decide) rfl ?_
      refine R_iload_n dX0_readOne_106 0 rfl ?_
      refine R_bipush (v := 33) dX0_readOne_107 (by decide) ?_
      refine R_icmp_eq (tgt := 124) dX0_readOne_109 (by decide) (fun c11 => ?_) (fun c11 => ?_)
      · have w := w.1 c11
        exact R_sub [2, 0] rfl (w Bh7)
      · have w := w.2 c11
        refine R_iload_n dX0_readOne_112 0 rfl ?_
        refine R_bipush (v := 45) dX0_readOne_113 (by decide) ?_
        refine R_icmp_eq (tgt := 124) dX0_readOne_115 (by decide) (fun c10 => ?_) (fun c10 => ?_)
        · have w := w.1 c10
          exact R_sub [2, 0] rfl (w Bh7)
        · have w := w.2 c10
          refine R_iload_n dX0_readOne_118 0 rfl ?_
          refine R_bipush (v := 40) dX0_readOne_119 (by decide) ?_
          refine R_icmp_ne (tgt := 133) dX0_readOne_121 (by decide) (fun c9 => ?_) (fun c9 => ?_)
          · have w := w.1 c9
            refine R_aload_n dX0_readOne_133 2 rfl ?_
            refine X_getA (k := 5) (o := 3) (j := 1) (n := 0) Bh7 dX0_readOne_134 q269 (by decide) rfl rfl ?_
            refine R_athrow dX0_readOne_137 ?_
            exact Thr.leave (by decide) w
          · have w := w.2 c9
            exact R_sub [2, 0] rfl (w Bh7)
    · have w := w.2 c13
      refine R_aload_n dX0_readOne_81 1 rfl ?_
      refine R_dup dX0_readOne_82 rfl ?_
      refine X_getS (k := 6) Bh5 dX0_readOne_83 q270 (by decide) rfl ?_
      refine R_iconst (v := 1) dX0_readOne_86 (by decide) ?_
      refine R_iadd dX0_readOne_87 ?_
      refine X_putS (k := 6) Bh5 dX0_readOne_88 q270 (by decide) rfl rfl rfl rfl ?_
      refine R_new ok11 dX0_readOne_91 q596 q597 q117 (by decide) nfd11 ?_
      refine R_dup dX0_readOne_94 rfl ?_
      refine R_aload_n dX0_readOne_95 1 rfl ?_
      refine R_iload_n dX0_readOne_96 0 rfl ?_
      refine R_invI (Mc := mX11_init) (b := (aN (sI h5 6 x ((aI h5 6 x) + 1)))) (As := [.ref x, .int r6]) (st := [.ref (aN (sI h5 6 x ((aI h5 6 x) + 1)))]) dX0_readOne_97 q598 q599 q117 rfl q600 rfl pX11_init rfl (Nat.le_of_ble_eq_true rfl) (by decide) (by omega) (Nat.le_of_ble_eq_true rfl) (aft_v w (fun h12 w => ?_))
      obtain ⟨Bh12, w⟩ := w
      exact R_aret (v := (some (aN (sI h5 6 x ((aI h5 6 x) + 1))))) dX0_readOne_100 rfl w
  · have w := w.2 c14
    refine R_iconst (v := 0) dX0_readOne_7 (by decide) ?_
    refine R_istore_n (lv' := [(1, .int 0), (0, .ref x)]) dX0_readOne_8 rfl (by decide) rfl ?_
    refine R_aload_n dX0_readOne_9 1 rfl ?_
    refine X_getS (k := 6) Bh1 dX0_readOne_10 q270 (by decide) rfl ?_
    refine R_istore_n (lv' := [(2, .int (aI h1 6 x)), (1, .int 0), (0, .ref x)]) dX0_readOne_13 rfl (by decide) rfl ?_
    exact R_sub [2, 1, 0] rfl (w Bh1)
theorem sX0_readOne_14 {G : GG} {x : Nat} {h : AH} {Q : Outcome → AH → Prop} {a1 : Int32} {a2 : Int32} {d d' : Nat} (hdd : d' + 1 ≤ d) (h9 : 20 ≤ d) (B : XB G x h) (w : ((a2 + 4) ≤ (aI h 6 x) → (Run G mX10_init 3 0 [(0, .ref (aN h)), (1, .int a1)] [] (sNew h (10, 0) 1) (fun o h1 => o = .returned none ∧ XB G x h1 ∧ (Q (.returned (some (.ref (aN h)))) h1)))) ∧ (¬ (a2 + 4) ≤ (aI h 6 x) → (Run G mX0_isDigit 2 0 [(0, .ref x)] [] h (fun o h2 => ∃ b3 : Bool, o = .returned (some (.int (bi b3))) ∧ XB G x h2 ∧ ((b3 = false → (Run G mX10_init 3 0 [(0, .ref (aN h2)), (1, .int a1)] [] (sNew h2 (10, 0) 1) (fun o h4 => o = .returned none ∧ XB G x h4 ∧ (Q (.returned (some (.ref (aN h2)))) h4)))) ∧ (b3 = true → (vp_in (aI h2 6 x) 120 ∧ (XB G x (sI h2 6 x ((aI h2 6 x) + 1)) → Run G mX0_readOne d 14 [(0, .ref x), (1, .int (((10 * a1) + (aA (sI h2 6 x ((aI h2 6 x) + 1)) (x + 2) (aI h2 6 x).toNatClampNeg)) - 48)), (2, .int a2)] [] (sI h2 6 x ((aI h2 6 x) + 1)) Q)))))))) : Run G mX0_readOne d 14 [(0, .ref x), (1, .int a1), (2, .int a2)] [] h Q := by
  refine R_aload_n dX0_readOne_14 0 rfl ?_
  refine X_getS (k := 6) B dX0_readOne_15 q270 (by decide) rfl ?_
  refine R_iload_n dX0_readOne_18 2 rfl ?_
  refine R_iconst (v := 4) dX0_readOne_19 (by decide) ?_
  refine R_iadd dX0_readOne_20 ?_
  refine R_icmp_ge (tgt := 59) dX0_readOne_21 (by decide) (fun c7 => ?_) (fun c7 => ?_)
  · have w := w.1 c7
    refine R_new ok10 dX0_readOne_59 q580 q581 q116 (by decide) nfd10 ?_
    refine R_dup dX0_readOne_62 rfl ?_
    refine R_iload_n dX0_readOne_63 1 rfl ?_
    refine R_invI (Mc := mX10_init) (b := (aN h)) (As := [.int a1]) (st := [.ref (aN h)]) dX0_readOne_64 q582 q583 q116 rfl q584 rfl pX10_init rfl (Nat.le_of_ble_eq_true rfl) (by decide) (by omega) (Nat.le_of_ble_eq_true rfl) (aft_v w (fun h1 w => ?_))
    obtain ⟨Bh1, w⟩ := w
    exact R_aret (v := (some (aN h))) dX0_readOne_67 rfl w
  · have w := w.2 c7
    refine R_aload_n dX0_readOne_24 0 rfl ?_
    refine R_invV (Mc := mX0_isDigit) (b := x) (As := []) (st := []) ok0 (by decide) B.1 dX0_readOne_25 q570 q572 qs19 q103 wX0_isDigit pX0_isDigit rfl (Nat.le_of_ble_eq_true rfl) (by decide) (by omega) (Nat.le_of_ble_eq_true rfl) (aft_z w (fun b3 h2 w => ?_))
    obtain ⟨Bh2, w⟩ := w
    refine R_ifz_eq (tgt := 59) dX0_readOne_28 (by decide) (fun c6 => ?_) (fun c6 => ?_)
    · have w := w.1 c6
      refine R_new ok10 dX0_readOne_59 q580 q581 q116 (by decide) nfd10 ?_
      refine R_dup dX0_readOne_62 rfl ?_
      refine R_iload_n dX0_readOne_63 1 rfl ?_
      refine R_invI (Mc := mX10_init) (b := (aN h2)) (As := [.int a1]) (st := [.ref (aN h2)]) dX0_readOne_64 q582 q583 q116 rfl q584 rfl pX10_init rfl (Nat.le_of_ble_eq_true rfl) (by decide) (by omega) (Nat.le_of_ble_eq_true rfl) (aft_v w (fun h4 w => ?_))
      obtain ⟨Bh4, w⟩ := w
      exact R_aret (v := (some (aN h2))) dX0_readOne_67 rfl w
    · have w := w.2 c6
      refine R_bipush (v := 10) dX0_readOne_31 (by decide) ?_
      refine R_iload_n dX0_readOne_33 1 rfl ?_
      refine R_imul dX0_readOne_34 ?_
      refine R_aload_n dX0_readOne_35 0 rfl ?_
      refine X_getA (k := 3) (o := 2) (j := 100) (n := 120) Bh2 dX0_readOne_36 q267 (by decide) rfl rfl ?_
      refine R_aload_n dX0_readOne_39 0 rfl ?_
      refine R_dup dX0_readOne_40 rfl ?_
      refine X_getS (k := 6) Bh2 dX0_readOne_41 q270 (by decide) rfl ?_
      refine R_dup_x1 dX0_readOne_44 rfl rfl ?_
      refine R_iconst (v := 1) dX0_readOne_45 (by decide) ?_
      refine R_iadd dX0_readOne_46 ?_
      refine X_putS (k := 6) Bh2 dX0_readOne_47 q270 (by decide) rfl rfl rfl rfl ?_
      obtain ⟨c5, w⟩ := w
      refine X_iald (k := 3) Bh2.I dX0_readOne_50 rfl c5 ?_
      refine R_iadd dX0_readOne_51 ?_
      refine R_bipush (v := 48) dX0_readOne_52 (by decide) ?_
      refine R_isub dX0_readOne_54 ?_
      refine R_istore_n (lv' := [(1, .int (((10 * a1) + (aA (sI h2 6 x ((aI h2 6 x) + 1)) (x + 2) (aI h2 6 x).toNatClampNeg)) - 48)), (0, .ref x), (2, .int a2)]) dX0_readOne_55 rfl (by decide) rfl ?_
      refine R_goto (tgt := 14) dX0_readOne_56 (by decide) ?_
      exact R_sub [1, 0, 2] rfl (w Bh2.I)
theorem sX0_readOne_124 {G : GG} {x : Nat} {h : AH} {Q : Outcome → AH → Prop} {a2 : Int32} {d d' : Nat} (hdd : d' + 1 ≤ d) (h9 : 20 ≤ d) (B : XB G x h) (w : (¬ (aI h 18 x) = 6 → ((¬ a2 = 40 → (Run G mX0_readOne d' 0 [(0, .ref x)] [] (sNew (sI (sI h 6 x ((aI h 6 x) + 1)) 18 x ((aI (sI h 6 x ((aI h 6 x) + 1)) 18 x) + 1)) (12, 0) 2) (fun o h1 => (∃ q2 : Nat, o = .returned (some (.ref q2)) ∧ XB G x h1 ∧ (Run G mX12_init 3 0 [(0, .ref (aN (sI (sI h 6 x ((aI h 6 x) + 1)) 18 x ((aI (sI h 6 x ((aI h 6 x) + 1)) 18 x) + 1)))), (1, .int a2), (2, .ref q2)] [] h1 (fun o h3 => o = .returned none ∧ XB G x h3 ∧ (XB G x h3 → Run G mX0_readOne d 183 [(0, .ref x), (2, .int a2)] [.ref (aN (sI (sI h 6 x ((aI h 6 x) + 1)) 18 x ((aI (sI h 6 x ((aI h 6 x) + 1)) 18 x) + 1)))] h3 Q)))) ∨ (∃ y4 : Nat, o = .threw y4 ∧ y4 = x + 3 ∧ XB G x h1 ∧ (Q (.threw (x + 3)) h1))))) ∧ (a2 = 40 → (Run G mX0_readEither d' 0 [(0, .ref x)] [] (sI (sI h 6 x ((aI h 6 x) + 1)) 18 x ((aI (sI h 6 x ((aI h 6 x) + 1)) 18 x) + 1)) (fun o h5 => (∃ q6 : Nat, o = .returned (some (.ref q6)) ∧ XB G x h5 ∧ (XB G x h5 → Run G mX0_readOne d 183 [(0, .ref x), (2, .int a2)] [.ref q6] h5 Q)) ∨ (∃ y7 : Nat, o = .threw y7 ∧ y7 = x + 3 ∧ XB G x h5 ∧ (Q (.threw (x + 3)) h5))))))) ∧ ((aI h 18 x) = 6 → (Q (.threw (x + 3)) h))) : Run G mX0_readOne d 124 [(0, .ref x), (2, .int a2)] [] h Q := by
  refine R_aload_n dX0_readOne_124 0 rfl ?_
  refine X_getS (k := 18) B dX0_readOne_125 q283 (by decide) rfl ?_
  refine R_bipush (v := 6) dX0_readOne_128 (by decide) ?_
  refine R_icmp_ne (tgt := 138) dX0_readOne_130 (by decide) (fun c9 => ?_) (fun c9 => ?_)
  · have w := w.1 c9
    refine R_aload_n dX0_readOne_138 0 rfl ?_
    refine R_dup dX0_readOne_139 rfl ?_
    refine X_getS (k := 6) B dX0_readOne_140 q270 (by decide) rfl ?_
    refine R_iconst (v := 1) dX0_readOne_143 (by decide) ?_
    refine R_iadd dX0_readOne_144 ?_
    refine X_putS (k := 6) B dX0_readOne_145 q270 (by decide) rfl rfl rfl rfl ?_
    refine R_aload_n dX0_readOne_148 0 rfl ?_
    refine R_dup dX0_readOne_149 rfl ?_
    refine X_getS (k := 18) B.I dX0_readOne_150 q283 (by decide) rfl ?_
    refine R_iconst (v := 1) dX0_readOne_153 (by decide) ?_
    refine R_iadd dX0_readOne_154 ?_
    refine X_putS (k := 18) B.I dX0_readOne_155 q283 (by decide) rfl rfl rfl rfl ?_
    refine R_iload_n dX0_readOne_158 1 rfl ?_
    refine R_bipush (v := 40) dX0_readOne_159 (by decide) ?_
    refine R_icmp_ne (tgt := 171) dX0_readOne_161 (by decide) (fun c8 => ?_) (fun c8 => ?_)
    · have w := w.1 c8
      refine R_new ok12 dX0_readOne_171 q609 q610 q118 (by decide) nfd12 ?_
      refine R_dup dX0_readOne_174 rfl ?_
      refine R_iload_n dX0_readOne_175 1 rfl ?_
      refine R_aload_n dX0_readOne_176 0 rfl ?_
      refine R_invV (Mc := mX0_readOne) (b := x) (As := []) (st := [.int a2, .ref (aN (sI (sI h 6 x ((aI h 6 x) + 1)) 18 x ((aI (sI h 6 x ((aI h 6 x) + 1)) 18 x) + 1))), .ref (aN (sI (sI h 6 x ((aI h 6 x) + 1)) 18 x ((aI (sI h 6 x ((aI h 6 x) + 1)) 18 x) + 1)))]) ok0 (by decide) B.I.I.N.1 dX0_readOne_177 q566 q568 qs18 q103 wX0_readOne pX0_readOne rfl (Nat.le_of_ble_eq_true rfl) (by decide) hdd (Nat.le_of_ble_eq_true rfl) (aft_rT w (fun q2 h1 w => ?_) (fun y4 h1 w => ?_))
      · obtain ⟨Bh1, w⟩ := w
        refine R_invI (Mc := mX12_init) (b := (aN (sI (sI h 6 x ((aI h 6 x) + 1)) 18 x ((aI (sI h 6 x ((aI h 6 x) + 1)) 18 x) + 1)))) (As := [.int a2, .ref q2]) (st := [.ref (aN (sI (sI h 6 x ((aI h 6 x) + 1)) 18 x ((aI (sI h 6 x ((aI h 6 x) + 1)) 18 x) + 1)))]) dX0_readOne_180 q611 q612 q118 rfl q613 rfl pX12_init rfl (Nat.le_of_ble_eq_true rfl) (by decide) (by omega) (Nat.le_of_ble_eq_true rfl) (aft_v w (fun h3 w => ?_))
        obtain ⟨Bh3, w⟩ := w
        exact w Bh3
      · obtain ⟨ey, Bh1, w⟩ := w
        subst ey
        exact Thr.leave (by decide) w
    · have w := w.2 c8
      refine R_aload_n dX0_readOne_164 0 rfl ?_
      refine R_invV (Mc := mX0_readEither) (b := x) (As := []) (st := []) ok0 (by decide) B.I.I.1 dX0_readOne_165 q546 q548 qs13 q103 wX0_readEither pX0_readEither rfl (Nat.le_of_ble_eq_true rfl) (by decide) hdd (Nat.le_of_ble_eq_true rfl) (aft_rT w (fun q6 h5 w => ?_) (fun y7 h5 w => ?_))
      · obtain ⟨Bh5, w⟩ := w
        refine R_goto (tgt := 183) dX0_readOne_168 (by decide) ?_
        exact w Bh5
      · obtain ⟨ey, Bh5, w⟩ := w
        subst ey
        exact Thr.leave (by decide) w
  · have w := w.2 c9
    refine R_aload_n dX0_readOne_133 0 rfl ?_
    refine X_getA (k := 5) (o := 3) (j := 1) (n := 0) B dX0_readOne_134 q269 (by decide) rfl rfl ?_
    refine R_athrow dX0_readOne_137 ?_
    exact Thr.leave (by decide) w
theorem sX0_readOne_183 {G : GG} {x : Nat} {h : AH} {Q : Outcome → AH → Prop} {a2 : Int32} {t0 : Nat} {d d' : Nat} (hdd : d' + 1 ≤ d) (h9 : 20 ≤ d) (B : XB G x h) (w : (¬ a2 = 40 → (Q (.returned (some (.ref t0))) (sI h 18 x ((aI h 18 x) - 1)))) ∧ (a2 = 40 → (Run G mX0_expect 3 0 [(0, .ref x), (1, .int 41)] [] h (fun o h1 => (o = .returned none ∧ XB G x h1 ∧ (Q (.returned (some (.ref t0))) (sI h1 18 x ((aI h1 18 x) - 1)))) ∨ (∃ y2 : Nat, o = .threw y2 ∧ y2 = x + 3 ∧ XB G x h1 ∧ (Q (.threw (x + 3)) h1)))))) : Run G mX0_readOne d 183 [(0, .ref x), (2, .int a2)] [.ref t0] h Q := by
  refine R_astore_n (lv' := [(3, .ref t0), (0, .ref x), (2, .int a2)]) dX0_readOne_183 rfl (by decide) rfl ?_
  refine R_iload_n dX0_readOne_184 2 rfl ?_
  refine R_bipush (v := 40) dX0_readOne_185 (by decide) ?_
  refine R_icmp_ne (tgt := 196) dX0_readOne_187 (by decide) (fun c3 => ?_) (fun c3 => ?_)
  · have w := w.1 c3
    refine R_aload_n dX0_readOne_196 1 rfl ?_
    refine R_dup dX0_readOne_197 rfl ?_
    refine X_getS (k := 18) B dX0_readOne_198 q283 (by decide) rfl ?_
    refine R_iconst (v := 1) dX0_readOne_201 (by decide) ?_
    refine R_isub dX0_readOne_202 ?_
    refine X_putS (k := 18) B dX0_readOne_203 q283 (by decide) rfl rfl rfl rfl ?_
    refine R_aload_n dX0_readOne_206 0 rfl ?_
    exact R_aret (v := (some t0)) dX0_readOne_207 rfl w
  · have w := w.2 c3
    refine R_aload_n dX0_readOne_190 1 rfl ?_
    refine R_bipush (v := 41) dX0_readOne_191 (by decide) ?_
    refine R_invV (Mc := mX0_expect) (b := x) (As := [.int 41]) (st := []) ok0 (by decide) B.1 dX0_readOne_193 q622 q624 qs21 q103 wX0_expect pX0_expect rfl (Nat.le_of_ble_eq_true rfl) (by decide) (by omega) (Nat.le_of_ble_eq_true rfl) (aft_vT w (fun h1 w => ?_) (fun y2 h1 w => ?_))
    · obtain ⟨Bh1, w⟩ := w
      refine R_aload_n dX0_readOne_196 1 rfl ?_
      refine R_dup dX0_readOne_197 rfl ?_
      refine X_getS (k := 18) Bh1 dX0_readOne_198 q283 (by decide) rfl ?_
      refine R_iconst (v := 1) dX0_readOne_201 (by decide) ?_
      refine R_isub dX0_readOne_202 ?_
      refine X_putS (k := 18) Bh1 dX0_readOne_203 q283 (by decide) rfl rfl rfl rfl ?_
      refine R_aload_n dX0_readOne_206 0 rfl ?_
      exact R_aret (v := (some t0)) dX0_readOne_207 rfl w
    · obtain ⟨ey, Bh1, w⟩ := w
      subst ey
      exact Thr.leave (by decide) w

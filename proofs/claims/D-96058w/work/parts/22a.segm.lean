/-! LAYER 2: segments of the model's methods (printed by gen22.py) -/
set_option maxRecDepth 100000
theorem sX5_act_0 {G : GG} {m : Nat} {sg : MS} {Q : Outcome → MS → Prop} {a1 a2 a3 : Int32} (w : MR G mX5_isBody 2 0 [(0, .ref m), (1, .int a1)] [] m (uS sg 41 0 0) (fun o sg1 => ∃ b2 : Bool, o = .returned (some (.int (bi b2))) ∧ ((b2 = false → (Q (.returned (some (.int 0))) sg1)) ∧ (b2 = true → (MR G mX5_in 1 0 [(0, .int a2), (1, .int 0), (2, .int 3)] [] m sg1 (fun o sg3 => ∃ b4 : Bool, o = .returned (some (.int (bi b4))) ∧ ((b4 = true → ((¬ a2 = 0 → ((¬ a2 = 1 → ((¬ a2 = 2 → (MR G mX5_telling 9 0 [(0, .ref m), (1, .int a1), (2, .int a3)] [] m sg3 (fun o sg5 => ∃ r6 : Int32, o = .returned (some (.int r6)) ∧ (Q (.returned (some (.int r6))) sg5)))) ∧ (a2 = 2 → (MR G mX5_knowing 5 0 [(0, .ref m), (1, .int a1), (2, .int a3)] [] m sg3 (fun o sg7 => ∃ r8 : Int32, o = .returned (some (.int r8)) ∧ (Q (.returned (some (.int r8))) sg7)))))) ∧ (a2 = 1 → (MR G mX5_holding 7 0 [(0, .ref m), (1, .int a1), (2, .int a3)] [] m sg3 (fun o sg10 => ∃ r11 : Int32, o = .returned (some (.int r11)) ∧ (Q (.returned (some (.int r11))) sg10)))))) ∧ (a2 = 0 → (MR G mX5_giving 4 0 [(0, .ref m), (1, .int a1), (2, .int a3)] [] m sg3 (fun o sg13 => ∃ r14 : Int32, o = .returned (some (.int r14)) ∧ (Q (.returned (some (.int r14))) sg13)))))) ∧ (b4 = false → (Q (.returned (some (.int 0))) sg3))))))))) : MR G mX5_act 10 0 [(0, .ref m), (1, .int a1), (2, .int a2), (3, .int a3)] [] m sg Q := by
  refine MR_aload_n dX5_act_0 0 rfl ?_
  refine MR_iconst (v := 0) dX5_act_1 (by decide) ?_
  refine MR_putS (k := 41) dX5_act_2 q1305 (by decide) rfl rfl rfl rfl rfl ?_
  refine MR_aload_n dX5_act_5 0 rfl ?_
  refine MR_iload_n dX5_act_6 1 rfl ?_
  refine MR_invVz (Mc := mX5_isBody) (As := [.int a1]) (st := []) dX5_act_7 q1717 q1719 qs87 q111 wX5_isBody pX5_isBody rfl (Nat.le_of_ble_eq_true rfl) (by decide) (by decide) (Nat.le_of_ble_eq_true rfl) w (fun b2 sg1 w => ?_)
  refine MR_ifz_eq (tgt := 22) dX5_act_10 (by decide) (fun c17 => ?_) (fun c17 => ?_)
  · have w := w.1 c17
    refine MR_iconst (v := 0) dX5_act_22 (by decide) ?_
    exact MR_iret dX5_act_23 rfl w
  · have w := w.2 c17
    refine MR_iload_n dX5_act_13 2 rfl ?_
    refine MR_iconst (v := 0) dX5_act_14 (by decide) ?_
    refine MR_iconst (v := 3) dX5_act_15 (by decide) ?_
    refine MR_invSz (Mc := mX5_in) (As := [.int a2, .int 0, .int 3]) (st := []) dX5_act_16 q1416 q1417 q111 wX5_in pX5_in rfl (Nat.le_of_ble_eq_true rfl) (by decide) (by decide) (Nat.le_of_ble_eq_true rfl) w (fun b4 sg3 w => ?_)
    refine MR_ifz_ne (tgt := 24) dX5_act_19 (by decide) (fun c16 => ?_) (fun c16 => ?_)
    · have w := w.1 c16
      refine MR_iload_n dX5_act_24 2 rfl ?_
      refine MR_if_ne (tgt := 37) dX5_act_25 (by decide) (fun c15 => ?_) (fun c15 => ?_)
      · have w := w.1 c15
        refine MR_iload_n dX5_act_37 2 rfl ?_
        refine MR_iconst (v := 1) dX5_act_38 (by decide) ?_
        refine MR_icmp_ne (tgt := 51) dX5_act_39 (by decide) (fun c12 => ?_) (fun c12 => ?_)
        · have w := w.1 c12
          refine MR_iload_n dX5_act_51 2 rfl ?_
          refine MR_iconst (v := 2) dX5_act_52 (by decide) ?_
          refine MR_icmp_ne (tgt := 65) dX5_act_53 (by decide) (fun c9 => ?_) (fun c9 => ?_)
          · have w := w.1 c9
            refine MR_aload_n dX5_act_65 0 rfl ?_
            refine MR_iload_n dX5_act_66 1 rfl ?_
            refine MR_iload_n dX5_act_67 3 rfl ?_
            refine MR_invVi (Mc := mX5_telling) (As := [.int a1, .int a3]) (st := []) dX5_act_68 q1764 q1766 qs98 q111 wX5_telling pX5_telling rfl (Nat.le_of_ble_eq_true rfl) (by decide) (by decide) (Nat.le_of_ble_eq_true rfl) w (fun r6 sg5 w => ?_)
            exact MR_iret dX5_act_71 rfl w
          · have w := w.2 c9
            refine MR_aload_n dX5_act_56 0 rfl ?_
            refine MR_iload_n dX5_act_57 1 rfl ?_
            refine MR_iload_n dX5_act_58 3 rfl ?_
            refine MR_invVi (Mc := mX5_knowing) (As := [.int a1, .int a3]) (st := []) dX5_act_59 q1752 q1754 qs95 q111 wX5_knowing pX5_knowing rfl (Nat.le_of_ble_eq_true rfl) (by decide) (by decide) (Nat.le_of_ble_eq_true rfl) w (fun r8 sg7 w => ?_)
            refine MR_goto (tgt := 71) dX5_act_62 (by decide) ?_
            exact MR_iret dX5_act_71 rfl w
        · have w := w.2 c12
          refine MR_aload_n dX5_act_42 0 rfl ?_
          refine MR_iload_n dX5_act_43 1 rfl ?_
          refine MR_iload_n dX5_act_44 3 rfl ?_
          refine MR_invVi (Mc := mX5_holding) (As := [.int a1, .int a3]) (st := []) dX5_act_45 q1740 q1742 qs92 q111 wX5_holding pX5_holding rfl (Nat.le_of_ble_eq_true rfl) (by decide) (by decide) (Nat.le_of_ble_eq_true rfl) w (fun r11 sg10 w => ?_)
          refine MR_goto (tgt := 71) dX5_act_48 (by decide) ?_
          exact MR_iret dX5_act_71 rfl w
      · have w := w.2 c15
        refine MR_aload_n dX5_act_28 0 rfl ?_
        refine MR_iload_n dX5_act_29 1 rfl ?_
        refine MR_iload_n dX5_act_30 3 rfl ?_
        refine MR_invVi (Mc := mX5_giving) (As := [.int a1, .int a3]) (st := []) dX5_act_31 q1721 q1723 qs88 q111 wX5_giving pX5_giving rfl (Nat.le_of_ble_eq_true rfl) (by decide) (by decide) (Nat.le_of_ble_eq_true rfl) w (fun r14 sg13 w => ?_)
        refine MR_goto (tgt := 71) dX5_act_34 (by decide) ?_
        exact MR_iret dX5_act_71 rfl w
    · have w := w.2 c16
      refine MR_iconst (v := 0) dX5_act_22 (by decide) ?_
      exact MR_iret dX5_act_23 rfl w
theorem sX5_addPerson_0 {G : GG} {m : Nat} {sg : MS} {Q : Outcome → MS → Prop} {a1 a2 a3 : Int32} (w : vp_in (sg.1 1 0) 12 ∧ (vp_in ((uS sg 2 (sg.1 1 0).toNatClampNeg a1).1 1 0) 12 ∧ (vp_in ((uS (uS sg 2 (sg.1 1 0).toNatClampNeg a1) 3 ((uS sg 2 (sg.1 1 0).toNatClampNeg a1).1 1 0).toNatClampNeg a2).1 1 0) 12 ∧ (Q (.returned (some (.int (((uS (uS (uS (uS sg 2 (sg.1 1 0).toNatClampNeg a1) 3 ((uS sg 2 (sg.1 1 0).toNatClampNeg a1).1 1 0).toNatClampNeg a2) 4 ((uS (uS sg 2 (sg.1 1 0).toNatClampNeg a1) 3 ((uS sg 2 (sg.1 1 0).toNatClampNeg a1).1 1 0).toNatClampNeg a2).1 1 0).toNatClampNeg a3) 1 0 (((uS (uS (uS sg 2 (sg.1 1 0).toNatClampNeg a1) 3 ((uS sg 2 (sg.1 1 0).toNatClampNeg a1).1 1 0).toNatClampNeg a2) 4 ((uS (uS sg 2 (sg.1 1 0).toNatClampNeg a1) 3 ((uS sg 2 (sg.1 1 0).toNatClampNeg a1).1 1 0).toNatClampNeg a2).1 1 0).toNatClampNeg a3).1 1 0) + 1)).1 1 0) - 1)))) (uS (uS (uS (uS sg 2 (sg.1 1 0).toNatClampNeg a1) 3 ((uS sg 2 (sg.1 1 0).toNatClampNeg a1).1 1 0).toNatClampNeg a2) 4 ((uS (uS sg 2 (sg.1 1 0).toNatClampNeg a1) 3 ((uS sg 2 (sg.1 1 0).toNatClampNeg a1).1 1 0).toNatClampNeg a2).1 1 0).toNatClampNeg a3) 1 0 (((uS (uS (uS sg 2 (sg.1 1 0).toNatClampNeg a1) 3 ((uS sg 2 (sg.1 1 0).toNatClampNeg a1).1 1 0).toNatClampNeg a2) 4 ((uS (uS sg 2 (sg.1 1 0).toNatClampNeg a1) 3 ((uS sg 2 (sg.1 1 0).toNatClampNeg a1).1 1 0).toNatClampNeg a2).1 1 0).toNatClampNeg a3).1 1 0) + 1)))))) : MR G mX5_addPerson 1 0 [(0, .ref m), (1, .int a1), (2, .int a2), (3, .int a3)] [] m sg Q := by
  refine MR_aload_n dX5_addPerson_0 0 rfl ?_
  refine MR_getA (k := 2) (o := 1) (j := 0) (n := 12) dX5_addPerson_1 q1266 (by decide) rfl rfl ?_
  refine MR_aload_n dX5_addPerson_4 0 rfl ?_
  refine MR_getS (k := 1) dX5_addPerson_5 q1265 (by decide) rfl rfl ?_
  refine MR_iload_n dX5_addPerson_8 1 rfl ?_
  obtain ⟨c3, w⟩ := w
  refine MR_iast (k := 2) dX5_addPerson_9 (by decide) rfl c3 ?_
  refine MR_aload_n dX5_addPerson_10 0 rfl ?_
  refine MR_getA (k := 3) (o := 2) (j := 0) (n := 12) dX5_addPerson_11 q1267 (by decide) rfl rfl ?_
  refine MR_aload_n dX5_addPerson_14 0 rfl ?_
  refine MR_getS (k := 1) dX5_addPerson_15 q1265 (by decide) rfl rfl ?_
  refine MR_iload_n dX5_addPerson_18 2 rfl ?_
  obtain ⟨c2, w⟩ := w
  refine MR_iast (k := 3) dX5_addPerson_19 (by decide) rfl c2 ?_
  refine MR_aload_n dX5_addPerson_20 0 rfl ?_
  refine MR_getA (k := 4) (o := 3) (j := 0) (n := 12) dX5_addPerson_21 q1268 (by decide) rfl rfl ?_
  refine MR_aload_n dX5_addPerson_24 0 rfl ?_
  refine MR_getS (k := 1) dX5_addPerson_25 q1265 (by decide) rfl rfl ?_
  refine MR_iload_n dX5_addPerson_28 3 rfl ?_
  obtain ⟨c1, w⟩ := w
  refine MR_iast (k := 4) dX5_addPerson_29 (by decide) rfl c1 ?_
  refine MR_aload_n dX5_addPerson_30 0 rfl ?_
  refine MR_dup dX5_addPerson_31 rfl ?_
  refine MR_getS (k := 1) dX5_addPerson_32 q1265 (by decide) rfl rfl ?_
  refine MR_iconst (v := 1) dX5_addPerson_35 (by decide) ?_
  refine MR_iadd dX5_addPerson_36 ?_
  refine MR_putS (k := 1) dX5_addPerson_37 q1265 (by decide) rfl rfl rfl rfl rfl ?_
  refine MR_aload_n dX5_addPerson_40 0 rfl ?_
  refine MR_getS (k := 1) dX5_addPerson_41 q1265 (by decide) rfl rfl ?_
  refine MR_iconst (v := 1) dX5_addPerson_44 (by decide) ?_
  refine MR_isub dX5_addPerson_45 ?_
  exact MR_iret dX5_addPerson_46 rfl w
theorem sX5_addStep_0 {G : GG} {m : Nat} {sg : MS} {Q : Outcome → MS → Prop} {a1 a2 : Int32} (w : vp_in (130 + (sg.1 23 0)) 260 ∧ (vp_in (130 + ((uS sg 24 (130 + (sg.1 23 0)).toNatClampNeg a1.toInt8.toInt32).1 23 0)) 260 ∧ (Q (.returned none) (uS (uS (uS sg 24 (130 + (sg.1 23 0)).toNatClampNeg a1.toInt8.toInt32) 25 (130 + ((uS sg 24 (130 + (sg.1 23 0)).toNatClampNeg a1.toInt8.toInt32).1 23 0)).toNatClampNeg a2) 23 0 (((uS (uS sg 24 (130 + (sg.1 23 0)).toNatClampNeg a1.toInt8.toInt32) 25 (130 + ((uS sg 24 (130 + (sg.1 23 0)).toNatClampNeg a1.toInt8.toInt32).1 23 0)).toNatClampNeg a2).1 23 0) + 1))))) : MR G mX5_addStep 1 0 [(0, .ref m), (1, .int a1), (2, .int a2)] [] m sg Q := by
  refine MR_aload_n dX5_addStep_0 0 rfl ?_
  refine MR_getA (k := 24) (o := 14) (j := 2) (n := 260) dX5_addStep_1 q1288 (by decide) rfl rfl ?_
  refine MR_sipush (v := 130) dX5_addStep_4 (by decide) ?_
  refine MR_aload_n dX5_addStep_7 0 rfl ?_
  refine MR_getS (k := 23) dX5_addStep_8 q1287 (by decide) rfl rfl ?_
  refine MR_iadd dX5_addStep_11 ?_
  refine MR_iload_n dX5_addStep_12 1 rfl ?_
  refine MR_i2b dX5_addStep_13 ?_
  obtain ⟨c2, w⟩ := w
  refine MR_bast (k := 24) dX5_addStep_14 (by decide) rfl c2 (pk_vb _) ?_
  refine MR_aload_n dX5_addStep_15 0 rfl ?_
  refine MR_getA (k := 25) (o := 15) (j := 0) (n := 260) dX5_addStep_16 q1289 (by decide) rfl rfl ?_
  refine MR_sipush (v := 130) dX5_addStep_19 (by decide) ?_
  refine MR_aload_n dX5_addStep_22 0 rfl ?_
  refine MR_getS (k := 23) dX5_addStep_23 q1287 (by decide) rfl rfl ?_
  refine MR_iadd dX5_addStep_26 ?_
  refine MR_iload_n dX5_addStep_27 2 rfl ?_
  obtain ⟨c1, w⟩ := w
  refine MR_iast (k := 25) dX5_addStep_28 (by decide) rfl c1 ?_
  refine MR_aload_n dX5_addStep_29 0 rfl ?_
  refine MR_dup dX5_addStep_30 rfl ?_
  refine MR_getS (k := 23) dX5_addStep_31 q1287 (by decide) rfl rfl ?_
  refine MR_iconst (v := 1) dX5_addStep_34 (by decide) ?_
  refine MR_iadd dX5_addStep_35 ?_
  refine MR_putS (k := 23) dX5_addStep_36 q1287 (by decide) rfl rfl rfl rfl rfl ?_
  exact MR_vret dX5_addStep_39 rfl w
theorem sX5_aheadOf_0 {G : GG} {m : Nat} {sg : MS} {Q : Outcome → MS → Prop} {a1 : Int32} (w : MR G mX5_aheadOf 2 4 [(0, .ref m), (1, .int a1), (2, .int 0), (3, .int 0)] [] m sg Q) : MR G mX5_aheadOf 2 0 [(0, .ref m), (1, .int a1)] [] m sg Q := by
  refine MR_iconst (v := 0) dX5_aheadOf_0 (by decide) ?_
  refine MR_istore_n (lv' := [(2, .int 0), (0, .ref m), (1, .int a1)]) dX5_aheadOf_1 rfl (by decide) rfl ?_
  refine MR_iconst (v := 0) dX5_aheadOf_2 (by decide) ?_
  refine MR_istore_n (lv' := [(3, .int 0), (2, .int 0), (0, .ref m), (1, .int a1)]) dX5_aheadOf_3 rfl (by decide) rfl ?_
  exact MR_sub [2, 3, 1, 0] rfl w
theorem sX5_aheadOf_4 {G : GG} {m : Nat} {sg : MS} {Q : Outcome → MS → Prop} {a1 a2 a3 : Int32} (w : ((sg.1 1 0) ≤ a3 → (Q (.returned (some (.int a2))) sg)) ∧ (¬ (sg.1 1 0) ≤ a3 → (MR G mX5_isAhead 1 0 [(0, .ref m), (1, .int a3), (2, .int a1)] [] m sg (fun o sg1 => ∃ b2 : Bool, o = .returned (some (.int (bi b2))) ∧ ((b2 = false → (MR G mX5_aheadOf 2 4 [(0, .ref m), (1, .int a1), (2, .int a2), (3, .int (a3 + 1))] [] m sg1 Q)) ∧ (b2 = true → (MR G mX5_aheadOf 2 4 [(0, .ref m), (1, .int a1), (2, .int (a2 ||| ((1 : Int32) <<< (a3 &&& 31)))), (3, .int (a3 + 1))] [] m sg1 Q))))))) : MR G mX5_aheadOf 2 4 [(0, .ref m), (1, .int a1), (2, .int a2), (3, .int a3)] [] m sg Q := by
  refine MR_iload_n dX5_aheadOf_4 3 rfl ?_
  refine MR_aload_n dX5_aheadOf_5 0 rfl ?_
  refine MR_getS (k := 1) dX5_aheadOf_6 q1265 (by decide) rfl rfl ?_
  refine MR_icmp_ge (tgt := 33) dX5_aheadOf_9 (by decide) (fun c4 => ?_) (fun c4 => ?_)
  · have w := w.1 c4
    refine MR_iload_n dX5_aheadOf_33 2 rfl ?_
    exact MR_iret dX5_aheadOf_34 rfl w
  · have w := w.2 c4
    refine MR_aload_n dX5_aheadOf_12 0 rfl ?_
    refine MR_iload_n dX5_aheadOf_13 3 rfl ?_
    refine MR_iload_n dX5_aheadOf_14 1 rfl ?_
    refine MR_invVz (Mc := mX5_isAhead) (As := [.int a3, .int a1]) (st := []) dX5_aheadOf_15 q1491 q1493 qs52 q111 wX5_isAhead pX5_isAhead rfl (Nat.le_of_ble_eq_true rfl) (by decide) (by decide) (Nat.le_of_ble_eq_true rfl) w (fun b2 sg1 w => ?_)
    refine MR_ifz_eq (tgt := 27) dX5_aheadOf_18 (by decide) (fun c3 => ?_) (fun c3 => ?_)
    · have w := w.1 c3
      refine MR_iinc (v := (a3 + 1)) (lv' := [(3, .int (a3 + 1)), (0, .ref m), (1, .int a1), (2, .int a2)]) dX5_aheadOf_27 3 rfl (congrArg (fun z => a3 + z) (show Int32.ofInt 1 = 1 by decide)) (by decide) rfl ?_
      refine MR_goto (tgt := 4) dX5_aheadOf_30 (by decide) ?_
      exact MR_sub [1, 2, 3, 0] rfl w
    · have w := w.2 c3
      refine MR_iload_n dX5_aheadOf_21 2 rfl ?_
      refine MR_iconst (v := 1) dX5_aheadOf_22 (by decide) ?_
      refine MR_iload_n dX5_aheadOf_23 3 rfl ?_
      refine MR_ishl dX5_aheadOf_24 ?_
      refine MR_ior dX5_aheadOf_25 ?_
      refine MR_istore_n (lv' := [(2, .int (a2 ||| ((1 : Int32) <<< (a3 &&& 31)))), (0, .ref m), (1, .int a1), (3, .int a3)]) dX5_aheadOf_26 rfl (by decide) rfl ?_
      refine MR_iinc (v := (a3 + 1)) (lv' := [(3, .int (a3 + 1)), (2, .int (a2 ||| ((1 : Int32) <<< (a3 &&& 31)))), (0, .ref m), (1, .int a1)]) dX5_aheadOf_27 3 rfl (congrArg (fun z => a3 + z) (show Int32.ofInt 1 = 1 by decide)) (by decide) rfl ?_
      refine MR_goto (tgt := 4) dX5_aheadOf_30 (by decide) ?_
      exact MR_sub [2, 3, 1, 0] rfl w
theorem sX5_apart_0 {G : GG} {m : Nat} {sg : MS} {Q : Outcome → MS → Prop} {a1 a2 : Int32} (w : MR G mX5_isName 2 0 [(0, .int a1)] [] m sg (fun o sg1 => ∃ b2 : Bool, o = .returned (some (.int (bi b2))) ∧ ((b2 = false → (Q (.returned (some (.int (-1)))) sg1)) ∧ (b2 = true → (MR G mX5_isYear 2 0 [(0, .int a2)] [] m sg1 (fun o sg3 => ∃ b4 : Bool, o = .returned (some (.int (bi b4))) ∧ ((b4 = true → (MR G mX5_asNamed 1 0 [(0, .ref m)] [] m sg3 (fun o sg5 => o = .returned none ∧ (MR G mX5_apart 9 25 [(0, .ref m), (1, .int a1), (2, .int a2), (3, .int 0), (4, .int 0)] [] m sg5 Q)))) ∧ (b4 = false → (Q (.returned (some (.int (-1)))) sg3))))))))) : MR G mX5_apart 9 0 [(0, .ref m), (1, .int a1), (2, .int a2)] [] m sg Q := by
  refine MR_iload_n dX5_apart_0 1 rfl ?_
  refine MR_invSz (Mc := mX5_isName) (As := [.int a1]) (st := []) dX5_apart_1 q1456 q1457 q111 wX5_isName pX5_isName rfl (Nat.le_of_ble_eq_true rfl) (by decide) (by decide) (Nat.le_of_ble_eq_true rfl) w (fun b2 sg1 w => ?_)
  refine MR_ifz_eq (tgt := 14) dX5_apart_4 (by decide) (fun c7 => ?_) (fun c7 => ?_)
  · have w := w.1 c7
    refine MR_iconst (v := (-1)) dX5_apart_14 (by decide) ?_
    exact MR_iret dX5_apart_15 rfl w
  · have w := w.2 c7
    refine MR_iload_n dX5_apart_7 2 rfl ?_
    refine MR_invSz (Mc := mX5_isYear) (As := [.int a2]) (st := []) dX5_apart_8 q1413 q1414 q111 wX5_isYear pX5_isYear rfl (Nat.le_of_ble_eq_true rfl) (by decide) (by decide) (Nat.le_of_ble_eq_true rfl) w (fun b4 sg3 w => ?_)
    refine MR_ifz_ne (tgt := 16) dX5_apart_11 (by decide) (fun c6 => ?_) (fun c6 => ?_)
    · have w := w.1 c6
      refine MR_aload_n dX5_apart_16 0 rfl ?_
      refine MR_invVv (Mc := mX5_asNamed) (As := []) (st := []) dX5_apart_17 q1578 q1580 qs69 q111 wX5_asNamed pX5_asNamed rfl (Nat.le_of_ble_eq_true rfl) (by decide) (by decide) (Nat.le_of_ble_eq_true rfl) w (fun sg5 w => ?_)
      refine MR_iconst (v := 0) dX5_apart_20 (by decide) ?_
      refine MR_istore_n (lv' := [(3, .int 0), (0, .ref m), (1, .int a1), (2, .int a2)]) dX5_apart_21 rfl (by decide) rfl ?_
      refine MR_iconst (v := 0) dX5_apart_22 (by decide) ?_
      refine MR_istore (lv' := [(4, .int 0), (3, .int 0), (0, .ref m), (1, .int a1), (2, .int a2)]) dX5_apart_23 (by decide) rfl ?_
      exact MR_sub [2, 3, 4, 1, 0] rfl w
    · have w := w.2 c6
      refine MR_iconst (v := (-1)) dX5_apart_14 (by decide) ?_
      exact MR_iret dX5_apart_15 rfl w
theorem sX5_apart_25 {G : GG} {m : Nat} {sg : MS} {Q : Outcome → MS → Prop} {a1 a2 a3 a4 : Int32} (w : ((sg.1 5 0) ≤ a4 → (MR G mX5_isFreeWithout 8 0 [(0, .ref m), (1, .int a1), (2, .int a2), (3, .int a3)] [] m sg (fun o sg1 => ∃ b2 : Bool, o = .returned (some (.int (bi b2))) ∧ ((b2 = true → (MR G mX5_apart 9 83 [(0, .ref m), (1, .int a1), (2, .int a2), (3, .int a3), (4, .int 0)] [] m sg1 Q)) ∧ (b2 = false → (Q (.returned (some (.int (-2)))) sg1)))))) ∧ (¬ (sg.1 5 0) ≤ a4 → (MR G mX5_counts 2 0 [(0, .ref m), (1, .int a4)] [] m sg (fun o sg4 => ∃ b5 : Bool, o = .returned (some (.int (bi b5))) ∧ ((b5 = false → (MR G mX5_apart 9 25 [(0, .ref m), (1, .int a1), (2, .int a2), (3, .int a3), (4, .int (a4 + 1))] [] m sg4 Q)) ∧ (b5 = true → (vp_in a4 16 ∧ ((a2 < (sg4.1 8 a4.toNatClampNeg) → (MR G mX5_apart 9 25 [(0, .ref m), (1, .int a1), (2, .int a2), (3, .int a3), (4, .int (a4 + 1))] [] m sg4 Q)) ∧ (¬ a2 < (sg4.1 8 a4.toNatClampNeg) → (MR G mX5_apart 9 25 [(0, .ref m), (1, .int a1), (2, .int a2), (3, .int (a3 ||| ((1 : Int32) <<< (a4 &&& 31)))), (4, .int (a4 + 1))] [] m sg4 Q)))))))))) : MR G mX5_apart 9 25 [(0, .ref m), (1, .int a1), (2, .int a2), (3, .int a3), (4, .int a4)] [] m sg Q := by
  refine MR_iload dX5_apart_25 4 rfl ?_
  refine MR_aload_n dX5_apart_27 0 rfl ?_
  refine MR_getS (k := 5) dX5_apart_28 q1269 (by decide) rfl rfl ?_
  refine MR_icmp_ge (tgt := 67) dX5_apart_31 (by decide) (fun c9 => ?_) (fun c9 => ?_)
  · have w := w.1 c9
    refine MR_aload_n dX5_apart_67 0 rfl ?_
    refine MR_iload_n dX5_apart_68 1 rfl ?_
    refine MR_iload_n dX5_apart_69 2 rfl ?_
    refine MR_iload_n dX5_apart_70 3 rfl ?_
    refine MR_invVz (Mc := mX5_isFreeWithout) (As := [.int a1, .int a2, .int a3]) (st := []) dX5_apart_71 q1680 q1682 qs86 q111 wX5_isFreeWithout pX5_isFreeWithout rfl (Nat.le_of_ble_eq_true rfl) (by decide) (by decide) (Nat.le_of_ble_eq_true rfl) w (fun b2 sg1 w => ?_)
    refine MR_ifz_ne (tgt := 80) dX5_apart_74 (by decide) (fun c3 => ?_) (fun c3 => ?_)
    · have w := w.1 c3
      refine MR_iconst (v := 0) dX5_apart_80 (by decide) ?_
      refine MR_istore (lv' := [(4, .int 0), (0, .ref m), (1, .int a1), (2, .int a2), (3, .int a3)]) dX5_apart_81 (by decide) rfl ?_
      exact MR_sub [1, 2, 3, 4, 0] rfl w
    · have w := w.2 c3
      refine MR_bipush (v := (-2)) dX5_apart_77 (by decide) ?_
      exact MR_iret dX5_apart_79 rfl w
  · have w := w.2 c9
    refine MR_aload_n dX5_apart_34 0 rfl ?_
    refine MR_iload dX5_apart_35 4 rfl ?_
    refine MR_invVz (Mc := mX5_counts) (As := [.int a4]) (st := []) dX5_apart_37 q1499 q1501 qs54 q111 wX5_counts pX5_counts rfl (Nat.le_of_ble_eq_true rfl) (by decide) (by decide) (Nat.le_of_ble_eq_true rfl) w (fun b5 sg4 w => ?_)
    refine MR_ifz_eq (tgt := 61) dX5_apart_40 (by decide) (fun c8 => ?_) (fun c8 => ?_)
    · have w := w.1 c8
      refine MR_iinc (v := (a4 + 1)) (lv' := [(4, .int (a4 + 1)), (0, .ref m), (1, .int a1), (2, .int a2), (3, .int a3)]) dX5_apart_61 4 rfl (congrArg (fun z => a4 + z) (show Int32.ofInt 1 = 1 by decide)) (by decide) rfl ?_
      refine MR_goto (tgt := 25) dX5_apart_64 (by decide) ?_
      exact MR_sub [1, 2, 3, 4, 0] rfl w
    · have w := w.2 c8
      refine MR_aload_n dX5_apart_43 0 rfl ?_
      refine MR_getA (k := 8) (o := 6) (j := 0) (n := 16) dX5_apart_44 q1272 (by decide) rfl rfl ?_
      refine MR_iload dX5_apart_47 4 rfl ?_
      obtain ⟨c7, w⟩ := w
      refine MR_iald (k := 8) dX5_apart_49 (by decide) rfl c7 ?_
      refine MR_iload_n dX5_apart_50 2 rfl ?_
      refine MR_icmp_gt (tgt := 61) dX5_apart_51 (by decide) (fun c6 => ?_) (fun c6 => ?_)
      · have w := w.1 c6
        refine MR_iinc (v := (a4 + 1)) (lv' := [(4, .int (a4 + 1)), (0, .ref m), (1, .int a1), (2, .int a2), (3, .int a3)]) dX5_apart_61 4 rfl (congrArg (fun z => a4 + z) (show Int32.ofInt 1 = 1 by decide)) (by decide) rfl ?_
        refine MR_goto (tgt := 25) dX5_apart_64 (by decide) ?_
        exact MR_sub [1, 2, 3, 4, 0] rfl w
      · have w := w.2 c6
        refine MR_iload_n dX5_apart_54 3 rfl ?_
        refine MR_iconst (v := 1) dX5_apart_55 (by decide) ?_
        refine MR_iload dX5_apart_56 4 rfl ?_
        refine MR_ishl dX5_apart_58 ?_
        refine MR_ior dX5_apart_59 ?_
        refine MR_istore_n (lv' := [(3, .int (a3 ||| ((1 : Int32) <<< (a4 &&& 31)))), (0, .ref m), (1, .int a1), (2, .int a2), (4, .int a4)]) dX5_apart_60 rfl (by decide) rfl ?_
        refine MR_iinc (v := (a4 + 1)) (lv' := [(4, .int (a4 + 1)), (3, .int (a3 ||| ((1 : Int32) <<< (a4 &&& 31)))), (0, .ref m), (1, .int a1), (2, .int a2)]) dX5_apart_61 4 rfl (congrArg (fun z => a4 + z) (show Int32.ofInt 1 = 1 by decide)) (by decide) rfl ?_
        refine MR_goto (tgt := 25) dX5_apart_64 (by decide) ?_
        exact MR_sub [2, 3, 4, 1, 0] rfl w
theorem sX5_apart_83 {G : GG} {m : Nat} {sg : MS} {Q : Outcome → MS → Prop} {a1 a2 a3 a4 : Int32} (w : ((sg.1 5 0) < a4 → (Q (.returned (some (.int (-2)))) sg)) ∧ (¬ (sg.1 5 0) < a4 → (MR G mX5_apart 9 95 [(0, .ref m), (1, .int a1), (2, .int a2), (3, .int a3), (4, .int a4), (5, .int 0)] [] m sg Q))) : MR G mX5_apart 9 83 [(0, .ref m), (1, .int a1), (2, .int a2), (3, .int a3), (4, .int a4)] [] m sg Q := by
  refine MR_iload dX5_apart_83 4 rfl ?_
  refine MR_aload_n dX5_apart_85 0 rfl ?_
  refine MR_getS (k := 5) dX5_apart_86 q1269 (by decide) rfl rfl ?_
  refine MR_icmp_gt (tgt := 146) dX5_apart_89 (by decide) (fun c1 => ?_) (fun c1 => ?_)
  · have w := w.1 c1
    refine MR_bipush (v := (-2)) dX5_apart_146 (by decide) ?_
    exact MR_iret dX5_apart_148 rfl w
  · have w := w.2 c1
    refine MR_iconst (v := 0) dX5_apart_92 (by decide) ?_
    refine MR_istore (lv' := [(5, .int 0), (0, .ref m), (1, .int a1), (2, .int a2), (3, .int a3), (4, .int a4)]) dX5_apart_93 (by decide) rfl ?_
    exact MR_sub [1, 2, 3, 4, 5, 0] rfl w
theorem sX5_apart_95 {G : GG} {m : Nat} {sg : MS} {Q : Outcome → MS → Prop} {a1 a2 a3 a4 a5 : Int32} (w : (a3 < a5 → (MR G mX5_apart 9 83 [(0, .ref m), (1, .int a1), (2, .int a2), (3, .int a3), (4, .int (a4 + 1))] [] m sg Q)) ∧ (¬ a3 < a5 → ((¬ (a5 &&& (a3 ^^^ (-1))) = 0 → (MR G mX5_apart 9 95 [(0, .ref m), (1, .int a1), (2, .int a2), (3, .int a3), (4, .int a4), (5, .int (a5 + 1))] [] m sg Q)) ∧ ((a5 &&& (a3 ^^^ (-1))) = 0 → (MR G mX5_bitsOf 1 0 [(0, .int a5)] [] m sg (fun o sg1 => ∃ r2 : Int32, o = .returned (some (.int r2)) ∧ ((¬ r2 = a4 → (MR G mX5_apart 9 95 [(0, .ref m), (1, .int a1), (2, .int a2), (3, .int a3), (4, .int a4), (5, .int (a5 + 1))] [] m sg1 Q)) ∧ (r2 = a4 → (MR G mX5_isFreeWithout 8 0 [(0, .ref m), (1, .int a1), (2, .int a2), (3, .int a5)] [] m sg1 (fun o sg3 => ∃ b4 : Bool, o = .returned (some (.int (bi b4))) ∧ ((b4 = false → (MR G mX5_apart 9 95 [(0, .ref m), (1, .int a1), (2, .int a2), (3, .int a3), (4, .int a4), (5, .int (a5 + 1))] [] m sg3 Q)) ∧ (b4 = true → (Q (.returned (some (.int a5))) sg3))))))))))))) : MR G mX5_apart 9 95 [(0, .ref m), (1, .int a1), (2, .int a2), (3, .int a3), (4, .int a4), (5, .int a5)] [] m sg Q := by
  refine MR_iload dX5_apart_95 5 rfl ?_
  refine MR_iload_n dX5_apart_97 3 rfl ?_
  refine MR_icmp_gt (tgt := 140) dX5_apart_98 (by decide) (fun c8 => ?_) (fun c8 => ?_)
  · have w := w.1 c8
    refine MR_iinc (v := (a4 + 1)) (lv' := [(4, .int (a4 + 1)), (0, .ref m), (1, .int a1), (2, .int a2), (3, .int a3), (5, .int a5)]) dX5_apart_140 4 rfl (congrArg (fun z => a4 + z) (show Int32.ofInt 1 = 1 by decide)) (by decide) rfl ?_
    refine MR_goto (tgt := 83) dX5_apart_143 (by decide) ?_
    exact MR_sub [1, 2, 3, 4, 0] rfl w
  · have w := w.2 c8
    refine MR_iload dX5_apart_101 5 rfl ?_
    refine MR_iload_n dX5_apart_103 3 rfl ?_
    refine MR_iconst (v := (-1)) dX5_apart_104 (by decide) ?_
    refine MR_ixor dX5_apart_105 ?_
    refine MR_iand dX5_apart_106 ?_
    refine MR_if_ne (tgt := 134) dX5_apart_107 (by decide) (fun c7 => ?_) (fun c7 => ?_)
    · have w := w.1 c7
      refine MR_iinc (v := (a5 + 1)) (lv' := [(5, .int (a5 + 1)), (0, .ref m), (1, .int a1), (2, .int a2), (3, .int a3), (4, .int a4)]) dX5_apart_134 5 rfl (congrArg (fun z => a5 + z) (show Int32.ofInt 1 = 1 by decide)) (by decide) rfl ?_
      refine MR_goto (tgt := 95) dX5_apart_137 (by decide) ?_
      exact MR_sub [1, 2, 3, 4, 5, 0] rfl w
    · have w := w.2 c7
      refine MR_iload dX5_apart_110 5 rfl ?_
      refine MR_invSi (Mc := mX5_bitsOf) (As := [.int a5]) (st := []) dX5_apart_112 q1633 q1634 q111 wX5_bitsOf pX5_bitsOf rfl (Nat.le_of_ble_eq_true rfl) (by decide) (by decide) (Nat.le_of_ble_eq_true rfl) w (fun r2 sg1 w => ?_)
      refine MR_iload dX5_apart_115 4 rfl ?_
      refine MR_icmp_ne (tgt := 134) dX5_apart_117 (by decide) (fun c6 => ?_) (fun c6 => ?_)
      · have w := w.1 c6
        refine MR_iinc (v := (a5 + 1)) (lv' := [(5, .int (a5 + 1)), (0, .ref m), (1, .int a1), (2, .int a2), (3, .int a3), (4, .int a4)]) dX5_apart_134 5 rfl (congrArg (fun z => a5 + z) (show Int32.ofInt 1 = 1 by decide)) (by decide) rfl ?_
        refine MR_goto (tgt := 95) dX5_apart_137 (by decide) ?_
        exact MR_sub [1, 2, 3, 4, 5, 0] rfl w
      · have w := w.2 c6
        refine MR_aload_n dX5_apart_120 0 rfl ?_
        refine MR_iload_n dX5_apart_121 1 rfl ?_
        refine MR_iload_n dX5_apart_122 2 rfl ?_
        refine MR_iload dX5_apart_123 5 rfl ?_
        refine MR_invVz (Mc := mX5_isFreeWithout) (As := [.int a1, .int a2, .int a5]) (st := []) dX5_apart_125 q1680 q1682 qs86 q111 wX5_isFreeWithout pX5_isFreeWithout rfl (Nat.le_of_ble_eq_true rfl) (by decide) (by decide) (Nat.le_of_ble_eq_true rfl) w (fun b4 sg3 w => ?_)
        refine MR_ifz_eq (tgt := 134) dX5_apart_128 (by decide) (fun c5 => ?_) (fun c5 => ?_)
        · have w := w.1 c5
          refine MR_iinc (v := (a5 + 1)) (lv' := [(5, .int (a5 + 1)), (0, .ref m), (1, .int a1), (2, .int a2), (3, .int a3), (4, .int a4)]) dX5_apart_134 5 rfl (congrArg (fun z => a5 + z) (show Int32.ofInt 1 = 1 by decide)) (by decide) rfl ?_
          refine MR_goto (tgt := 95) dX5_apart_137 (by decide) ?_
          exact MR_sub [1, 2, 3, 4, 5, 0] rfl w
        · have w := w.2 c5
          refine MR_iload dX5_apart_131 5 rfl ?_
          exact MR_iret dX5_apart_133 rfl w
theorem sX5_asNamed_0 {G : GG} {m : Nat} {sg : MS} {Q : Outcome → MS → Prop} (w : MR G mX5_asNamed 1 2 [(0, .ref m), (1, .int 0)] [] m sg Q) : MR G mX5_asNamed 1 0 [(0, .ref m)] [] m sg Q := by
  refine MR_iconst (v := 0) dX5_asNamed_0 (by decide) ?_
  refine MR_istore_n (lv' := [(1, .int 0), (0, .ref m)]) dX5_asNamed_1 rfl (by decide) rfl ?_
  exact MR_sub [1, 0] rfl w
theorem sX5_asNamed_2 {G : GG} {m : Nat} {sg : MS} {Q : Outcome → MS → Prop} {a1 : Int32} (w : (12 ≤ a1 → (Q (.returned none) sg)) ∧ (¬ 12 ≤ a1 → (((sg.1 1 0) ≤ a1 → (vp_in a1 12 ∧ (MR G mX5_asNamed 1 2 [(0, .ref m), (1, .int (a1 + 1))] [] m (uS sg 34 a1.toNatClampNeg (-1)) Q))) ∧ (¬ (sg.1 1 0) ≤ a1 → (vp_in a1 12 ∧ (vp_in a1 12 ∧ (MR G mX5_asNamed 1 2 [(0, .ref m), (1, .int (a1 + 1))] [] m (uS sg 34 a1.toNatClampNeg (sg.1 4 a1.toNatClampNeg)) Q))))))) : MR G mX5_asNamed 1 2 [(0, .ref m), (1, .int a1)] [] m sg Q := by
  refine MR_iload_n dX5_asNamed_2 1 rfl ?_
  refine MR_bipush (v := 12) dX5_asNamed_3 (by decide) ?_
  refine MR_icmp_ge (tgt := 38) dX5_asNamed_5 (by decide) (fun c5 => ?_) (fun c5 => ?_)
  · have w := w.1 c5
    exact MR_vret dX5_asNamed_38 rfl w
  · have w := w.2 c5
    refine MR_aload_n dX5_asNamed_8 0 rfl ?_
    refine MR_getA (k := 34) (o := 23) (j := 0) (n := 12) dX5_asNamed_9 q1298 (by decide) rfl rfl ?_
    refine MR_iload_n dX5_asNamed_12 1 rfl ?_
    refine MR_iload_n dX5_asNamed_13 1 rfl ?_
    refine MR_aload_n dX5_asNamed_14 0 rfl ?_
    refine MR_getS (k := 1) dX5_asNamed_15 q1265 (by decide) rfl rfl ?_
    refine MR_icmp_ge (tgt := 30) dX5_asNamed_18 (by decide) (fun c4 => ?_) (fun c4 => ?_)
    · have w := w.1 c4
      refine MR_iconst (v := (-1)) dX5_asNamed_30 (by decide) ?_
      obtain ⟨c1, w⟩ := w
      refine MR_iast (k := 34) dX5_asNamed_31 (by decide) rfl c1 ?_
      refine MR_iinc (v := (a1 + 1)) (lv' := [(1, .int (a1 + 1)), (0, .ref m)]) dX5_asNamed_32 1 rfl (congrArg (fun z => a1 + z) (show Int32.ofInt 1 = 1 by decide)) (by decide) rfl ?_
      refine MR_goto (tgt := 2) dX5_asNamed_35 (by decide) ?_
      exact MR_sub [1, 0] rfl w
    · have w := w.2 c4
      refine MR_aload_n dX5_asNamed_21 0 rfl ?_
      refine MR_getA (k := 4) (o := 3) (j := 0) (n := 12) dX5_asNamed_22 q1268 (by decide) rfl rfl ?_
      refine MR_iload_n dX5_asNamed_25 1 rfl ?_
      obtain ⟨c3, w⟩ := w
      refine MR_iald (k := 4) dX5_asNamed_26 (by decide) rfl c3 ?_
      refine MR_goto (tgt := 31) dX5_asNamed_27 (by decide) ?_
      obtain ⟨c2, w⟩ := w
      refine MR_iast (k := 34) dX5_asNamed_31 (by decide) rfl c2 ?_
      refine MR_iinc (v := (a1 + 1)) (lv' := [(1, .int (a1 + 1)), (0, .ref m)]) dX5_asNamed_32 1 rfl (congrArg (fun z => a1 + z) (show Int32.ofInt 1 = 1 by decide)) (by decide) rfl ?_
      refine MR_goto (tgt := 2) dX5_asNamed_35 (by decide) ?_
      exact MR_sub [1, 0] rfl w
theorem sX5_back_0 {G : GG} {m : Nat} {sg : MS} {Q : Outcome → MS → Prop} (w : (¬ (sg.1 36 0) = 0 → (MR G mX5_back 1 12 [(0, .ref m), (1, .int 0)] [] m sg Q)) ∧ ((sg.1 36 0) = 0 → (Q (.returned (some (.int (-5)))) sg))) : MR G mX5_back 1 0 [(0, .ref m)] [] m sg Q := by
  refine MR_aload_n dX5_back_0 0 rfl ?_
  refine MR_getS (k := 36) dX5_back_1 q1300 (by decide) rfl rfl ?_
  refine MR_if_ne (tgt := 10) dX5_back_4 (by decide) (fun c1 => ?_) (fun c1 => ?_)
  · have w := w.1 c1
    refine MR_iconst (v := 0) dX5_back_10 (by decide) ?_
    refine MR_istore_n (lv' := [(1, .int 0), (0, .ref m)]) dX5_back_11 rfl (by decide) rfl ?_
    exact MR_sub [1, 0] rfl w
  · have w := w.2 c1
    refine MR_bipush (v := (-5)) dX5_back_7 (by decide) ?_
    exact MR_iret dX5_back_9 rfl w
theorem sX5_back_12 {G : GG} {m : Nat} {sg : MS} {Q : Outcome → MS → Prop} {a1 : Int32} (w : ((sg.1 37 0) ≤ a1 → (Q (.returned (some (.int (sg.1 37 0)))) sg)) ∧ (¬ (sg.1 37 0) ≤ a1 → (vp_in a1 12 ∧ (vp_in a1 12 ∧ (MR G mX5_back 1 12 [(0, .ref m), (1, .int (a1 + 1))] [] m (uS sg 4 a1.toNatClampNeg (sg.1 38 a1.toNatClampNeg)) Q))))) : MR G mX5_back 1 12 [(0, .ref m), (1, .int a1)] [] m sg Q := by
  refine MR_iload_n dX5_back_12 1 rfl ?_
  refine MR_aload_n dX5_back_13 0 rfl ?_
  refine MR_getS (k := 37) dX5_back_14 q1301 (by decide) rfl rfl ?_
  refine MR_icmp_ge (tgt := 38) dX5_back_17 (by decide) (fun c3 => ?_) (fun c3 => ?_)
  · have w := w.1 c3
    refine MR_aload_n dX5_back_38 0 rfl ?_
    refine MR_getS (k := 37) dX5_back_39 q1301 (by decide) rfl rfl ?_
    exact MR_iret dX5_back_42 rfl w
  · have w := w.2 c3
    refine MR_aload_n dX5_back_20 0 rfl ?_
    refine MR_getA (k := 4) (o := 3) (j := 0) (n := 12) dX5_back_21 q1268 (by decide) rfl rfl ?_
    refine MR_iload_n dX5_back_24 1 rfl ?_
    refine MR_aload_n dX5_back_25 0 rfl ?_
    refine MR_getA (k := 38) (o := 25) (j := 0) (n := 12) dX5_back_26 q1302 (by decide) rfl rfl ?_
    refine MR_iload_n dX5_back_29 1 rfl ?_
    obtain ⟨c2, w⟩ := w
    refine MR_iald (k := 38) dX5_back_30 (by decide) rfl c2 ?_
    obtain ⟨c1, w⟩ := w
    refine MR_iast (k := 4) dX5_back_31 (by decide) rfl c1 ?_
    refine MR_iinc (v := (a1 + 1)) (lv' := [(1, .int (a1 + 1)), (0, .ref m)]) dX5_back_32 1 rfl (congrArg (fun z => a1 + z) (show Int32.ofInt 1 = 1 by decide)) (by decide) rfl ?_
    refine MR_goto (tgt := 12) dX5_back_35 (by decide) ?_
    exact MR_sub [1, 0] rfl w
theorem sX5_bearersOf_0 {G : GG} {m : Nat} {sg : MS} {Q : Outcome → MS → Prop} {a1 : Int32} (w : MR G mX5_bearersOf 1 4 [(0, .ref m), (1, .int a1), (2, .int 0), (3, .int 0)] [] m sg Q) : MR G mX5_bearersOf 1 0 [(0, .ref m), (1, .int a1)] [] m sg Q := by
  refine MR_iconst (v := 0) dX5_bearersOf_0 (by decide) ?_
  refine MR_istore_n (lv' := [(2, .int 0), (0, .ref m), (1, .int a1)]) dX5_bearersOf_1 rfl (by decide) rfl ?_
  refine MR_iconst (v := 0) dX5_bearersOf_2 (by decide) ?_
  refine MR_istore_n (lv' := [(3, .int 0), (2, .int 0), (0, .ref m), (1, .int a1)]) dX5_bearersOf_3 rfl (by decide) rfl ?_
  exact MR_sub [2, 3, 1, 0] rfl w
theorem sX5_bearersOf_4 {G : GG} {m : Nat} {sg : MS} {Q : Outcome → MS → Prop} {a1 a2 a3 : Int32} (w : ((sg.1 1 0) ≤ a3 → (Q (.returned (some (.int a2))) sg)) ∧ (¬ (sg.1 1 0) ≤ a3 → (vp_in a3 12 ∧ ((¬ (sg.1 4 a3.toNatClampNeg) = a1 → (MR G mX5_bearersOf 1 4 [(0, .ref m), (1, .int a1), (2, .int a2), (3, .int (a3 + 1))] [] m sg Q)) ∧ ((sg.1 4 a3.toNatClampNeg) = a1 → (MR G mX5_bearersOf 1 4 [(0, .ref m), (1, .int a1), (2, .int (a2 ||| ((1 : Int32) <<< (a3 &&& 31)))), (3, .int (a3 + 1))] [] m sg Q)))))) : MR G mX5_bearersOf 1 4 [(0, .ref m), (1, .int a1), (2, .int a2), (3, .int a3)] [] m sg Q := by
  refine MR_iload_n dX5_bearersOf_4 3 rfl ?_
  refine MR_aload_n dX5_bearersOf_5 0 rfl ?_
  refine MR_getS (k := 1) dX5_bearersOf_6 q1265 (by decide) rfl rfl ?_
  refine MR_icmp_ge (tgt := 34) dX5_bearersOf_9 (by decide) (fun c3 => ?_) (fun c3 => ?_)
  · have w := w.1 c3
    refine MR_iload_n dX5_bearersOf_34 2 rfl ?_
    exact MR_iret dX5_bearersOf_35 rfl w
  · have w := w.2 c3
    refine MR_aload_n dX5_bearersOf_12 0 rfl ?_
    refine MR_getA (k := 4) (o := 3) (j := 0) (n := 12) dX5_bearersOf_13 q1268 (by decide) rfl rfl ?_
    refine MR_iload_n dX5_bearersOf_16 3 rfl ?_
    obtain ⟨c2, w⟩ := w
    refine MR_iald (k := 4) dX5_bearersOf_17 (by decide) rfl c2 ?_
    refine MR_iload_n dX5_bearersOf_18 1 rfl ?_
    refine MR_icmp_ne (tgt := 28) dX5_bearersOf_19 (by decide) (fun c1 => ?_) (fun c1 => ?_)
    · have w := w.1 c1
      refine MR_iinc (v := (a3 + 1)) (lv' := [(3, .int (a3 + 1)), (0, .ref m), (1, .int a1), (2, .int a2)]) dX5_bearersOf_28 3 rfl (congrArg (fun z => a3 + z) (show Int32.ofInt 1 = 1 by decide)) (by decide) rfl ?_
      refine MR_goto (tgt := 4) dX5_bearersOf_31 (by decide) ?_
      exact MR_sub [1, 2, 3, 0] rfl w
    · have w := w.2 c1
      refine MR_iload_n dX5_bearersOf_22 2 rfl ?_
      refine MR_iconst (v := 1) dX5_bearersOf_23 (by decide) ?_
      refine MR_iload_n dX5_bearersOf_24 3 rfl ?_
      refine MR_ishl dX5_bearersOf_25 ?_
      refine MR_ior dX5_bearersOf_26 ?_
      refine MR_istore_n (lv' := [(2, .int (a2 ||| ((1 : Int32) <<< (a3 &&& 31)))), (0, .ref m), (1, .int a1), (3, .int a3)]) dX5_bearersOf_27 rfl (by decide) rfl ?_
      refine MR_iinc (v := (a3 + 1)) (lv' := [(3, .int (a3 + 1)), (2, .int (a2 ||| ((1 : Int32) <<< (a3 &&& 31)))), (0, .ref m), (1, .int a1)]) dX5_bearersOf_28 3 rfl (congrArg (fun z => a3 + z) (show Int32.ofInt 1 = 1 by decide)) (by decide) rfl ?_
      refine MR_goto (tgt := 4) dX5_bearersOf_31 (by decide) ?_
      exact MR_sub [2, 3, 1, 0] rfl w
theorem sX5_bears_0 {G : GG} {m : Nat} {sg : MS} {Q : Outcome → MS → Prop} {a1 a2 a3 a4 : Int32} (w : (¬ ((a4 >>> (a1 &&& 31)) &&& 1) = 1 → (Q (.returned (some (.int (bi false)))) sg)) ∧ (((a4 >>> (a1 &&& 31)) &&& 1) = 1 → (vp_in a1 12 ∧ ((¬ (sg.1 34 a1.toNatClampNeg) = a2 → (Q (.returned (some (.int (bi false)))) sg)) ∧ ((sg.1 34 a1.toNatClampNeg) = a2 → (vp_in a1 12 ∧ ((a3 < (sg.1 2 a1.toNatClampNeg) → (Q (.returned (some (.int (bi false)))) sg)) ∧ (¬ a3 < (sg.1 2 a1.toNatClampNeg) → (Q (.returned (some (.int (bi true)))) sg))))))))) : MR G mX5_bears 1 0 [(0, .ref m), (1, .int a1), (2, .int a2), (3, .int a3), (4, .int a4)] [] m sg Q := by
  refine MR_iload dX5_bears_0 4 rfl ?_
  refine MR_iload_n dX5_bears_2 1 rfl ?_
  refine MR_ishr dX5_bears_3 ?_
  refine MR_iconst (v := 1) dX5_bears_4 (by decide) ?_
  refine MR_iand dX5_bears_5 ?_
  refine MR_iconst (v := 1) dX5_bears_6 (by decide) ?_
  refine MR_icmp_ne (tgt := 34) dX5_bears_7 (by decide) (fun c5 => ?_) (fun c5 => ?_)
  · have w := w.1 c5
    refine MR_iconst (v := 0) dX5_bears_34 (by decide) ?_
    exact MR_bret (b := false) dX5_bears_35 rfl w
  · have w := w.2 c5
    refine MR_aload_n dX5_bears_10 0 rfl ?_
    refine MR_getA (k := 34) (o := 23) (j := 0) (n := 12) dX5_bears_11 q1298 (by decide) rfl rfl ?_
    refine MR_iload_n dX5_bears_14 1 rfl ?_
    obtain ⟨c4, w⟩ := w
    refine MR_iald (k := 34) dX5_bears_15 (by decide) rfl c4 ?_
    refine MR_iload_n dX5_bears_16 2 rfl ?_
    refine MR_icmp_ne (tgt := 34) dX5_bears_17 (by decide) (fun c3 => ?_) (fun c3 => ?_)
    · have w := w.1 c3
      refine MR_iconst (v := 0) dX5_bears_34 (by decide) ?_
      exact MR_bret (b := false) dX5_bears_35 rfl w
    · have w := w.2 c3
      refine MR_aload_n dX5_bears_20 0 rfl ?_
      refine MR_getA (k := 2) (o := 1) (j := 0) (n := 12) dX5_bears_21 q1266 (by decide) rfl rfl ?_
      refine MR_iload_n dX5_bears_24 1 rfl ?_
      obtain ⟨c2, w⟩ := w
      refine MR_iald (k := 2) dX5_bears_25 (by decide) rfl c2 ?_
      refine MR_iload_n dX5_bears_26 3 rfl ?_
      refine MR_icmp_gt (tgt := 34) dX5_bears_27 (by decide) (fun c1 => ?_) (fun c1 => ?_)
      · have w := w.1 c1
        refine MR_iconst (v := 0) dX5_bears_34 (by decide) ?_
        exact MR_bret (b := false) dX5_bears_35 rfl w
      · have w := w.2 c1
        refine MR_iconst (v := 1) dX5_bears_30 (by decide) ?_
        refine MR_goto (tgt := 35) dX5_bears_31 (by decide) ?_
        exact MR_bret (b := true) dX5_bears_35 rfl w
theorem sX5_bitsOf_0 {G : GG} {m : Nat} {sg : MS} {Q : Outcome → MS → Prop} {a0 : Int32} (w : MR G mX5_bitsOf 1 4 [(1, .int 0), (2, .int a0)] [] m sg Q) : MR G mX5_bitsOf 1 0 [(0, .int a0)] [] m sg Q := by
  refine MR_iconst (v := 0) dX5_bitsOf_0 (by decide) ?_
  refine MR_istore_n (lv' := [(1, .int 0), (0, .int a0)]) dX5_bitsOf_1 rfl (by decide) rfl ?_
  refine MR_iload_n dX5_bitsOf_2 1 rfl ?_
  refine MR_istore_n (lv' := [(2, .int a0), (1, .int 0), (0, .int a0)]) dX5_bitsOf_3 rfl (by decide) rfl ?_
  exact MR_sub [1, 0] rfl w
theorem sX5_bitsOf_4 {G : GG} {m : Nat} {sg : MS} {Q : Outcome → MS → Prop} {a1 a2 : Int32} (w : (a2 = 0 → (Q (.returned (some (.int a1))) sg)) ∧ (¬ a2 = 0 → (MR G mX5_bitsOf 1 4 [(1, .int (a1 + 1)), (2, .int (a2 &&& (a2 - 1)))] [] m sg Q))) : MR G mX5_bitsOf 1 4 [(1, .int a1), (2, .int a2)] [] m sg Q := by
  refine MR_iload_n dX5_bitsOf_4 1 rfl ?_
  refine MR_if_eq (tgt := 20) dX5_bitsOf_5 (by decide) (fun c1 => ?_) (fun c1 => ?_)
  · have w := w.1 c1
    refine MR_iload_n dX5_bitsOf_20 0 rfl ?_
    exact MR_iret dX5_bitsOf_21 rfl w
  · have w := w.2 c1
    refine MR_iinc (v := (a1 + 1)) (lv' := [(1, .int (a1 + 1)), (2, .int a2)]) dX5_bitsOf_8 0 rfl (congrArg (fun z => a1 + z) (show Int32.ofInt 1 = 1 by decide)) (by decide) rfl ?_
    refine MR_iload_n dX5_bitsOf_11 1 rfl ?_
    refine MR_iload_n dX5_bitsOf_12 1 rfl ?_
    refine MR_iconst (v := 1) dX5_bitsOf_13 (by decide) ?_
    refine MR_isub dX5_bitsOf_14 ?_
    refine MR_iand dX5_bitsOf_15 ?_
    refine MR_istore_n (lv' := [(2, .int (a2 &&& (a2 - 1))), (1, .int (a1 + 1))]) dX5_bitsOf_16 rfl (by decide) rfl ?_
    refine MR_goto (tgt := 4) dX5_bitsOf_17 (by decide) ?_
    exact MR_sub [1, 0] rfl w
theorem sX5_body_0 {G : GG} {m : Nat} {sg : MS} {Q : Outcome → MS → Prop} {a1 : Int32} (w : MR G mX5_in 1 0 [(0, .int a1), (1, .int 0), (2, .int 7)] [] m sg (fun o sg1 => ∃ b2 : Bool, o = .returned (some (.int (bi b2))) ∧ ((b2 = true → ((¬ (sg1.1 39 0) = 50 → (vp_in (sg1.1 39 0) 50 ∧ (Q (.returned (some (.int (((uS (uS sg1 40 (sg1.1 39 0).toNatClampNeg a1) 39 0 (((uS sg1 40 (sg1.1 39 0).toNatClampNeg a1).1 39 0) + 1)).1 39 0) - 1)))) (uS (uS sg1 40 (sg1.1 39 0).toNatClampNeg a1) 39 0 (((uS sg1 40 (sg1.1 39 0).toNatClampNeg a1).1 39 0) + 1))))) ∧ ((sg1.1 39 0) = 50 → (Q (.returned (some (.int (-3)))) sg1)))) ∧ (b2 = false → (Q (.returned (some (.int (-1)))) sg1))))) : MR G mX5_body 2 0 [(0, .ref m), (1, .int a1)] [] m sg Q := by
  refine MR_iload_n dX5_body_0 1 rfl ?_
  refine MR_iconst (v := 0) dX5_body_1 (by decide) ?_
  refine MR_bipush (v := 7) dX5_body_2 (by decide) ?_
  refine MR_invSz (Mc := mX5_in) (As := [.int a1, .int 0, .int 7]) (st := []) dX5_body_4 q1416 q1417 q111 wX5_in pX5_in rfl (Nat.le_of_ble_eq_true rfl) (by decide) (by decide) (Nat.le_of_ble_eq_true rfl) w (fun b2 sg1 w => ?_)
  refine MR_ifz_ne (tgt := 12) dX5_body_7 (by decide) (fun c5 => ?_) (fun c5 => ?_)
  · have w := w.1 c5
    refine MR_aload_n dX5_body_12 0 rfl ?_
    refine MR_getS (k := 39) dX5_body_13 q1303 (by decide) rfl rfl ?_
    refine MR_bipush (v := 50) dX5_body_16 (by decide) ?_
    refine MR_icmp_ne (tgt := 24) dX5_body_18 (by decide) (fun c4 => ?_) (fun c4 => ?_)
    · have w := w.1 c4
      refine MR_aload_n dX5_body_24 0 rfl ?_
      refine MR_getA (k := 40) (o := 26) (j := 0) (n := 50) dX5_body_25 q1304 (by decide) rfl rfl ?_
      refine MR_aload_n dX5_body_28 0 rfl ?_
      refine MR_getS (k := 39) dX5_body_29 q1303 (by decide) rfl rfl ?_
      refine MR_iload_n dX5_body_32 1 rfl ?_
      obtain ⟨c3, w⟩ := w
      refine MR_iast (k := 40) dX5_body_33 (by decide) rfl c3 ?_
      refine MR_aload_n dX5_body_34 0 rfl ?_
      refine MR_dup dX5_body_35 rfl ?_
      refine MR_getS (k := 39) dX5_body_36 q1303 (by decide) rfl rfl ?_
      refine MR_iconst (v := 1) dX5_body_39 (by decide) ?_
      refine MR_iadd dX5_body_40 ?_
      refine MR_putS (k := 39) dX5_body_41 q1303 (by decide) rfl rfl rfl rfl rfl ?_
      refine MR_aload_n dX5_body_44 0 rfl ?_
      refine MR_getS (k := 39) dX5_body_45 q1303 (by decide) rfl rfl ?_
      refine MR_iconst (v := 1) dX5_body_48 (by decide) ?_
      refine MR_isub dX5_body_49 ?_
      exact MR_iret dX5_body_50 rfl w
    · have w := w.2 c4
      refine MR_bipush (v := (-3)) dX5_body_21 (by decide) ?_
      exact MR_iret dX5_body_23 rfl w
  · have w := w.2 c5
    refine MR_iconst (v := (-1)) dX5_body_10 (by decide) ?_
    exact MR_iret dX5_body_11 rfl w
theorem sX5_both_0 {G : GG} {m : Nat} {sg : MS} {Q : Outcome → MS → Prop} {d d' : Nat} (hdd : d' + 1 ≤ d) (h9 : 9 ≤ d) (w : MR G mX5_compared d' 0 [(0, .ref m)] [] m sg (fun o sg1 => o = .returned none ∧ (MR G mX5_both d 4 [(0, .ref m)] [] m sg1 Q))) : MR G mX5_both d 0 [(0, .ref m)] [] m sg Q := by
  refine MR_aload_n dX5_both_0 0 rfl ?_
  refine MR_invVv (Mc := mX5_compared) (As := []) (st := []) dX5_both_1 q1527 q1529 qs59 q111 wX5_compared pX5_compared rfl (Nat.le_of_ble_eq_true rfl) (by decide) hdd (Nat.le_of_ble_eq_true rfl) w (fun sg1 w => ?_)
  exact w
theorem sX5_both_4 {G : GG} {m : Nat} {sg : MS} {Q : Outcome → MS → Prop} {d d' : Nat} (hdd : d' + 1 ≤ d) (h9 : 9 ≤ d) (w : (0 ≤ (sg.1 21 0) → (Q (.returned none) sg)) ∧ (¬ 0 ≤ (sg.1 21 0) → (MR G mX5_look 1 0 [(0, .ref m)] [] m sg (fun o sg1 => ∃ r2 : Int32, o = .returned (some (.int r2)) ∧ ((¬ r2 = 38 → (Q (.returned none) sg1)) ∧ (r2 = 38 → (MR G mX5_compared d' 0 [(0, .ref m)] [] m (uS sg1 20 0 ((sg1.1 20 0) + 1)) (fun o sg3 => o = .returned none ∧ (MR G mX5_addStep 1 0 [(0, .ref m), (1, .int 38), (2, .int 0)] [] m sg3 (fun o sg4 => o = .returned none ∧ (MR G mX5_both d 4 [(0, .ref m)] [] m sg4 Q))))))))))) : MR G mX5_both d 4 [(0, .ref m)] [] m sg Q := by
  refine MR_aload_n dX5_both_4 0 rfl ?_
  refine MR_getS (k := 21) dX5_both_5 q1285 (by decide) rfl rfl ?_
  refine MR_if_ge (tgt := 44) dX5_both_8 (by decide) (fun c6 => ?_) (fun c6 => ?_)
  · have w := w.1 c6
    exact MR_vret dX5_both_44 rfl w
  · have w := w.2 c6
    refine MR_aload_n dX5_both_11 0 rfl ?_
    refine MR_invVi (Mc := mX5_look) (As := []) (st := []) dX5_both_12 q1543 q1545 qs63 q111 wX5_look pX5_look rfl (Nat.le_of_ble_eq_true rfl) (by decide) (by omega) (Nat.le_of_ble_eq_true rfl) w (fun r2 sg1 w => ?_)
    refine MR_bipush (v := 38) dX5_both_15 (by decide) ?_
    refine MR_icmp_ne (tgt := 44) dX5_both_17 (by decide) (fun c5 => ?_) (fun c5 => ?_)
    · have w := w.1 c5
      exact MR_vret dX5_both_44 rfl w
    · have w := w.2 c5
      refine MR_aload_n dX5_both_20 0 rfl ?_
      refine MR_dup dX5_both_21 rfl ?_
      refine MR_getS (k := 20) dX5_both_22 q1284 (by decide) rfl rfl ?_
      refine MR_iconst (v := 1) dX5_both_25 (by decide) ?_
      refine MR_iadd dX5_both_26 ?_
      refine MR_putS (k := 20) dX5_both_27 q1284 (by decide) rfl rfl rfl rfl rfl ?_
      refine MR_aload_n dX5_both_30 0 rfl ?_
      refine MR_invVv (Mc := mX5_compared) (As := []) (st := []) dX5_both_31 q1527 q1529 qs59 q111 wX5_compared pX5_compared rfl (Nat.le_of_ble_eq_true rfl) (by decide) hdd (Nat.le_of_ble_eq_true rfl) w (fun sg3 w => ?_)
      refine MR_aload_n dX5_both_34 0 rfl ?_
      refine MR_bipush (v := 38) dX5_both_35 (by decide) ?_
      refine MR_iconst (v := 0) dX5_both_37 (by decide) ?_
      refine MR_invVv (Mc := mX5_addStep) (As := [.int 38, .int 0]) (st := []) dX5_both_38 q1550 q1552 qs64 q111 wX5_addStep pX5_addStep rfl (Nat.le_of_ble_eq_true rfl) (by decide) (by omega) (Nat.le_of_ble_eq_true rfl) w (fun sg4 w => ?_)
      refine MR_goto (tgt := 4) dX5_both_41 (by decide) ?_
      exact w
theorem sX5_changes_0 {G : GG} {m : Nat} {sg : MS} {Q : Outcome → MS → Prop} {a1 a2 a3 : Int32} (w : MR G mX5_valueAt 1 0 [(0, .ref m), (1, .int a1), (2, .int a2)] [] m sg (fun o sg1 => ∃ r2 : Int32, o = .returned (some (.int r2)) ∧ ((¬ r2 = a3 → ((¬ ((uS sg1 13 0 0).1 12 0) = 40 → (MR G mX5_changes 2 121 [(0, .ref m), (1, .int a1), (2, .int a2), (3, .int a3), (4, .int r2)] [] m (uS sg1 13 0 0) Q)) ∧ (((uS sg1 13 0 0).1 12 0) = 40 → (MR G mX5_changes 2 34 [(0, .ref m), (1, .int a1), (2, .int a2), (3, .int a3), (4, .int r2), (5, .int 1)] [] m (uS sg1 13 0 0) Q)))) ∧ (r2 = a3 → (Q (.returned (some (.int r2))) sg1))))) : MR G mX5_changes 2 0 [(0, .ref m), (1, .int a1), (2, .int a2), (3, .int a3)] [] m sg Q := by
  refine MR_aload_n dX5_changes_0 0 rfl ?_
  refine MR_iload_n dX5_changes_1 1 rfl ?_
  refine MR_iload_n dX5_changes_2 2 rfl ?_
  refine MR_invVi (Mc := mX5_valueAt) (As := [.int a1, .int a2]) (st := []) dX5_changes_3 q1479 q1481 qs50 q111 wX5_valueAt pX5_valueAt rfl (Nat.le_of_ble_eq_true rfl) (by decide) (by decide) (Nat.le_of_ble_eq_true rfl) w (fun r2 sg1 w => ?_)
  refine MR_istore (lv' := [(4, .int r2), (0, .ref m), (1, .int a1), (2, .int a2), (3, .int a3)]) dX5_changes_6 (by decide) rfl ?_
  refine MR_iload dX5_changes_8 0 rfl ?_
  refine MR_iload_n dX5_changes_10 4 rfl ?_
  refine MR_icmp_ne (tgt := 17) dX5_changes_11 (by decide) (fun c4 => ?_) (fun c4 => ?_)
  · have w := w.1 c4
    refine MR_aload_n dX5_changes_17 1 rfl ?_
    refine MR_iconst (v := 0) dX5_changes_18 (by decide) ?_
    refine MR_putS (k := 13) dX5_changes_19 q1277 (by decide) rfl rfl rfl rfl rfl ?_
    refine MR_aload_n dX5_changes_22 1 rfl ?_
    refine MR_getS (k := 12) dX5_changes_23 q1276 (by decide) rfl rfl ?_
    refine MR_bipush (v := 40) dX5_changes_26 (by decide) ?_
    refine MR_icmp_ne (tgt := 121) dX5_changes_28 (by decide) (fun c3 => ?_) (fun c3 => ?_)
    · have w := w.1 c3
      exact MR_sub [1, 2, 3, 4, 0] rfl w
    · have w := w.2 c3
      refine MR_iconst (v := 1) dX5_changes_31 (by decide) ?_
      refine MR_istore (lv' := [(5, .int 1), (4, .int r2), (0, .ref m), (1, .int a1), (2, .int a2), (3, .int a3)]) dX5_changes_32 (by decide) rfl ?_
      exact MR_sub [2, 3, 4, 5, 1, 0] rfl w
  · have w := w.2 c4
    refine MR_iload dX5_changes_14 0 rfl ?_
    exact MR_iret dX5_changes_16 rfl w
theorem sX5_changes_34 {G : GG} {m : Nat} {sg : MS} {Q : Outcome → MS → Prop} {a1 a2 a3 a4 a5 : Int32} (w : (40 ≤ a5 → (MR G mX5_changes 2 121 [(0, .ref m), (1, .int a1), (2, .int a2), (3, .int a3), (4, .int a4)] [] m (uS sg 12 0 ((sg.1 12 0) - 1)) Q)) ∧ (¬ 40 ≤ a5 → (vp_in a5 40 ∧ (vp_in (a5 - 1) 40 ∧ (vp_in a5 40 ∧ (vp_in (a5 - 1) 40 ∧ (vp_in a5 40 ∧ (vp_in (a5 - 1) 40 ∧ (vp_in a5 40 ∧ (vp_in (a5 - 1) 40 ∧ (MR G mX5_changes 2 34 [(0, .ref m), (1, .int a1), (2, .int a2), (3, .int a3), (4, .int a4), (5, .int (a5 + 1))] [] m (uS (uS (uS (uS sg 14 (a5 - 1).toNatClampNeg (sg.1 14 a5.toNatClampNeg)) 15 (a5 - 1).toNatClampNeg ((uS sg 14 (a5 - 1).toNatClampNeg (sg.1 14 a5.toNatClampNeg)).1 15 a5.toNatClampNeg)) 16 (a5 - 1).toNatClampNeg ((uS (uS sg 14 (a5 - 1).toNatClampNeg (sg.1 14 a5.toNatClampNeg)) 15 (a5 - 1).toNatClampNeg ((uS sg 14 (a5 - 1).toNatClampNeg (sg.1 14 a5.toNatClampNeg)).1 15 a5.toNatClampNeg)).1 16 a5.toNatClampNeg)) 17 (a5 - 1).toNatClampNeg ((uS (uS (uS sg 14 (a5 - 1).toNatClampNeg (sg.1 14 a5.toNatClampNeg)) 15 (a5 - 1).toNatClampNeg ((uS sg 14 (a5 - 1).toNatClampNeg (sg.1 14 a5.toNatClampNeg)).1 15 a5.toNatClampNeg)) 16 (a5 - 1).toNatClampNeg ((uS (uS sg 14 (a5 - 1).toNatClampNeg (sg.1 14 a5.toNatClampNeg)) 15 (a5 - 1).toNatClampNeg ((uS sg 14 (a5 - 1).toNatClampNeg (sg.1 14 a5.toNatClampNeg)).1 15 a5.toNatClampNeg)).1 16 a5.toNatClampNeg)).1 17 a5.toNatClampNeg)) Q))))))))))) : MR G mX5_changes 2 34 [(0, .ref m), (1, .int a1), (2, .int a2), (3, .int a3), (4, .int a4), (5, .int a5)] [] m sg Q := by
  refine MR_iload dX5_changes_34 5 rfl ?_
  refine MR_bipush (v := 40) dX5_changes_36 (by decide) ?_
  refine MR_icmp_ge (tgt := 111) dX5_changes_38 (by decide) (fun c9 => ?_) (fun c9 => ?_)
  · have w := w.1 c9
    refine MR_aload_n dX5_changes_111 0 rfl ?_
    refine MR_dup dX5_changes_112 rfl ?_
    refine MR_getS (k := 12) dX5_changes_113 q1276 (by decide) rfl rfl ?_
    refine MR_iconst (v := 1) dX5_changes_116 (by decide) ?_
    refine MR_isub dX5_changes_117 ?_
    refine MR_putS (k := 12) dX5_changes_118 q1276 (by decide) rfl rfl rfl rfl rfl ?_
    exact MR_sub [0, 1, 2, 3, 4] rfl w
  · have w := w.2 c9
    refine MR_aload_n dX5_changes_41 0 rfl ?_
    refine MR_getA (k := 14) (o := 9) (j := 0) (n := 40) dX5_changes_42 q1278 (by decide) rfl rfl ?_
    refine MR_iload dX5_changes_45 5 rfl ?_
    refine MR_iconst (v := 1) dX5_changes_47 (by decide) ?_
    refine MR_isub dX5_changes_48 ?_
    refine MR_aload_n dX5_changes_49 0 rfl ?_
    refine MR_getA (k := 14) (o := 9) (j := 0) (n := 40) dX5_changes_50 q1278 (by decide) rfl rfl ?_
    refine MR_iload dX5_changes_53 5 rfl ?_
    obtain ⟨c8, w⟩ := w
    refine MR_iald (k := 14) dX5_changes_55 (by decide) rfl c8 ?_
    obtain ⟨c7, w⟩ := w
    refine MR_iast (k := 14) dX5_changes_56 (by decide) rfl c7 ?_
    refine MR_aload_n dX5_changes_57 0 rfl ?_
    refine MR_getA (k := 15) (o := 10) (j := 0) (n := 40) dX5_changes_58 q1279 (by decide) rfl rfl ?_
    refine MR_iload dX5_changes_61 5 rfl ?_
    refine MR_iconst (v := 1) dX5_changes_63 (by decide) ?_
    refine MR_isub dX5_changes_64 ?_
    refine MR_aload_n dX5_changes_65 0 rfl ?_
    refine MR_getA (k := 15) (o := 10) (j := 0) (n := 40) dX5_changes_66 q1279 (by decide) rfl rfl ?_
    refine MR_iload dX5_changes_69 5 rfl ?_
    obtain ⟨c6, w⟩ := w
    refine MR_iald (k := 15) dX5_changes_71 (by decide) rfl c6 ?_
    obtain ⟨c5, w⟩ := w
    refine MR_iast (k := 15) dX5_changes_72 (by decide) rfl c5 ?_
    refine MR_aload_n dX5_changes_73 0 rfl ?_
    refine MR_getA (k := 16) (o := 11) (j := 0) (n := 40) dX5_changes_74 q1280 (by decide) rfl rfl ?_
    refine MR_iload dX5_changes_77 5 rfl ?_
    refine MR_iconst (v := 1) dX5_changes_79 (by decide) ?_
    refine MR_isub dX5_changes_80 ?_
    refine MR_aload_n dX5_changes_81 0 rfl ?_
    refine MR_getA (k := 16) (o := 11) (j := 0) (n := 40) dX5_changes_82 q1280 (by decide) rfl rfl ?_
    refine MR_iload dX5_changes_85 5 rfl ?_
    obtain ⟨c4, w⟩ := w
    refine MR_iald (k := 16) dX5_changes_87 (by decide) rfl c4 ?_
    obtain ⟨c3, w⟩ := w
    refine MR_iast (k := 16) dX5_changes_88 (by decide) rfl c3 ?_
    refine MR_aload_n dX5_changes_89 0 rfl ?_
    refine MR_getA (k := 17) (o := 12) (j := 0) (n := 40) dX5_changes_90 q1281 (by decide) rfl rfl ?_
    refine MR_iload dX5_changes_93 5 rfl ?_
    refine MR_iconst (v := 1) dX5_changes_95 (by decide) ?_
    refine MR_isub dX5_changes_96 ?_
    refine MR_aload_n dX5_changes_97 0 rfl ?_
    refine MR_getA (k := 17) (o := 12) (j := 0) (n := 40) dX5_changes_98 q1281 (by decide) rfl rfl ?_
    refine MR_iload dX5_changes_101 5 rfl ?_
    obtain ⟨c2, w⟩ := w
    refine MR_iald (k := 17) dX5_changes_103 (by decide) rfl c2 ?_
    obtain ⟨c1, w⟩ := w
    refine MR_iast (k := 17) dX5_changes_104 (by decide) rfl c1 ?_
    refine MR_iinc (v := (a5 + 1)) (lv' := [(5, .int (a5 + 1)), (0, .ref m), (1, .int a1), (2, .int a2), (3, .int a3), (4, .int a4)]) dX5_changes_105 5 rfl (congrArg (fun z => a5 + z) (show Int32.ofInt 1 = 1 by decide)) (by decide) rfl ?_
    refine MR_goto (tgt := 34) dX5_changes_108 (by decide) ?_
    exact MR_sub [1, 2, 3, 4, 5, 0] rfl w
theorem sX5_changes_121 {G : GG} {m : Nat} {sg : MS} {Q : Outcome → MS → Prop} {a1 a2 a3 a4 : Int32} (w : vp_in (sg.1 12 0) 40 ∧ (vp_in ((uS sg 14 (sg.1 12 0).toNatClampNeg a1).1 12 0) 40 ∧ (vp_in ((uS (uS sg 14 (sg.1 12 0).toNatClampNeg a1) 15 ((uS sg 14 (sg.1 12 0).toNatClampNeg a1).1 12 0).toNatClampNeg a2).1 12 0) 40 ∧ (vp_in ((uS (uS (uS sg 14 (sg.1 12 0).toNatClampNeg a1) 15 ((uS sg 14 (sg.1 12 0).toNatClampNeg a1).1 12 0).toNatClampNeg a2) 16 ((uS (uS sg 14 (sg.1 12 0).toNatClampNeg a1) 15 ((uS sg 14 (sg.1 12 0).toNatClampNeg a1).1 12 0).toNatClampNeg a2).1 12 0).toNatClampNeg a4).1 12 0) 40 ∧ (MR G mX5_lays 1 0 [(0, .ref m), (1, .int a1), (2, .int a2), (3, .int a3)] [] m (uS (uS (uS (uS (uS sg 14 (sg.1 12 0).toNatClampNeg a1) 15 ((uS sg 14 (sg.1 12 0).toNatClampNeg a1).1 12 0).toNatClampNeg a2) 16 ((uS (uS sg 14 (sg.1 12 0).toNatClampNeg a1) 15 ((uS sg 14 (sg.1 12 0).toNatClampNeg a1).1 12 0).toNatClampNeg a2).1 12 0).toNatClampNeg a4) 17 ((uS (uS (uS sg 14 (sg.1 12 0).toNatClampNeg a1) 15 ((uS sg 14 (sg.1 12 0).toNatClampNeg a1).1 12 0).toNatClampNeg a2) 16 ((uS (uS sg 14 (sg.1 12 0).toNatClampNeg a1) 15 ((uS sg 14 (sg.1 12 0).toNatClampNeg a1).1 12 0).toNatClampNeg a2).1 12 0).toNatClampNeg a4).1 12 0).toNatClampNeg a3) 12 0 (((uS (uS (uS (uS sg 14 (sg.1 12 0).toNatClampNeg a1) 15 ((uS sg 14 (sg.1 12 0).toNatClampNeg a1).1 12 0).toNatClampNeg a2) 16 ((uS (uS sg 14 (sg.1 12 0).toNatClampNeg a1) 15 ((uS sg 14 (sg.1 12 0).toNatClampNeg a1).1 12 0).toNatClampNeg a2).1 12 0).toNatClampNeg a4) 17 ((uS (uS (uS sg 14 (sg.1 12 0).toNatClampNeg a1) 15 ((uS sg 14 (sg.1 12 0).toNatClampNeg a1).1 12 0).toNatClampNeg a2) 16 ((uS (uS sg 14 (sg.1 12 0).toNatClampNeg a1) 15 ((uS sg 14 (sg.1 12 0).toNatClampNeg a1).1 12 0).toNatClampNeg a2).1 12 0).toNatClampNeg a4).1 12 0).toNatClampNeg a3).1 12 0) + 1)) (fun o sg1 => o = .returned none ∧ (Q (.returned (some (.int a4))) sg1))))))) : MR G mX5_changes 2 121 [(0, .ref m), (1, .int a1), (2, .int a2), (3, .int a3), (4, .int a4)] [] m sg Q := by
  refine MR_aload_n dX5_changes_121 0 rfl ?_
  refine MR_getA (k := 14) (o := 9) (j := 0) (n := 40) dX5_changes_122 q1278 (by decide) rfl rfl ?_
  refine MR_aload_n dX5_changes_125 0 rfl ?_
  refine MR_getS (k := 12) dX5_changes_126 q1276 (by decide) rfl rfl ?_
  refine MR_iload_n dX5_changes_129 1 rfl ?_
  obtain ⟨c5, w⟩ := w
  refine MR_iast (k := 14) dX5_changes_130 (by decide) rfl c5 ?_
  refine MR_aload_n dX5_changes_131 0 rfl ?_
  refine MR_getA (k := 15) (o := 10) (j := 0) (n := 40) dX5_changes_132 q1279 (by decide) rfl rfl ?_
  refine MR_aload_n dX5_changes_135 0 rfl ?_
  refine MR_getS (k := 12) dX5_changes_136 q1276 (by decide) rfl rfl ?_
  refine MR_iload_n dX5_changes_139 2 rfl ?_
  obtain ⟨c4, w⟩ := w
  refine MR_iast (k := 15) dX5_changes_140 (by decide) rfl c4 ?_
  refine MR_aload_n dX5_changes_141 0 rfl ?_
  refine MR_getA (k := 16) (o := 11) (j := 0) (n := 40) dX5_changes_142 q1280 (by decide) rfl rfl ?_
  refine MR_aload_n dX5_changes_145 0 rfl ?_
  refine MR_getS (k := 12) dX5_changes_146 q1276 (by decide) rfl rfl ?_
  refine MR_iload dX5_changes_149 4 rfl ?_
  obtain ⟨c3, w⟩ := w
  refine MR_iast (k := 16) dX5_changes_151 (by decide) rfl c3 ?_
  refine MR_aload_n dX5_changes_152 0 rfl ?_
  refine MR_getA (k := 17) (o := 12) (j := 0) (n := 40) dX5_changes_153 q1281 (by decide) rfl rfl ?_
  refine MR_aload_n dX5_changes_156 0 rfl ?_
  refine MR_getS (k := 12) dX5_changes_157 q1276 (by decide) rfl rfl ?_
  refine MR_iload_n dX5_changes_160 3 rfl ?_
  obtain ⟨c2, w⟩ := w
  refine MR_iast (k := 17) dX5_changes_161 (by decide) rfl c2 ?_
  refine MR_aload_n dX5_changes_162 0 rfl ?_
  refine MR_dup dX5_changes_163 rfl ?_
  refine MR_getS (k := 12) dX5_changes_164 q1276 (by decide) rfl rfl ?_
  refine MR_iconst (v := 1) dX5_changes_167 (by decide) ?_
  refine MR_iadd dX5_changes_168 ?_
  refine MR_putS (k := 12) dX5_changes_169 q1276 (by decide) rfl rfl rfl rfl rfl ?_
  refine MR_aload_n dX5_changes_172 0 rfl ?_
  refine MR_iload_n dX5_changes_173 1 rfl ?_
  refine MR_iload_n dX5_changes_174 2 rfl ?_
  refine MR_iload_n dX5_changes_175 3 rfl ?_
  refine MR_invVv (Mc := mX5_lays) (As := [.int a1, .int a2, .int a3]) (st := []) dX5_changes_176 q1463 q1465 qs48 q111 wX5_lays pX5_lays rfl (Nat.le_of_ble_eq_true rfl) (by decide) (by decide) (Nat.le_of_ble_eq_true rfl) w (fun sg1 w => ?_)
  refine MR_iload dX5_changes_179 4 rfl ?_
  exact MR_iret dX5_changes_181 rfl w
theorem sX5_compared_0 {G : GG} {m : Nat} {sg : MS} {Q : Outcome → MS → Prop} {d d' : Nat} (hdd : d' + 1 ≤ d) (h9 : 9 ≤ d) (w : MR G mX5_sum d' 0 [(0, .ref m)] [] m sg (fun o sg1 => o = .returned none ∧ (MR G mX5_look 1 0 [(0, .ref m)] [] m sg1 (fun o sg2 => ∃ r3 : Int32, o = .returned (some (.int r3)) ∧ ((0 ≤ (sg2.1 21 0) → (Q (.returned none) sg2)) ∧ (¬ 0 ≤ (sg2.1 21 0) → ((r3 = 60 → (MR G mX5_sum d' 0 [(0, .ref m)] [] m (uS sg2 20 0 ((sg2.1 20 0) + 1)) (fun o sg4 => o = .returned none ∧ (MR G mX5_addStep 1 0 [(0, .ref m), (1, .int r3), (2, .int 0)] [] m sg4 (fun o sg5 => o = .returned none ∧ (Q (.returned none) sg5)))))) ∧ (¬ r3 = 60 → ((r3 = 61 → (MR G mX5_sum d' 0 [(0, .ref m)] [] m (uS sg2 20 0 ((sg2.1 20 0) + 1)) (fun o sg6 => o = .returned none ∧ (MR G mX5_addStep 1 0 [(0, .ref m), (1, .int r3), (2, .int 0)] [] m sg6 (fun o sg7 => o = .returned none ∧ (Q (.returned none) sg7)))))) ∧ (¬ r3 = 61 → ((r3 = 62 → (MR G mX5_sum d' 0 [(0, .ref m)] [] m (uS sg2 20 0 ((sg2.1 20 0) + 1)) (fun o sg8 => o = .returned none ∧ (MR G mX5_addStep 1 0 [(0, .ref m), (1, .int r3), (2, .int 0)] [] m sg8 (fun o sg9 => o = .returned none ∧ (Q (.returned none) sg9)))))) ∧ (¬ r3 = 62 → (Q (.returned none) sg2))))))))))))) : MR G mX5_compared d 0 [(0, .ref m)] [] m sg Q := by
  refine MR_aload_n dX5_compared_0 0 rfl ?_
  refine MR_invVv (Mc := mX5_sum) (As := []) (st := []) dX5_compared_1 q1531 q1533 qs60 q111 wX5_sum pX5_sum rfl (Nat.le_of_ble_eq_true rfl) (by decide) hdd (Nat.le_of_ble_eq_true rfl) w (fun sg1 w => ?_)
  refine MR_aload_n dX5_compared_4 0 rfl ?_
  refine MR_invVi (Mc := mX5_look) (As := []) (st := []) dX5_compared_5 q1543 q1545 qs63 q111 wX5_look pX5_look rfl (Nat.le_of_ble_eq_true rfl) (by decide) (by omega) (Nat.le_of_ble_eq_true rfl) w (fun r3 sg2 w => ?_)
  refine MR_istore_n (lv' := [(1, .int r3), (0, .ref m)]) dX5_compared_8 rfl (by decide) rfl ?_
  refine MR_aload_n dX5_compared_9 1 rfl ?_
  refine MR_getS (k := 21) dX5_compared_10 q1285 (by decide) rfl rfl ?_
  refine MR_if_ge (tgt := 34) dX5_compared_13 (by decide) (fun c13 => ?_) (fun c13 => ?_)
  · have w := w.1 c13
    exact MR_vret dX5_compared_34 rfl w
  · have w := w.2 c13
    refine MR_iload_n dX5_compared_16 0 rfl ?_
    refine MR_bipush (v := 60) dX5_compared_17 (by decide) ?_
    refine MR_icmp_eq (tgt := 35) dX5_compared_19 (by decide) (fun c12 => ?_) (fun c12 => ?_)
    · have w := w.1 c12
      refine MR_aload_n dX5_compared_35 1 rfl ?_
      refine MR_dup dX5_compared_36 rfl ?_
      refine MR_getS (k := 20) dX5_compared_37 q1284 (by decide) rfl rfl ?_
      refine MR_iconst (v := 1) dX5_compared_40 (by decide) ?_
      refine MR_iadd dX5_compared_41 ?_
      refine MR_putS (k := 20) dX5_compared_42 q1284 (by decide) rfl rfl rfl rfl rfl ?_
      refine MR_aload_n dX5_compared_45 1 rfl ?_
      refine MR_invVv (Mc := mX5_sum) (As := []) (st := []) dX5_compared_46 q1531 q1533 qs60 q111 wX5_sum pX5_sum rfl (Nat.le_of_ble_eq_true rfl) (by decide) hdd (Nat.le_of_ble_eq_true rfl) w (fun sg4 w => ?_)
      refine MR_aload_n dX5_compared_49 1 rfl ?_
      refine MR_iload_n dX5_compared_50 0 rfl ?_
      refine MR_iconst (v := 0) dX5_compared_51 (by decide) ?_
      refine MR_invVv (Mc := mX5_addStep) (As := [.int r3, .int 0]) (st := []) dX5_compared_52 q1550 q1552 qs64 q111 wX5_addStep pX5_addStep rfl (Nat.le_of_ble_eq_true rfl) (by decide) (by omega) (Nat.le_of_ble_eq_true rfl) w (fun sg5 w => ?_)
      exact MR_vret dX5_compared_55 rfl w
    · have w := w.2 c12
      refine MR_iload_n dX5_compared_22 0 rfl ?_
      refine MR_bipush (v := 61) dX5_compared_23 (by decide) ?_
      refine MR_icmp_eq (tgt := 35) dX5_compared_25 (by decide) (fun c11 => ?_) (fun c11 => ?_)
      · have w := w.1 c11
        refine MR_aload_n dX5_compared_35 1 rfl ?_
        refine MR_dup dX5_compared_36 rfl ?_
        refine MR_getS (k := 20) dX5_compared_37 q1284 (by decide) rfl rfl ?_
        refine MR_iconst (v := 1) dX5_compared_40 (by decide) ?_
        refine MR_iadd dX5_compared_41 ?_
        refine MR_putS (k := 20) dX5_compared_42 q1284 (by decide) rfl rfl rfl rfl rfl ?_
        refine MR_aload_n dX5_compared_45 1 rfl ?_
        refine MR_invVv (Mc := mX5_sum) (As := []) (st := []) dX5_compared_46 q1531 q1533 qs60 q111 wX5_sum pX5_sum rfl (Nat.le_of_ble_eq_true rfl) (by decide) hdd (Nat.le_of_ble_eq_true rfl) w (fun sg6 w => ?_)
        refine MR_aload_n dX5_compared_49 1 rfl ?_
        refine MR_iload_n dX5_compared_50 0 rfl ?_
        refine MR_iconst (v := 0) dX5_compared_51 (by decide) ?_
        refine MR_invVv (Mc := mX5_addStep) (As := [.int r3, .int 0]) (st := []) dX5_compared_52 q1550 q1552 qs64 q111 wX5_addStep pX5_addStep rfl (Nat.le_of_ble_eq_true rfl) (by decide) (by omega) (Nat.le_of_ble_eq_true rfl) w (fun sg7 w => ?_)
        exact MR_vret dX5_compared_55 rfl w
      · have w := w.2 c11
        refine MR_iload_n dX5_compared_28 0 rfl ?_
        refine MR_bipush (v := 62) dX5_compared_29 (by decide) ?_
        refine MR_icmp_eq (tgt := 35) dX5_compared_31 (by decide) (fun c10 => ?_) (fun c10 => ?_)
        · have w := w.1 c10
          refine MR_aload_n dX5_compared_35 1 rfl ?_
          refine MR_dup dX5_compared_36 rfl ?_
          refine MR_getS (k := 20) dX5_compared_37 q1284 (by decide) rfl rfl ?_
          refine MR_iconst (v := 1) dX5_compared_40 (by decide) ?_
          refine MR_iadd dX5_compared_41 ?_
          refine MR_putS (k := 20) dX5_compared_42 q1284 (by decide) rfl rfl rfl rfl rfl ?_
          refine MR_aload_n dX5_compared_45 1 rfl ?_
          refine MR_invVv (Mc := mX5_sum) (As := []) (st := []) dX5_compared_46 q1531 q1533 qs60 q111 wX5_sum pX5_sum rfl (Nat.le_of_ble_eq_true rfl) (by decide) hdd (Nat.le_of_ble_eq_true rfl) w (fun sg8 w => ?_)
          refine MR_aload_n dX5_compared_49 1 rfl ?_
          refine MR_iload_n dX5_compared_50 0 rfl ?_
          refine MR_iconst (v := 0) dX5_compared_51 (by decide) ?_
          refine MR_invVv (Mc := mX5_addStep) (As := [.int r3, .int 0]) (st := []) dX5_compared_52 q1550 q1552 qs64 q111 wX5_addStep pX5_addStep rfl (Nat.le_of_ble_eq_true rfl) (by decide) (by omega) (Nat.le_of_ble_eq_true rfl) w (fun sg9 w => ?_)
          exact MR_vret dX5_compared_55 rfl w
        · have w := w.2 c10
          exact MR_vret dX5_compared_34 rfl w
theorem sX5_count_0 {G : GG} {m : Nat} {sg : MS} {Q : Outcome → MS → Prop} {a1 : Int32} (w : (a1 = 0 → (Q (.returned (some (.int (sg.1 1 0)))) sg)) ∧ (¬ a1 = 0 → ((a1 = 1 → (Q (.returned (some (.int (sg.1 5 0)))) sg)) ∧ (¬ a1 = 1 → ((a1 = 2 → (MR G mX5_namedMany 1 0 [(0, .ref m)] [] m sg (fun o sg4 => ∃ r5 : Int32, o = .returned (some (.int r5)) ∧ (Q (.returned (some (.int r5))) sg4)))) ∧ (¬ a1 = 2 → ((a1 = 3 → (Q (.returned (some (.int (sg.1 19 0)))) sg)) ∧ (¬ a1 = 3 → ((a1 = 4 → (Q (.returned (some (.int (sg.1 12 0)))) sg)) ∧ (¬ a1 = 4 → ((a1 = 5 → (Q (.returned (some (.int (sg.1 39 0)))) sg)) ∧ (¬ a1 = 5 → ((a1 = 6 → (Q (.returned (some (.int (sg.1 41 0)))) sg)) ∧ (¬ a1 = 6 → (Q (.returned (some (.int (-1)))) sg))))))))))))))) : MR G mX5_count 2 0 [(0, .ref m), (1, .int a1)] [] m sg Q := by
  refine MR_iload_n dX5_count_0 1 rfl ?_
  by_cases c1 : a1 = 0
  · have w := w.1 c1
    refine MR_tableIn (off := 43) (tgt := 44) dX5_count_1 (by rw [c1]; decide) (by rw [c1]; decide) (by rw [c1]; rfl) (by decide) ?_
    refine MR_aload_n dX5_count_44 0 rfl ?_
    refine MR_getS (k := 1) dX5_count_45 q1265 (by decide) rfl rfl ?_
    exact MR_iret dX5_count_48 rfl w
  · have w := w.2 c1
    by_cases c2 : a1 = 1
    · have w := w.1 c2
      refine MR_tableIn (off := 48) (tgt := 49) dX5_count_1 (by rw [c2]; decide) (by rw [c2]; decide) (by rw [c2]; rfl) (by decide) ?_
      refine MR_aload_n dX5_count_49 0 rfl ?_
      refine MR_getS (k := 5) dX5_count_50 q1269 (by decide) rfl rfl ?_
      exact MR_iret dX5_count_53 rfl w
    · have w := w.2 c2
      by_cases c3 : a1 = 2
      · have w := w.1 c3
        refine MR_tableIn (off := 53) (tgt := 54) dX5_count_1 (by rw [c3]; decide) (by rw [c3]; decide) (by rw [c3]; rfl) (by decide) ?_
        refine MR_aload_n dX5_count_54 0 rfl ?_
        refine MR_invVi (Mc := mX5_namedMany) (As := []) (st := []) dX5_count_55 q1776 q1778 qs100 q111 wX5_namedMany pX5_namedMany rfl (Nat.le_of_ble_eq_true rfl) (by decide) (by decide) (Nat.le_of_ble_eq_true rfl) w (fun r5 sg4 w => ?_)
        exact MR_iret dX5_count_58 rfl w
      · have w := w.2 c3
        by_cases c6 : a1 = 3
        · have w := w.1 c6
          refine MR_tableIn (off := 58) (tgt := 59) dX5_count_1 (by rw [c6]; decide) (by rw [c6]; decide) (by rw [c6]; rfl) (by decide) ?_
          refine MR_aload_n dX5_count_59 0 rfl ?_
          refine MR_getS (k := 19) dX5_count_60 q1283 (by decide) rfl rfl ?_
          exact MR_iret dX5_count_63 rfl w
        · have w := w.2 c6
          by_cases c7 : a1 = 4
          · have w := w.1 c7
            refine MR_tableIn (off := 63) (tgt := 64) dX5_count_1 (by rw [c7]; decide) (by rw [c7]; decide) (by rw [c7]; rfl) (by decide) ?_
            refine MR_aload_n dX5_count_64 0 rfl ?_
            refine MR_getS (k := 12) dX5_count_65 q1276 (by decide) rfl rfl ?_
            exact MR_iret dX5_count_68 rfl w
          · have w := w.2 c7
            by_cases c8 : a1 = 5
            · have w := w.1 c8
              refine MR_tableIn (off := 68) (tgt := 69) dX5_count_1 (by rw [c8]; decide) (by rw [c8]; decide) (by rw [c8]; rfl) (by decide) ?_
              refine MR_aload_n dX5_count_69 0 rfl ?_
              refine MR_getS (k := 39) dX5_count_70 q1303 (by decide) rfl rfl ?_
              exact MR_iret dX5_count_73 rfl w
            · have w := w.2 c8
              by_cases c9 : a1 = 6
              · have w := w.1 c9
                refine MR_tableIn (off := 73) (tgt := 74) dX5_count_1 (by rw [c9]; decide) (by rw [c9]; decide) (by rw [c9]; rfl) (by decide) ?_
                refine MR_aload_n dX5_count_74 0 rfl ?_
                refine MR_getS (k := 41) dX5_count_75 q1305 (by decide) rfl rfl ?_
                exact MR_iret dX5_count_78 rfl w
              · have w := w.2 c9
                refine MR_tableOut (tgt := 79) dX5_count_1 (sw_out a1 0 6 (by decide) (by decide) (fun j h1 h2 => ?_)) (by decide) ?_
                · intro e
                  have e2 : j = 0 ∨ j = 1 ∨ j = 2 ∨ j = 3 ∨ j = 4 ∨ j = 5 ∨ j = 6 := by omega
                  rcases e2 with rfl | rfl | rfl | rfl | rfl | rfl | rfl
                  · exact lv_neT c1 (by decide) e
                  · exact lv_neT c2 (by decide) e
                  · exact lv_neT c3 (by decide) e
                  · exact lv_neT c6 (by decide) e
                  · exact lv_neT c7 (by decide) e
                  · exact lv_neT c8 (by decide) e
                  · exact lv_neT c9 (by decide) e
                · refine MR_iconst (v := (-1)) dX5_count_79 (by decide) ?_
                  exact MR_iret dX5_count_80 rfl w
theorem sX5_counts_0 {G : GG} {m : Nat} {sg : MS} {Q : Outcome → MS → Prop} {a1 : Int32} (w : vp_in a1 16 ∧ (vp_in a1 16 ∧ (MR G mX5_lives 1 0 [(0, .ref m), (1, .int (sg.1 6 a1.toNatClampNeg)), (2, .int (sg.1 8 a1.toNatClampNeg))] [] m sg (fun o sg1 => ∃ b2 : Bool, o = .returned (some (.int (bi b2))) ∧ ((b2 = false → (Q (.returned (some (.int (bi false)))) sg1)) ∧ (b2 = true → (vp_in a1 16 ∧ (vp_in a1 16 ∧ (MR G mX5_lives 1 0 [(0, .ref m), (1, .int (sg1.1 7 a1.toNatClampNeg)), (2, .int (sg1.1 8 a1.toNatClampNeg))] [] m sg1 (fun o sg3 => ∃ b4 : Bool, o = .returned (some (.int (bi b4))) ∧ ((b4 = false → (Q (.returned (some (.int (bi false)))) sg3)) ∧ (b4 = true → (Q (.returned (some (.int (bi true)))) sg3))))))))))))) : MR G mX5_counts 2 0 [(0, .ref m), (1, .int a1)] [] m sg Q := by
  refine MR_aload_n dX5_counts_0 0 rfl ?_
  refine MR_aload_n dX5_counts_1 0 rfl ?_
  refine MR_getA (k := 6) (o := 4) (j := 0) (n := 16) dX5_counts_2 q1270 (by decide) rfl rfl ?_
  refine MR_iload_n dX5_counts_5 1 rfl ?_
  obtain ⟨c10, w⟩ := w
  refine MR_iald (k := 6) dX5_counts_6 (by decide) rfl c10 ?_
  refine MR_aload_n dX5_counts_7 0 rfl ?_
  refine MR_getA (k := 8) (o := 6) (j := 0) (n := 16) dX5_counts_8 q1272 (by decide) rfl rfl ?_
  refine MR_iload_n dX5_counts_11 1 rfl ?_
  obtain ⟨c9, w⟩ := w
  refine MR_iald (k := 8) dX5_counts_12 (by decide) rfl c9 ?_
  refine MR_invVz (Mc := mX5_lives) (As := [.int (sg.1 6 a1.toNatClampNeg), .int (sg.1 8 a1.toNatClampNeg)]) (st := []) dX5_counts_13 q1439 q1441 qs47 q111 wX5_lives pX5_lives rfl (Nat.le_of_ble_eq_true rfl) (by decide) (by decide) (Nat.le_of_ble_eq_true rfl) w (fun b2 sg1 w => ?_)
  refine MR_ifz_eq (tgt := 42) dX5_counts_16 (by decide) (fun c8 => ?_) (fun c8 => ?_)
  · have w := w.1 c8
    refine MR_iconst (v := 0) dX5_counts_42 (by decide) ?_
    exact MR_bret (b := false) dX5_counts_43 rfl w
  · have w := w.2 c8
    refine MR_aload_n dX5_counts_19 0 rfl ?_
    refine MR_aload_n dX5_counts_20 0 rfl ?_
    refine MR_getA (k := 7) (o := 5) (j := 0) (n := 16) dX5_counts_21 q1271 (by decide) rfl rfl ?_
    refine MR_iload_n dX5_counts_24 1 rfl ?_
    obtain ⟨c7, w⟩ := w
    refine MR_iald (k := 7) dX5_counts_25 (by decide) rfl c7 ?_
    refine MR_aload_n dX5_counts_26 0 rfl ?_
    refine MR_getA (k := 8) (o := 6) (j := 0) (n := 16) dX5_counts_27 q1272 (by decide) rfl rfl ?_
    refine MR_iload_n dX5_counts_30 1 rfl ?_
    obtain ⟨c6, w⟩ := w
    refine MR_iald (k := 8) dX5_counts_31 (by decide) rfl c6 ?_
    refine MR_invVz (Mc := mX5_lives) (As := [.int (sg1.1 7 a1.toNatClampNeg), .int (sg1.1 8 a1.toNatClampNeg)]) (st := []) dX5_counts_32 q1439 q1441 qs47 q111 wX5_lives pX5_lives rfl (Nat.le_of_ble_eq_true rfl) (by decide) (by decide) (Nat.le_of_ble_eq_true rfl) w (fun b4 sg3 w => ?_)
    refine MR_ifz_eq (tgt := 42) dX5_counts_35 (by decide) (fun c5 => ?_) (fun c5 => ?_)
    · have w := w.1 c5
      refine MR_iconst (v := 0) dX5_counts_42 (by decide) ?_
      exact MR_bret (b := false) dX5_counts_43 rfl w
    · have w := w.2 c5
      refine MR_iconst (v := 1) dX5_counts_38 (by decide) ?_
      refine MR_goto (tgt := 43) dX5_counts_39 (by decide) ?_
      exact MR_bret (b := true) dX5_counts_43 rfl w
theorem sX5_doesHold_0 {G : GG} {m : Nat} {sg : MS} {Q : Outcome → MS → Prop} {a1 a2 a3 a4 : Int32} (w : MR G mX5_lives 1 0 [(0, .ref m), (1, .int a1), (2, .int a3)] [] m sg (fun o sg1 => ∃ b2 : Bool, o = .returned (some (.int (bi b2))) ∧ ((b2 = true → (MR G mX5_doesHold 5 14 [(0, .ref m), (1, .int a1), (2, .int a2), (3, .int a3), (4, .int a4), (5, .int 0)] [] m sg1 Q)) ∧ (b2 = false → (Q (.returned (some (.int (bi false)))) sg1))))) : MR G mX5_doesHold 5 0 [(0, .ref m), (1, .int a1), (2, .int a2), (3, .int a3), (4, .int a4)] [] m sg Q := by
  refine MR_aload_n dX5_doesHold_0 0 rfl ?_
  refine MR_iload_n dX5_doesHold_1 1 rfl ?_
  refine MR_iload_n dX5_doesHold_2 3 rfl ?_
  refine MR_invVz (Mc := mX5_lives) (As := [.int a1, .int a3]) (st := []) dX5_doesHold_3 q1439 q1441 qs47 q111 wX5_lives pX5_lives rfl (Nat.le_of_ble_eq_true rfl) (by decide) (by decide) (Nat.le_of_ble_eq_true rfl) w (fun b2 sg1 w => ?_)
  refine MR_ifz_ne (tgt := 11) dX5_doesHold_6 (by decide) (fun c3 => ?_) (fun c3 => ?_)
  · have w := w.1 c3
    refine MR_iconst (v := 0) dX5_doesHold_11 (by decide) ?_
    refine MR_istore (lv' := [(5, .int 0), (0, .ref m), (1, .int a1), (2, .int a2), (3, .int a3), (4, .int a4)]) dX5_doesHold_12 (by decide) rfl ?_
    exact MR_sub [1, 2, 3, 4, 5, 0] rfl w
  · have w := w.2 c3
    refine MR_iconst (v := 0) dX5_doesHold_9 (by decide) ?_
    exact MR_bret (b := false) dX5_doesHold_10 rfl w
theorem sX5_doesHold_14 {G : GG} {m : Nat} {sg : MS} {Q : Outcome → MS → Prop} {a1 a2 a3 a4 a5 : Int32} (w : ((sg.1 1 0) ≤ a5 → (Q (.returned (some (.int (bi false)))) sg)) ∧ (¬ (sg.1 1 0) ≤ a5 → (MR G mX5_bears 1 0 [(0, .ref m), (1, .int a5), (2, .int a2), (3, .int a3), (4, .int a4)] [] m sg (fun o sg1 => ∃ b2 : Bool, o = .returned (some (.int (bi b2))) ∧ ((b2 = false → (MR G mX5_doesHold 5 14 [(0, .ref m), (1, .int a1), (2, .int a2), (3, .int a3), (4, .int a4), (5, .int (a5 + 1))] [] m sg1 Q)) ∧ (b2 = true → (vp_in a1 12 ∧ ((¬ (((sg1.1 32 a1.toNatClampNeg) >>> (a5 &&& 31)) &&& 1) = 1 → (MR G mX5_doesHold 5 14 [(0, .ref m), (1, .int a1), (2, .int a2), (3, .int a3), (4, .int a4), (5, .int (a5 + 1))] [] m sg1 Q)) ∧ ((((sg1.1 32 a1.toNatClampNeg) >>> (a5 &&& 31)) &&& 1) = 1 → (MR G mX5_holdsFor 4 0 [(0, .ref m), (1, .int a1), (2, .int a5), (3, .int a2), (4, .int a3)] [] m sg1 (fun o sg3 => ∃ b4 : Bool, o = .returned (some (.int (bi b4))) ∧ ((b4 = false → (MR G mX5_doesHold 5 14 [(0, .ref m), (1, .int a1), (2, .int a2), (3, .int a3), (4, .int a4), (5, .int (a5 + 1))] [] m sg3 Q)) ∧ (b4 = true → (Q (.returned (some (.int (bi true)))) sg3)))))))))))))) : MR G mX5_doesHold 5 14 [(0, .ref m), (1, .int a1), (2, .int a2), (3, .int a3), (4, .int a4), (5, .int a5)] [] m sg Q := by
  refine MR_iload dX5_doesHold_14 5 rfl ?_
  refine MR_aload_n dX5_doesHold_16 0 rfl ?_
  refine MR_getS (k := 1) dX5_doesHold_17 q1265 (by decide) rfl rfl ?_
  refine MR_icmp_ge (tgt := 71) dX5_doesHold_20 (by decide) (fun c9 => ?_) (fun c9 => ?_)
  · have w := w.1 c9
    refine MR_iconst (v := 0) dX5_doesHold_71 (by decide) ?_
    exact MR_bret (b := false) dX5_doesHold_72 rfl w
  · have w := w.2 c9
    refine MR_aload_n dX5_doesHold_23 0 rfl ?_
    refine MR_iload dX5_doesHold_24 5 rfl ?_
    refine MR_iload_n dX5_doesHold_26 2 rfl ?_
    refine MR_iload_n dX5_doesHold_27 3 rfl ?_
    refine MR_iload dX5_doesHold_28 4 rfl ?_
    refine MR_invVz (Mc := mX5_bears) (As := [.int a5, .int a2, .int a3, .int a4]) (st := []) dX5_doesHold_30 q1594 q1596 qs73 q111 wX5_bears pX5_bears rfl (Nat.le_of_ble_eq_true rfl) (by decide) (by decide) (Nat.le_of_ble_eq_true rfl) w (fun b2 sg1 w => ?_)
    refine MR_ifz_eq (tgt := 65) dX5_doesHold_33 (by decide) (fun c8 => ?_) (fun c8 => ?_)
    · have w := w.1 c8
      refine MR_iinc (v := (a5 + 1)) (lv' := [(5, .int (a5 + 1)), (0, .ref m), (1, .int a1), (2, .int a2), (3, .int a3), (4, .int a4)]) dX5_doesHold_65 5 rfl (congrArg (fun z => a5 + z) (show Int32.ofInt 1 = 1 by decide)) (by decide) rfl ?_
      refine MR_goto (tgt := 14) dX5_doesHold_68 (by decide) ?_
      exact MR_sub [1, 2, 3, 4, 5, 0] rfl w
    · have w := w.2 c8
      refine MR_aload_n dX5_doesHold_36 0 rfl ?_
      refine MR_getA (k := 32) (o := 21) (j := 0) (n := 12) dX5_doesHold_37 q1296 (by decide) rfl rfl ?_
      refine MR_iload_n dX5_doesHold_40 1 rfl ?_
      obtain ⟨c7, w⟩ := w
      refine MR_iald (k := 32) dX5_doesHold_41 (by decide) rfl c7 ?_
      refine MR_iload dX5_doesHold_42 5 rfl ?_
      refine MR_ishr dX5_doesHold_44 ?_
      refine MR_iconst (v := 1) dX5_doesHold_45 (by decide) ?_
      refine MR_iand dX5_doesHold_46 ?_
      refine MR_iconst (v := 1) dX5_doesHold_47 (by decide) ?_
      refine MR_icmp_ne (tgt := 65) dX5_doesHold_48 (by decide) (fun c6 => ?_) (fun c6 => ?_)
      · have w := w.1 c6
        refine MR_iinc (v := (a5 + 1)) (lv' := [(5, .int (a5 + 1)), (0, .ref m), (1, .int a1), (2, .int a2), (3, .int a3), (4, .int a4)]) dX5_doesHold_65 5 rfl (congrArg (fun z => a5 + z) (show Int32.ofInt 1 = 1 by decide)) (by decide) rfl ?_
        refine MR_goto (tgt := 14) dX5_doesHold_68 (by decide) ?_
        exact MR_sub [1, 2, 3, 4, 5, 0] rfl w
      · have w := w.2 c6
        refine MR_aload_n dX5_doesHold_51 0 rfl ?_
        refine MR_iload_n dX5_doesHold_52 1 rfl ?_
        refine MR_iload dX5_doesHold_53 5 rfl ?_
        refine MR_iload_n dX5_doesHold_55 2 rfl ?_
        refine MR_iload_n dX5_doesHold_56 3 rfl ?_
        refine MR_invVz (Mc := mX5_holdsFor) (As := [.int a1, .int a5, .int a2, .int a3]) (st := []) dX5_doesHold_57 q1606 q1608 qs76 q111 wX5_holdsFor pX5_holdsFor rfl (Nat.le_of_ble_eq_true rfl) (by decide) (by decide) (Nat.le_of_ble_eq_true rfl) w (fun b4 sg3 w => ?_)
        refine MR_ifz_eq (tgt := 65) dX5_doesHold_60 (by decide) (fun c5 => ?_) (fun c5 => ?_)
        · have w := w.1 c5
          refine MR_iinc (v := (a5 + 1)) (lv' := [(5, .int (a5 + 1)), (0, .ref m), (1, .int a1), (2, .int a2), (3, .int a3), (4, .int a4)]) dX5_doesHold_65 5 rfl (congrArg (fun z => a5 + z) (show Int32.ofInt 1 = 1 by decide)) (by decide) rfl ?_
          refine MR_goto (tgt := 14) dX5_doesHold_68 (by decide) ?_
          exact MR_sub [1, 2, 3, 4, 5, 0] rfl w
        · have w := w.2 c5
          refine MR_iconst (v := 1) dX5_doesHold_63 (by decide) ?_
          exact MR_bret (b := true) dX5_doesHold_64 rfl w
theorem sX5_either_0 {G : GG} {m : Nat} {sg : MS} {Q : Outcome → MS → Prop} {d d' : Nat} (hdd : d' + 1 ≤ d) (h9 : 9 ≤ d) (w : MR G mX5_both d' 0 [(0, .ref m)] [] m sg (fun o sg1 => o = .returned none ∧ (MR G mX5_either d 4 [(0, .ref m)] [] m sg1 Q))) : MR G mX5_either d 0 [(0, .ref m)] [] m sg Q := by
  refine MR_aload_n dX5_either_0 0 rfl ?_
  refine MR_invVv (Mc := mX5_both) (As := []) (st := []) dX5_either_1 q1523 q1525 qs58 q111 wX5_both pX5_both rfl (Nat.le_of_ble_eq_true rfl) (by decide) hdd (Nat.le_of_ble_eq_true rfl) w (fun sg1 w => ?_)
  exact w
theorem sX5_either_4 {G : GG} {m : Nat} {sg : MS} {Q : Outcome → MS → Prop} {d d' : Nat} (hdd : d' + 1 ≤ d) (h9 : 9 ≤ d) (w : (0 ≤ (sg.1 21 0) → (Q (.returned none) sg)) ∧ (¬ 0 ≤ (sg.1 21 0) → (MR G mX5_look 1 0 [(0, .ref m)] [] m sg (fun o sg1 => ∃ r2 : Int32, o = .returned (some (.int r2)) ∧ ((¬ r2 = 124 → (Q (.returned none) sg1)) ∧ (r2 = 124 → (MR G mX5_both d' 0 [(0, .ref m)] [] m (uS sg1 20 0 ((sg1.1 20 0) + 1)) (fun o sg3 => o = .returned none ∧ (MR G mX5_addStep 1 0 [(0, .ref m), (1, .int 124), (2, .int 0)] [] m sg3 (fun o sg4 => o = .returned none ∧ (MR G mX5_either d 4 [(0, .ref m)] [] m sg4 Q))))))))))) : MR G mX5_either d 4 [(0, .ref m)] [] m sg Q := by
  refine MR_aload_n dX5_either_4 0 rfl ?_
  refine MR_getS (k := 21) dX5_either_5 q1285 (by decide) rfl rfl ?_
  refine MR_if_ge (tgt := 44) dX5_either_8 (by decide) (fun c6 => ?_) (fun c6 => ?_)
  · have w := w.1 c6
    exact MR_vret dX5_either_44 rfl w
  · have w := w.2 c6
    refine MR_aload_n dX5_either_11 0 rfl ?_
    refine MR_invVi (Mc := mX5_look) (As := []) (st := []) dX5_either_12 q1543 q1545 qs63 q111 wX5_look pX5_look rfl (Nat.le_of_ble_eq_true rfl) (by decide) (by omega) (Nat.le_of_ble_eq_true rfl) w (fun r2 sg1 w => ?_)
    refine MR_bipush (v := 124) dX5_either_15 (by decide) ?_
    refine MR_icmp_ne (tgt := 44) dX5_either_17 (by decide) (fun c5 => ?_) (fun c5 => ?_)
    · have w := w.1 c5
      exact MR_vret dX5_either_44 rfl w
    · have w := w.2 c5
      refine MR_aload_n dX5_either_20 0 rfl ?_
      refine MR_dup dX5_either_21 rfl ?_
      refine MR_getS (k := 20) dX5_either_22 q1284 (by decide) rfl rfl ?_
      refine MR_iconst (v := 1) dX5_either_25 (by decide) ?_
      refine MR_iadd dX5_either_26 ?_
      refine MR_putS (k := 20) dX5_either_27 q1284 (by decide) rfl rfl rfl rfl rfl ?_
      refine MR_aload_n dX5_either_30 0 rfl ?_
      refine MR_invVv (Mc := mX5_both) (As := []) (st := []) dX5_either_31 q1523 q1525 qs58 q111 wX5_both pX5_both rfl (Nat.le_of_ble_eq_true rfl) (by decide) hdd (Nat.le_of_ble_eq_true rfl) w (fun sg3 w => ?_)
      refine MR_aload_n dX5_either_34 0 rfl ?_
      refine MR_bipush (v := 124) dX5_either_35 (by decide) ?_
      refine MR_iconst (v := 0) dX5_either_37 (by decide) ?_
      refine MR_invVv (Mc := mX5_addStep) (As := [.int 124, .int 0]) (st := []) dX5_either_38 q1550 q1552 qs64 q111 wX5_addStep pX5_addStep rfl (Nat.le_of_ble_eq_true rfl) (by decide) (by omega) (Nat.le_of_ble_eq_true rfl) w (fun sg4 w => ?_)
      refine MR_goto (tgt := 4) dX5_either_41 (by decide) ?_
      exact w
theorem sX5_element_0 {G : GG} {m : Nat} {sg : MS} {Q : Outcome → MS → Prop} {a1 a2 : Int32} (w : MR G mX5_whyNoPlace 3 0 [(0, .ref m), (1, .int a1), (2, .int a2)] [] m sg (fun o sg1 => ∃ r2 : Int32, o = .returned (some (.int r2)) ∧ ((0 ≤ r2 → (vp_in ((60 * a1) + a2) 360 ∧ (Q (.returned (some (.long (sg1.2 45 ((60 * a1) + a2).toNatClampNeg)))) sg1))) ∧ (¬ 0 ≤ r2 → (Q (.returned (some (.long (-9223372036854775808)))) sg1))))) : MR G mX5_element 4 0 [(0, .ref m), (1, .int a1), (2, .int a2)] [] m sg Q := by
  refine MR_aload_n dX5_element_0 0 rfl ?_
  refine MR_iload_n dX5_element_1 1 rfl ?_
  refine MR_iload_n dX5_element_2 2 rfl ?_
  refine MR_invVi (Mc := mX5_whyNoPlace) (As := [.int a1, .int a2]) (st := []) dX5_element_3 q1792 q1794 qs101 q111 wX5_whyNoPlace pX5_whyNoPlace rfl (Nat.le_of_ble_eq_true rfl) (by decide) (by decide) (Nat.le_of_ble_eq_true rfl) w (fun r2 sg1 w => ?_)
  refine MR_if_ge (tgt := 15) dX5_element_6 (by decide) (fun c4 => ?_) (fun c4 => ?_)
  · have w := w.1 c4
    refine MR_aload_n dX5_element_15 0 rfl ?_
    refine MR_getA (k := 45) (o := 30) (j := 1) (n := 360) dX5_element_16 q1309 (by decide) rfl rfl ?_
    refine MR_bipush (v := 60) dX5_element_19 (by decide) ?_
    refine MR_iload_n dX5_element_21 1 rfl ?_
    refine MR_imul dX5_element_22 ?_
    refine MR_iload_n dX5_element_23 2 rfl ?_
    refine MR_iadd dX5_element_24 ?_
    obtain ⟨c3, w⟩ := w
    refine MR_lald (k := 45) dX5_element_25 (by decide) rfl c3 ?_
    exact MR_lret dX5_element_26 rfl w
  · have w := w.2 c4
    refine MR_ldc2 (v := (-9223372036854775808)) dX5_element_9 q1800 ?_
    refine MR_goto (tgt := 26) dX5_element_12 (by decide) ?_
    exact MR_lret dX5_element_26 rfl w
theorem sX5_everybody_0 {G : GG} {m : Nat} {sg : MS} {Q : Outcome → MS → Prop} (w : Q (.returned (some (.int (((1 : Int32) <<< ((sg.1 1 0) &&& 31)) - 1)))) sg) : MR G mX5_everybody 1 0 [(0, .ref m)] [] m sg Q := by
  refine MR_iconst (v := 1) dX5_everybody_0 (by decide) ?_
  refine MR_aload_n dX5_everybody_1 0 rfl ?_
  refine MR_getS (k := 1) dX5_everybody_2 q1265 (by decide) rfl rfl ?_
  refine MR_ishl dX5_everybody_5 ?_
  refine MR_iconst (v := 1) dX5_everybody_6 (by decide) ?_
  refine MR_isub dX5_everybody_7 ?_
  exact MR_iret dX5_everybody_8 rfl w
theorem sX5_fame_0 {G : GG} {m : Nat} {sg : MS} {Q : Outcome → MS → Prop} {a1 a2 : Int32} (w : MR G mX5_isName 2 0 [(0, .int a1)] [] m sg (fun o sg1 => ∃ b2 : Bool, o = .returned (some (.int (bi b2))) ∧ ((b2 = false → (Q (.returned (some (.int (-1)))) sg1)) ∧ (b2 = true → (MR G mX5_in 1 0 [(0, .int a2), (1, .int 0), (2, .int 1)] [] m sg1 (fun o sg3 => ∃ b4 : Bool, o = .returned (some (.int (bi b4))) ∧ ((b4 = true → (vp_in a1 12 ∧ (vp_in a1 12 ∧ (Q (.returned (some (.int (sg3.1 11 a1.toNatClampNeg)))) (uS sg3 11 a1.toNatClampNeg a2))))) ∧ (b4 = false → (Q (.returned (some (.int (-1)))) sg3))))))))) : MR G mX5_fame 3 0 [(0, .ref m), (1, .int a1), (2, .int a2)] [] m sg Q := by
  refine MR_iload_n dX5_fame_0 1 rfl ?_
  refine MR_invSz (Mc := mX5_isName) (As := [.int a1]) (st := []) dX5_fame_1 q1456 q1457 q111 wX5_isName pX5_isName rfl (Nat.le_of_ble_eq_true rfl) (by decide) (by decide) (Nat.le_of_ble_eq_true rfl) w (fun b2 sg1 w => ?_)
  refine MR_ifz_eq (tgt := 16) dX5_fame_4 (by decide) (fun c8 => ?_) (fun c8 => ?_)
  · have w := w.1 c8
    refine MR_iconst (v := (-1)) dX5_fame_16 (by decide) ?_
    exact MR_iret dX5_fame_17 rfl w
  · have w := w.2 c8
    refine MR_iload_n dX5_fame_7 2 rfl ?_
    refine MR_iconst (v := 0) dX5_fame_8 (by decide) ?_
    refine MR_iconst (v := 1) dX5_fame_9 (by decide) ?_
    refine MR_invSz (Mc := mX5_in) (As := [.int a2, .int 0, .int 1]) (st := []) dX5_fame_10 q1416 q1417 q111 wX5_in pX5_in rfl (Nat.le_of_ble_eq_true rfl) (by decide) (by decide) (Nat.le_of_ble_eq_true rfl) w (fun b4 sg3 w => ?_)
    refine MR_ifz_ne (tgt := 18) dX5_fame_13 (by decide) (fun c7 => ?_) (fun c7 => ?_)
    · have w := w.1 c7
      refine MR_aload_n dX5_fame_18 0 rfl ?_
      refine MR_getA (k := 11) (o := 8) (j := 0) (n := 12) dX5_fame_19 q1275 (by decide) rfl rfl ?_
      refine MR_iload_n dX5_fame_22 1 rfl ?_
      obtain ⟨c6, w⟩ := w
      refine MR_iald (k := 11) dX5_fame_23 (by decide) rfl c6 ?_
      refine MR_istore_n (lv' := [(3, .int (sg3.1 11 a1.toNatClampNeg)), (0, .ref m), (1, .int a1), (2, .int a2)]) dX5_fame_24 rfl (by decide) rfl ?_
      refine MR_aload_n dX5_fame_25 1 rfl ?_
      refine MR_getA (k := 11) (o := 8) (j := 0) (n := 12) dX5_fame_26 q1275 (by decide) rfl rfl ?_
      refine MR_iload_n dX5_fame_29 2 rfl ?_
      refine MR_iload_n dX5_fame_30 3 rfl ?_
      obtain ⟨c5, w⟩ := w
      refine MR_iast (k := 11) dX5_fame_31 (by decide) rfl c5 ?_
      refine MR_iload_n dX5_fame_32 0 rfl ?_
      exact MR_iret dX5_fame_33 rfl w
    · have w := w.2 c7
      refine MR_iconst (v := (-1)) dX5_fame_16 (by decide) ?_
      exact MR_iret dX5_fame_17 rfl w
theorem sX5_faulty_0 {G : GG} {m : Nat} {sg : MS} {Q : Outcome → MS → Prop} (w : (0 ≤ (sg.1 21 0) → (Q (.returned none) sg)) ∧ (¬ 0 ≤ (sg.1 21 0) → (Q (.returned none) (uS sg 21 0 (sg.1 20 0))))) : MR G mX5_faulty 1 0 [(0, .ref m)] [] m sg Q := by
  refine MR_aload_n dX5_faulty_0 0 rfl ?_
  refine MR_getS (k := 21) dX5_faulty_1 q1285 (by decide) rfl rfl ?_
  refine MR_if_ge (tgt := 15) dX5_faulty_4 (by decide) (fun c1 => ?_) (fun c1 => ?_)
  · have w := w.1 c1
    exact MR_vret dX5_faulty_15 rfl w
  · have w := w.2 c1
    refine MR_aload_n dX5_faulty_7 0 rfl ?_
    refine MR_aload_n dX5_faulty_8 0 rfl ?_
    refine MR_getS (k := 20) dX5_faulty_9 q1284 (by decide) rfl rfl ?_
    refine MR_putS (k := 21) dX5_faulty_12 q1285 (by decide) rfl rfl rfl rfl rfl ?_
    exact MR_vret dX5_faulty_15 rfl w
theorem sX5_feed_0 {G : GG} {m : Nat} {sg : MS} {Q : Outcome → MS → Prop} {a1 : Int32} (w : MR G mX5_in 1 0 [(0, .int a1), (1, .int 0), (2, .int 255)] [] m sg (fun o sg1 => ∃ b2 : Bool, o = .returned (some (.int (bi b2))) ∧ ((b2 = true → ((¬ (sg1.1 19 0) = 120 → (vp_in (sg1.1 19 0) 120 ∧ (Q (.returned (some (.int ((uS (uS sg1 18 (sg1.1 19 0).toNatClampNeg a1.toInt8.toInt32) 19 0 (((uS sg1 18 (sg1.1 19 0).toNatClampNeg a1.toInt8.toInt32).1 19 0) + 1)).1 19 0)))) (uS (uS sg1 18 (sg1.1 19 0).toNatClampNeg a1.toInt8.toInt32) 19 0 (((uS sg1 18 (sg1.1 19 0).toNatClampNeg a1.toInt8.toInt32).1 19 0) + 1))))) ∧ ((sg1.1 19 0) = 120 → (Q (.returned (some (.int (-3)))) sg1)))) ∧ (b2 = false → (Q (.returned (some (.int (-1)))) sg1))))) : MR G mX5_feed 2 0 [(0, .ref m), (1, .int a1)] [] m sg Q := by
  refine MR_iload_n dX5_feed_0 1 rfl ?_
  refine MR_iconst (v := 0) dX5_feed_1 (by decide) ?_
  refine MR_sipush (v := 255) dX5_feed_2 (by decide) ?_
  refine MR_invSz (Mc := mX5_in) (As := [.int a1, .int 0, .int 255]) (st := []) dX5_feed_5 q1416 q1417 q111 wX5_in pX5_in rfl (Nat.le_of_ble_eq_true rfl) (by decide) (by decide) (Nat.le_of_ble_eq_true rfl) w (fun b2 sg1 w => ?_)
  refine MR_ifz_ne (tgt := 13) dX5_feed_8 (by decide) (fun c5 => ?_) (fun c5 => ?_)
  · have w := w.1 c5
    refine MR_aload_n dX5_feed_13 0 rfl ?_
    refine MR_getS (k := 19) dX5_feed_14 q1283 (by decide) rfl rfl ?_
    refine MR_bipush (v := 120) dX5_feed_17 (by decide) ?_
    refine MR_icmp_ne (tgt := 25) dX5_feed_19 (by decide) (fun c4 => ?_) (fun c4 => ?_)
    · have w := w.1 c4
      refine MR_aload_n dX5_feed_25 0 rfl ?_
      refine MR_getA (k := 18) (o := 13) (j := 2) (n := 120) dX5_feed_26 q1282 (by decide) rfl rfl ?_
      refine MR_aload_n dX5_feed_29 0 rfl ?_
      refine MR_getS (k := 19) dX5_feed_30 q1283 (by decide) rfl rfl ?_
      refine MR_iload_n dX5_feed_33 1 rfl ?_
      refine MR_i2b dX5_feed_34 ?_
      obtain ⟨c3, w⟩ := w
      refine MR_bast (k := 18) dX5_feed_35 (by decide) rfl c3 (pk_vb _) ?_
      refine MR_aload_n dX5_feed_36 0 rfl ?_
      refine MR_dup dX5_feed_37 rfl ?_
      refine MR_getS (k := 19) dX5_feed_38 q1283 (by decide) rfl rfl ?_
      refine MR_iconst (v := 1) dX5_feed_41 (by decide) ?_
      refine MR_iadd dX5_feed_42 ?_
      refine MR_putS (k := 19) dX5_feed_43 q1283 (by decide) rfl rfl rfl rfl rfl ?_
      refine MR_aload_n dX5_feed_46 0 rfl ?_
      refine MR_getS (k := 19) dX5_feed_47 q1283 (by decide) rfl rfl ?_
      exact MR_iret dX5_feed_50 rfl w
    · have w := w.2 c4
      refine MR_bipush (v := (-3)) dX5_feed_22 (by decide) ?_
      exact MR_iret dX5_feed_24 rfl w
  · have w := w.2 c5
    refine MR_iconst (v := (-1)) dX5_feed_11 (by decide) ?_
    exact MR_iret dX5_feed_12 rfl w
theorem sX5_figure_0 {G : GG} {m : Nat} {sg : MS} {Q : Outcome → MS → Prop} (w : MR G mX5_figure 2 4 [(0, .ref m), (1, .int 0), (2, .int 0)] [] m sg Q) : MR G mX5_figure 2 0 [(0, .ref m)] [] m sg Q := by
  refine MR_iconst (v := 0) dX5_figure_0 (by decide) ?_
  refine MR_istore_n (lv' := [(1, .int 0), (0, .ref m)]) dX5_figure_1 rfl (by decide) rfl ?_
  refine MR_iconst (v := 0) dX5_figure_2 (by decide) ?_
  refine MR_istore_n (lv' := [(2, .int 0), (1, .int 0), (0, .ref m)]) dX5_figure_3 rfl (by decide) rfl ?_
  exact MR_sub [2, 1, 0] rfl w
theorem sX5_figure_4 {G : GG} {m : Nat} {sg : MS} {Q : Outcome → MS → Prop} {a1 a2 : Int32} (w : (4 ≤ a2 → (MR G mX5_figure 2 52 [(0, .ref m), (1, .int a1), (2, .int a2)] [] m sg Q)) ∧ (¬ 4 ≤ a2 → (MR G mX5_look 1 0 [(0, .ref m)] [] m sg (fun o sg1 => ∃ r2 : Int32, o = .returned (some (.int r2)) ∧ (MR G mX5_in 1 0 [(0, .int r2), (1, .int 48), (2, .int 57)] [] m sg1 (fun o sg3 => ∃ b4 : Bool, o = .returned (some (.int (bi b4))) ∧ ((b4 = false → (MR G mX5_figure 2 52 [(0, .ref m), (1, .int a1), (2, .int a2)] [] m sg3 Q)) ∧ (b4 = true → (MR G mX5_look 1 0 [(0, .ref m)] [] m sg3 (fun o sg5 => ∃ r6 : Int32, o = .returned (some (.int r6)) ∧ (MR G mX5_figure 2 4 [(0, .ref m), (1, .int (((10 * a1) + r6) - 48)), (2, .int (a2 + 1))] [] m (uS sg5 20 0 ((sg5.1 20 0) + 1)) Q))))))))))) : MR G mX5_figure 2 4 [(0, .ref m), (1, .int a1), (2, .int a2)] [] m sg Q := by
  refine MR_iload_n dX5_figure_4 2 rfl ?_
  refine MR_iconst (v := 4) dX5_figure_5 (by decide) ?_
  refine MR_icmp_ge (tgt := 52) dX5_figure_6 (by decide) (fun c8 => ?_) (fun c8 => ?_)
  · have w := w.1 c8
    exact w
  · have w := w.2 c8
    refine MR_aload_n dX5_figure_9 0 rfl ?_
    refine MR_invVi (Mc := mX5_look) (As := []) (st := []) dX5_figure_10 q1543 q1545 qs63 q111 wX5_look pX5_look rfl (Nat.le_of_ble_eq_true rfl) (by decide) (by decide) (Nat.le_of_ble_eq_true rfl) w (fun r2 sg1 w => ?_)
    refine MR_bipush (v := 48) dX5_figure_13 (by decide) ?_
    refine MR_bipush (v := 57) dX5_figure_15 (by decide) ?_
    refine MR_invSz (Mc := mX5_in) (As := [.int r2, .int 48, .int 57]) (st := []) dX5_figure_17 q1416 q1417 q111 wX5_in pX5_in rfl (Nat.le_of_ble_eq_true rfl) (by decide) (by decide) (Nat.le_of_ble_eq_true rfl) w (fun b4 sg3 w => ?_)
    refine MR_ifz_eq (tgt := 52) dX5_figure_20 (by decide) (fun c7 => ?_) (fun c7 => ?_)
    · have w := w.1 c7
      exact w
    · have w := w.2 c7
      refine MR_bipush (v := 10) dX5_figure_23 (by decide) ?_
      refine MR_iload_n dX5_figure_25 1 rfl ?_
      refine MR_imul dX5_figure_26 ?_
      refine MR_aload_n dX5_figure_27 0 rfl ?_
      refine MR_invVi (Mc := mX5_look) (As := []) (st := [.int (10 * a1)]) dX5_figure_28 q1543 q1545 qs63 q111 wX5_look pX5_look rfl (Nat.le_of_ble_eq_true rfl) (by decide) (by decide) (Nat.le_of_ble_eq_true rfl) w (fun r6 sg5 w => ?_)
      refine MR_iadd dX5_figure_31 ?_
      refine MR_bipush (v := 48) dX5_figure_32 (by decide) ?_
      refine MR_isub dX5_figure_34 ?_
      refine MR_istore_n (lv' := [(1, .int (((10 * a1) + r6) - 48)), (0, .ref m), (2, .int a2)]) dX5_figure_35 rfl (by decide) rfl ?_
      refine MR_iinc (v := (a2 + 1)) (lv' := [(2, .int (a2 + 1)), (1, .int (((10 * a1) + r6) - 48)), (0, .ref m)]) dX5_figure_36 2 rfl (congrArg (fun z => a2 + z) (show Int32.ofInt 1 = 1 by decide)) (by decide) rfl ?_
      refine MR_aload_n dX5_figure_39 2 rfl ?_
      refine MR_dup dX5_figure_40 rfl ?_
      refine MR_getS (k := 20) dX5_figure_41 q1284 (by decide) rfl rfl ?_
      refine MR_iconst (v := 1) dX5_figure_44 (by decide) ?_
      refine MR_iadd dX5_figure_45 ?_
      refine MR_putS (k := 20) dX5_figure_46 q1284 (by decide) rfl rfl rfl rfl rfl ?_
      refine MR_goto (tgt := 4) dX5_figure_49 (by decide) ?_
      exact MR_sub [2, 1, 0] rfl w
theorem sX5_figure_52 {G : GG} {m : Nat} {sg : MS} {Q : Outcome → MS → Prop} {a1 a2 : Int32} (w : (a2 = 0 → (MR G mX5_faulty 1 0 [(0, .ref m)] [] m sg (fun o sg1 => o = .returned none ∧ (MR G mX5_addStep 1 0 [(0, .ref m), (1, .int 1), (2, .int a1)] [] m sg1 (fun o sg2 => o = .returned none ∧ (Q (.returned none) sg2)))))) ∧ (¬ a2 = 0 → (MR G mX5_look 1 0 [(0, .ref m)] [] m sg (fun o sg3 => ∃ r4 : Int32, o = .returned (some (.int r4)) ∧ (MR G mX5_in 1 0 [(0, .int r4), (1, .int 48), (2, .int 57)] [] m sg3 (fun o sg5 => ∃ b6 : Bool, o = .returned (some (.int (bi b6))) ∧ ((b6 = false → (MR G mX5_addStep 1 0 [(0, .ref m), (1, .int 1), (2, .int a1)] [] m sg5 (fun o sg7 => o = .returned none ∧ (Q (.returned none) sg7)))) ∧ (b6 = true → (MR G mX5_faulty 1 0 [(0, .ref m)] [] m sg5 (fun o sg8 => o = .returned none ∧ (MR G mX5_addStep 1 0 [(0, .ref m), (1, .int 1), (2, .int a1)] [] m sg8 (fun o sg9 => o = .returned none ∧ (Q (.returned none) sg9))))))))))))) : MR G mX5_figure 2 52 [(0, .ref m), (1, .int a1), (2, .int a2)] [] m sg Q := by
  refine MR_iload_n dX5_figure_52 2 rfl ?_
  refine MR_if_eq (tgt := 70) dX5_figure_53 (by decide) (fun c11 => ?_) (fun c11 => ?_)
  · have w := w.1 c11
    refine MR_aload_n dX5_figure_70 0 rfl ?_
    refine MR_invVv (Mc := mX5_faulty) (As := []) (st := []) dX5_figure_71 q1558 q1560 qs66 q111 wX5_faulty pX5_faulty rfl (Nat.le_of_ble_eq_true rfl) (by decide) (by decide) (Nat.le_of_ble_eq_true rfl) w (fun sg1 w => ?_)
    refine MR_aload_n dX5_figure_74 0 rfl ?_
    refine MR_iconst (v := 1) dX5_figure_75 (by decide) ?_
    refine MR_iload_n dX5_figure_76 1 rfl ?_
    refine MR_invVv (Mc := mX5_addStep) (As := [.int 1, .int a1]) (st := []) dX5_figure_77 q1550 q1552 qs64 q111 wX5_addStep pX5_addStep rfl (Nat.le_of_ble_eq_true rfl) (by decide) (by decide) (Nat.le_of_ble_eq_true rfl) w (fun sg2 w => ?_)
    exact MR_vret dX5_figure_80 rfl w
  · have w := w.2 c11
    refine MR_aload_n dX5_figure_56 0 rfl ?_
    refine MR_invVi (Mc := mX5_look) (As := []) (st := []) dX5_figure_57 q1543 q1545 qs63 q111 wX5_look pX5_look rfl (Nat.le_of_ble_eq_true rfl) (by decide) (by decide) (Nat.le_of_ble_eq_true rfl) w (fun r4 sg3 w => ?_)
    refine MR_bipush (v := 48) dX5_figure_60 (by decide) ?_
    refine MR_bipush (v := 57) dX5_figure_62 (by decide) ?_
    refine MR_invSz (Mc := mX5_in) (As := [.int r4, .int 48, .int 57]) (st := []) dX5_figure_64 q1416 q1417 q111 wX5_in pX5_in rfl (Nat.le_of_ble_eq_true rfl) (by decide) (by decide) (Nat.le_of_ble_eq_true rfl) w (fun b6 sg5 w => ?_)
    refine MR_ifz_eq (tgt := 74) dX5_figure_67 (by decide) (fun c10 => ?_) (fun c10 => ?_)
    · have w := w.1 c10
      refine MR_aload_n dX5_figure_74 0 rfl ?_
      refine MR_iconst (v := 1) dX5_figure_75 (by decide) ?_
      refine MR_iload_n dX5_figure_76 1 rfl ?_
      refine MR_invVv (Mc := mX5_addStep) (As := [.int 1, .int a1]) (st := []) dX5_figure_77 q1550 q1552 qs64 q111 wX5_addStep pX5_addStep rfl (Nat.le_of_ble_eq_true rfl) (by decide) (by decide) (Nat.le_of_ble_eq_true rfl) w (fun sg7 w => ?_)
      exact MR_vret dX5_figure_80 rfl w
    · have w := w.2 c10
      refine MR_aload_n dX5_figure_70 0 rfl ?_
      refine MR_invVv (Mc := mX5_faulty) (As := []) (st := []) dX5_figure_71 q1558 q1560 qs66 q111 wX5_faulty pX5_faulty rfl (Nat.le_of_ble_eq_true rfl) (by decide) (by decide) (Nat.le_of_ble_eq_true rfl) w (fun sg8 w => ?_)
      refine MR_aload_n dX5_figure_74 0 rfl ?_
      refine MR_iconst (v := 1) dX5_figure_75 (by decide) ?_
      refine MR_iload_n dX5_figure_76 1 rfl ?_
      refine MR_invVv (Mc := mX5_addStep) (As := [.int 1, .int a1]) (st := []) dX5_figure_77 q1550 q1552 qs64 q111 wX5_addStep pX5_addStep rfl (Nat.le_of_ble_eq_true rfl) (by decide) (by decide) (Nat.le_of_ble_eq_true rfl) w (fun sg9 w => ?_)
      exact MR_vret dX5_figure_80 rfl w
theorem sX5_findKnown_0 {G : GG} {m : Nat} {sg : MS} {Q : Outcome → MS → Prop} {a1 a2 : Int32} (w : MR G mX5_findKnown 3 2 [(0, .ref m), (1, .int a1), (2, .int a2), (3, .int 0)] [] m sg Q) : MR G mX5_findKnown 3 0 [(0, .ref m), (1, .int a1), (2, .int a2)] [] m sg Q := by
  refine MR_iconst (v := 0) dX5_findKnown_0 (by decide) ?_
  refine MR_istore_n (lv' := [(3, .int 0), (0, .ref m), (1, .int a1), (2, .int a2)]) dX5_findKnown_1 rfl (by decide) rfl ?_
  exact MR_sub [1, 2, 3, 0] rfl w
theorem sX5_findKnown_2 {G : GG} {m : Nat} {sg : MS} {Q : Outcome → MS → Prop} {a1 a2 a3 : Int32} (w : ((sg.1 1 0) ≤ a3 → (MR G mX5_findKnown 3 27 [(0, .ref m), (1, .int a1), (2, .int a2), (3, .int 0)] [] m sg Q)) ∧ (¬ (sg.1 1 0) ≤ a3 → (vp_in a3 12 ∧ (MR G mX5_findKnown 3 2 [(0, .ref m), (1, .int a1), (2, .int a2), (3, .int (a3 + 1))] [] m (uS sg 32 a3.toNatClampNeg ((1 : Int32) <<< (a3 &&& 31))) Q)))) : MR G mX5_findKnown 3 2 [(0, .ref m), (1, .int a1), (2, .int a2), (3, .int a3)] [] m sg Q := by
  refine MR_iload_n dX5_findKnown_2 3 rfl ?_
  refine MR_aload_n dX5_findKnown_3 0 rfl ?_
  refine MR_getS (k := 1) dX5_findKnown_4 q1265 (by decide) rfl rfl ?_
  refine MR_icmp_ge (tgt := 25) dX5_findKnown_7 (by decide) (fun c2 => ?_) (fun c2 => ?_)
  · have w := w.1 c2
    refine MR_iconst (v := 0) dX5_findKnown_25 (by decide) ?_
    refine MR_istore_n (lv' := [(3, .int 0), (0, .ref m), (1, .int a1), (2, .int a2)]) dX5_findKnown_26 rfl (by decide) rfl ?_
    exact MR_sub [1, 2, 3, 0] rfl w
  · have w := w.2 c2
    refine MR_aload_n dX5_findKnown_10 0 rfl ?_
    refine MR_getA (k := 32) (o := 21) (j := 0) (n := 12) dX5_findKnown_11 q1296 (by decide) rfl rfl ?_
    refine MR_iload_n dX5_findKnown_14 3 rfl ?_
    refine MR_iconst (v := 1) dX5_findKnown_15 (by decide) ?_
    refine MR_iload_n dX5_findKnown_16 3 rfl ?_
    refine MR_ishl dX5_findKnown_17 ?_
    obtain ⟨c1, w⟩ := w
    refine MR_iast (k := 32) dX5_findKnown_18 (by decide) rfl c1 ?_
    refine MR_iinc (v := (a3 + 1)) (lv' := [(3, .int (a3 + 1)), (0, .ref m), (1, .int a1), (2, .int a2)]) dX5_findKnown_19 3 rfl (congrArg (fun z => a3 + z) (show Int32.ofInt 1 = 1 by decide)) (by decide) rfl ?_
    refine MR_goto (tgt := 2) dX5_findKnown_22 (by decide) ?_
    exact MR_sub [1, 2, 3, 0] rfl w
theorem sX5_findKnown_27 {G : GG} {m : Nat} {sg : MS} {Q : Outcome → MS → Prop} {a1 a2 a3 : Int32} (w : ((sg.1 5 0) ≤ a3 → (MR G mX5_findKnown 3 81 [(0, .ref m), (3, .int 1)] [] m sg Q)) ∧ (¬ (sg.1 5 0) ≤ a3 → (vp_in a3 16 ∧ ((a1 < (sg.1 8 a3.toNatClampNeg) → (vp_in a3 16 ∧ (MR G mX5_findKnown 3 27 [(0, .ref m), (1, .int a1), (2, .int a2), (3, .int (a3 + 1))] [] m (uS sg 33 a3.toNatClampNeg 1) Q))) ∧ (¬ a1 < (sg.1 8 a3.toNatClampNeg) → ((((a2 >>> (a3 &&& 31)) &&& 1) = 1 → (vp_in a3 16 ∧ (MR G mX5_findKnown 3 27 [(0, .ref m), (1, .int a1), (2, .int a2), (3, .int (a3 + 1))] [] m (uS sg 33 a3.toNatClampNeg 1) Q))) ∧ (¬ ((a2 >>> (a3 &&& 31)) &&& 1) = 1 → (MR G mX5_counts 2 0 [(0, .ref m), (1, .int a3)] [] m sg (fun o sg3 => ∃ b4 : Bool, o = .returned (some (.int (bi b4))) ∧ ((b4 = true → (vp_in a3 16 ∧ (MR G mX5_findKnown 3 27 [(0, .ref m), (1, .int a1), (2, .int a2), (3, .int (a3 + 1))] [] m (uS sg3 33 a3.toNatClampNeg 0) Q))) ∧ (b4 = false → (vp_in a3 16 ∧ (MR G mX5_findKnown 3 27 [(0, .ref m), (1, .int a1), (2, .int a2), (3, .int (a3 + 1))] [] m (uS sg3 33 a3.toNatClampNeg 1) Q))))))))))))) : MR G mX5_findKnown 3 27 [(0, .ref m), (1, .int a1), (2, .int a2), (3, .int a3)] [] m sg Q := by
  refine MR_iload_n dX5_findKnown_27 3 rfl ?_
  refine MR_aload_n dX5_findKnown_28 0 rfl ?_
  refine MR_getS (k := 5) dX5_findKnown_29 q1269 (by decide) rfl rfl ?_
  refine MR_icmp_ge (tgt := 79) dX5_findKnown_32 (by decide) (fun c11 => ?_) (fun c11 => ?_)
  · have w := w.1 c11
    refine MR_iconst (v := 1) dX5_findKnown_79 (by decide) ?_
    refine MR_istore_n (lv' := [(3, .int 1), (0, .ref m), (1, .int a1), (2, .int a2)]) dX5_findKnown_80 rfl (by decide) rfl ?_
    exact MR_sub [1, 0] rfl w
  · have w := w.2 c11
    refine MR_aload_n dX5_findKnown_35 0 rfl ?_
    refine MR_getA (k := 33) (o := 22) (j := 4) (n := 16) dX5_findKnown_36 q1297 (by decide) rfl rfl ?_
    refine MR_iload_n dX5_findKnown_39 3 rfl ?_
    refine MR_aload_n dX5_findKnown_40 0 rfl ?_
    refine MR_getA (k := 8) (o := 6) (j := 0) (n := 16) dX5_findKnown_41 q1272 (by decide) rfl rfl ?_
    refine MR_iload_n dX5_findKnown_44 3 rfl ?_
    obtain ⟨c10, w⟩ := w
    refine MR_iald (k := 8) dX5_findKnown_45 (by decide) rfl c10 ?_
    refine MR_iload_n dX5_findKnown_46 1 rfl ?_
    refine MR_icmp_gt (tgt := 67) dX5_findKnown_47 (by decide) (fun c9 => ?_) (fun c9 => ?_)
    · have w := w.1 c9
      refine MR_iconst (v := 1) dX5_findKnown_67 (by decide) ?_
      refine MR_goto (tgt := 72) dX5_findKnown_68 (by decide) ?_
      obtain ⟨c1, w⟩ := w
      refine MR_zast (k := 33) dX5_findKnown_72 (by decide) rfl c1 rfl ?_
      refine MR_iinc (v := (a3 + 1)) (lv' := [(3, .int (a3 + 1)), (0, .ref m), (1, .int a1), (2, .int a2)]) dX5_findKnown_73 3 rfl (congrArg (fun z => a3 + z) (show Int32.ofInt 1 = 1 by decide)) (by decide) rfl ?_
      refine MR_goto (tgt := 27) dX5_findKnown_76 (by decide) ?_
      exact MR_sub [1, 2, 3, 0] rfl w
    · have w := w.2 c9
      refine MR_iload_n dX5_findKnown_50 2 rfl ?_
      refine MR_iload_n dX5_findKnown_51 3 rfl ?_
      refine MR_ishr dX5_findKnown_52 ?_
      refine MR_iconst (v := 1) dX5_findKnown_53 (by decide) ?_
      refine MR_iand dX5_findKnown_54 ?_
      refine MR_iconst (v := 1) dX5_findKnown_55 (by decide) ?_
      refine MR_icmp_eq (tgt := 67) dX5_findKnown_56 (by decide) (fun c8 => ?_) (fun c8 => ?_)
      · have w := w.1 c8
        refine MR_iconst (v := 1) dX5_findKnown_67 (by decide) ?_
        refine MR_goto (tgt := 72) dX5_findKnown_68 (by decide) ?_
        obtain ⟨c2, w⟩ := w
        refine MR_zast (k := 33) dX5_findKnown_72 (by decide) rfl c2 rfl ?_
        refine MR_iinc (v := (a3 + 1)) (lv' := [(3, .int (a3 + 1)), (0, .ref m), (1, .int a1), (2, .int a2)]) dX5_findKnown_73 3 rfl (congrArg (fun z => a3 + z) (show Int32.ofInt 1 = 1 by decide)) (by decide) rfl ?_
        refine MR_goto (tgt := 27) dX5_findKnown_76 (by decide) ?_
        exact MR_sub [1, 2, 3, 0] rfl w
      · have w := w.2 c8
        refine MR_aload_n dX5_findKnown_59 0 rfl ?_
        refine MR_iload_n dX5_findKnown_60 3 rfl ?_
        refine MR_invVz (Mc := mX5_counts) (As := [.int a3]) (st := [.int a3, .ref (m + 22)]) dX5_findKnown_61 q1499 q1501 qs54 q111 wX5_counts pX5_counts rfl (Nat.le_of_ble_eq_true rfl) (by decide) (by decide) (Nat.le_of_ble_eq_true rfl) w (fun b4 sg3 w => ?_)
        refine MR_ifz_ne (tgt := 71) dX5_findKnown_64 (by decide) (fun c7 => ?_) (fun c7 => ?_)
        · have w := w.1 c7
          refine MR_iconst (v := 0) dX5_findKnown_71 (by decide) ?_
          obtain ⟨c5, w⟩ := w
          refine MR_zast (k := 33) dX5_findKnown_72 (by decide) rfl c5 rfl ?_
          refine MR_iinc (v := (a3 + 1)) (lv' := [(3, .int (a3 + 1)), (0, .ref m), (1, .int a1), (2, .int a2)]) dX5_findKnown_73 3 rfl (congrArg (fun z => a3 + z) (show Int32.ofInt 1 = 1 by decide)) (by decide) rfl ?_
          refine MR_goto (tgt := 27) dX5_findKnown_76 (by decide) ?_
          exact MR_sub [1, 2, 3, 0] rfl w
        · have w := w.2 c7
          refine MR_iconst (v := 1) dX5_findKnown_67 (by decide) ?_
          refine MR_goto (tgt := 72) dX5_findKnown_68 (by decide) ?_
          obtain ⟨c6, w⟩ := w
          refine MR_zast (k := 33) dX5_findKnown_72 (by decide) rfl c6 rfl ?_
          refine MR_iinc (v := (a3 + 1)) (lv' := [(3, .int (a3 + 1)), (0, .ref m), (1, .int a1), (2, .int a2)]) dX5_findKnown_73 3 rfl (congrArg (fun z => a3 + z) (show Int32.ofInt 1 = 1 by decide)) (by decide) rfl ?_
          refine MR_goto (tgt := 27) dX5_findKnown_76 (by decide) ?_
          exact MR_sub [1, 2, 3, 0] rfl w
theorem sX5_findKnown_81 {G : GG} {m : Nat} {sg : MS} {Q : Outcome → MS → Prop} {a3 : Int32} (w : (a3 = 0 → (Q (.returned none) sg)) ∧ (¬ a3 = 0 → (MR G mX5_findKnown 3 91 [(0, .ref m), (4, .int (-1)), (5, .int 0)] [] m sg Q))) : MR G mX5_findKnown 3 81 [(0, .ref m), (3, .int a3)] [] m sg Q := by
  refine MR_iload_n dX5_findKnown_81 1 rfl ?_
  refine MR_if_eq (tgt := 260) dX5_findKnown_82 (by decide) (fun c1 => ?_) (fun c1 => ?_)
  · have w := w.1 c1
    exact MR_vret dX5_findKnown_260 rfl w
  · have w := w.2 c1
    refine MR_iconst (v := (-1)) dX5_findKnown_85 (by decide) ?_
    refine MR_istore (lv' := [(4, .int (-1)), (0, .ref m), (3, .int a3)]) dX5_findKnown_86 (by decide) rfl ?_
    refine MR_iconst (v := 0) dX5_findKnown_88 (by decide) ?_
    refine MR_istore (lv' := [(5, .int 0), (4, .int (-1)), (0, .ref m), (3, .int a3)]) dX5_findKnown_89 (by decide) rfl ?_
    exact MR_sub [2, 1, 0] rfl w
theorem sX5_findKnown_91 {G : GG} {m : Nat} {sg : MS} {Q : Outcome → MS → Prop} {a4 a5 : Int32} (w : ((sg.1 5 0) ≤ a5 → ((a4 < 0 → (MR G mX5_findKnown 3 152 [(0, .ref m), (4, .int a4)] [.int 0] m sg Q)) ∧ (¬ a4 < 0 → (MR G mX5_findKnown 3 152 [(0, .ref m), (4, .int a4)] [.int 1] m sg Q)))) ∧ (¬ (sg.1 5 0) ≤ a5 → (vp_in a5 16 ∧ ((¬ (sg.1 33 a5.toNatClampNeg) = 0 → (MR G mX5_findKnown 3 91 [(0, .ref m), (4, .int a4), (5, .int (a5 + 1))] [] m sg Q)) ∧ ((sg.1 33 a5.toNatClampNeg) = 0 → ((a4 < 0 → (MR G mX5_findKnown 3 91 [(0, .ref m), (4, .int a5), (5, .int (a5 + 1))] [] m sg Q)) ∧ (¬ a4 < 0 → (vp_in a5 16 ∧ (vp_in a4 16 ∧ (((sg.1 8 a4.toNatClampNeg) ≤ (sg.1 8 a5.toNatClampNeg) → (MR G mX5_findKnown 3 91 [(0, .ref m), (4, .int a4), (5, .int (a5 + 1))] [] m sg Q)) ∧ (¬ (sg.1 8 a4.toNatClampNeg) ≤ (sg.1 8 a5.toNatClampNeg) → (MR G mX5_findKnown 3 91 [(0, .ref m), (4, .int a5), (5, .int (a5 + 1))] [] m sg Q)))))))))))) : MR G mX5_findKnown 3 91 [(0, .ref m), (4, .int a4), (5, .int a5)] [] m sg Q := by
  refine MR_iload dX5_findKnown_91 2 rfl ?_
  refine MR_aload_n dX5_findKnown_93 0 rfl ?_
  refine MR_getS (k := 5) dX5_findKnown_94 q1269 (by decide) rfl rfl ?_
  refine MR_icmp_ge (tgt := 142) dX5_findKnown_97 (by decide) (fun c8 => ?_) (fun c8 => ?_)
  · have w := w.1 c8
    refine MR_iload dX5_findKnown_142 1 rfl ?_
    refine MR_if_lt (tgt := 151) dX5_findKnown_144 (by decide) (fun c1 => ?_) (fun c1 => ?_)
    · have w := w.1 c1
      refine MR_iconst (v := 0) dX5_findKnown_151 (by decide) ?_
      exact MR_sub [0, 1] rfl w
    · have w := w.2 c1
      refine MR_iconst (v := 1) dX5_findKnown_147 (by decide) ?_
      refine MR_goto (tgt := 152) dX5_findKnown_148 (by decide) ?_
      exact MR_sub [0, 1] rfl w
  · have w := w.2 c8
    refine MR_aload_n dX5_findKnown_100 0 rfl ?_
    refine MR_getA (k := 33) (o := 22) (j := 4) (n := 16) dX5_findKnown_101 q1297 (by decide) rfl rfl ?_
    refine MR_iload dX5_findKnown_104 2 rfl ?_
    obtain ⟨c7, w⟩ := w
    refine MR_zald (k := 33) dX5_findKnown_106 (by decide) rfl c7 ?_
    refine MR_if_ne (tgt := 136) dX5_findKnown_107 (by decide) (fun c6 => ?_) (fun c6 => ?_)
    · have w := w.1 c6
      refine MR_iinc (v := (a5 + 1)) (lv' := [(5, .int (a5 + 1)), (0, .ref m), (4, .int a4)]) dX5_findKnown_136 2 rfl (congrArg (fun z => a5 + z) (show Int32.ofInt 1 = 1 by decide)) (by decide) rfl ?_
      refine MR_goto (tgt := 91) dX5_findKnown_139 (by decide) ?_
      exact MR_sub [1, 2, 0] rfl w
    · have w := w.2 c6
      refine MR_iload dX5_findKnown_110 1 rfl ?_
      refine MR_if_lt (tgt := 132) dX5_findKnown_112 (by decide) (fun c5 => ?_) (fun c5 => ?_)
      · have w := w.1 c5
        refine MR_iload dX5_findKnown_132 2 rfl ?_
        refine MR_istore (lv' := [(4, .int a5), (0, .ref m), (5, .int a5)]) dX5_findKnown_134 (by decide) rfl ?_
        refine MR_iinc (v := (a5 + 1)) (lv' := [(5, .int (a5 + 1)), (4, .int a5), (0, .ref m)]) dX5_findKnown_136 2 rfl (congrArg (fun z => a5 + z) (show Int32.ofInt 1 = 1 by decide)) (by decide) rfl ?_
        refine MR_goto (tgt := 91) dX5_findKnown_139 (by decide) ?_
        exact MR_sub [2, 1, 0] rfl w
      · have w := w.2 c5
        refine MR_aload_n dX5_findKnown_115 0 rfl ?_
        refine MR_getA (k := 8) (o := 6) (j := 0) (n := 16) dX5_findKnown_116 q1272 (by decide) rfl rfl ?_
        refine MR_iload dX5_findKnown_119 2 rfl ?_
        obtain ⟨c4, w⟩ := w
        refine MR_iald (k := 8) dX5_findKnown_121 (by decide) rfl c4 ?_
        refine MR_aload_n dX5_findKnown_122 0 rfl ?_
        refine MR_getA (k := 8) (o := 6) (j := 0) (n := 16) dX5_findKnown_123 q1272 (by decide) rfl rfl ?_
        refine MR_iload dX5_findKnown_126 1 rfl ?_
        obtain ⟨c3, w⟩ := w
        refine MR_iald (k := 8) dX5_findKnown_128 (by decide) rfl c3 ?_
        refine MR_icmp_ge (tgt := 136) dX5_findKnown_129 (by decide) (fun c2 => ?_) (fun c2 => ?_)
        · have w := w.1 c2
          refine MR_iinc (v := (a5 + 1)) (lv' := [(5, .int (a5 + 1)), (0, .ref m), (4, .int a4)]) dX5_findKnown_136 2 rfl (congrArg (fun z => a5 + z) (show Int32.ofInt 1 = 1 by decide)) (by decide) rfl ?_
          refine MR_goto (tgt := 91) dX5_findKnown_139 (by decide) ?_
          exact MR_sub [1, 2, 0] rfl w
        · have w := w.2 c2
          refine MR_iload dX5_findKnown_132 2 rfl ?_
          refine MR_istore (lv' := [(4, .int a5), (0, .ref m), (5, .int a5)]) dX5_findKnown_134 (by decide) rfl ?_
          refine MR_iinc (v := (a5 + 1)) (lv' := [(5, .int (a5 + 1)), (4, .int a5), (0, .ref m)]) dX5_findKnown_136 2 rfl (congrArg (fun z => a5 + z) (show Int32.ofInt 1 = 1 by decide)) (by decide) rfl ?_
          refine MR_goto (tgt := 91) dX5_findKnown_139 (by decide) ?_
          exact MR_sub [2, 1, 0] rfl w
theorem sX5_findKnown_152 {G : GG} {m : Nat} {sg : MS} {Q : Outcome → MS → Prop} {a4 t0 : Int32} (w : (¬ t0 = 0 → (vp_in a4 16 ∧ (vp_in a4 16 ∧ (vp_in a4 16 ∧ (vp_in ((uS sg 33 a4.toNatClampNeg 1).1 6 a4.toNatClampNeg) 12 ∧ (vp_in ((uS sg 33 a4.toNatClampNeg 1).1 7 a4.toNatClampNeg) 12 ∧ (vp_in ((uS sg 33 a4.toNatClampNeg 1).1 6 a4.toNatClampNeg) 12 ∧ ((¬ ((uS sg 33 a4.toNatClampNeg 1).1 9 0) = 1 → (MR G mX5_findKnown 3 228 [(0, .ref m), (3, .int t0), (5, .int ((uS sg 33 a4.toNatClampNeg 1).1 6 a4.toNatClampNeg)), (6, .int ((uS sg 33 a4.toNatClampNeg 1).1 7 a4.toNatClampNeg)), (7, .int (((uS sg 33 a4.toNatClampNeg 1).1 32 ((uS sg 33 a4.toNatClampNeg 1).1 6 a4.toNatClampNeg).toNatClampNeg) ||| ((uS sg 33 a4.toNatClampNeg 1).1 32 ((uS sg 33 a4.toNatClampNeg 1).1 7 a4.toNatClampNeg).toNatClampNeg)))] [.int ((1 : Int32) <<< (((uS sg 33 a4.toNatClampNeg 1).1 7 a4.toNatClampNeg) &&& 31)), .int ((uS sg 33 a4.toNatClampNeg 1).1 32 ((uS sg 33 a4.toNatClampNeg 1).1 6 a4.toNatClampNeg).toNatClampNeg), .int ((uS sg 33 a4.toNatClampNeg 1).1 6 a4.toNatClampNeg), .ref (m + 21)] m (uS sg 33 a4.toNatClampNeg 1) Q)) ∧ (((uS sg 33 a4.toNatClampNeg 1).1 9 0) = 1 → (MR G mX5_findKnown 3 228 [(0, .ref m), (3, .int t0), (5, .int ((uS sg 33 a4.toNatClampNeg 1).1 6 a4.toNatClampNeg)), (6, .int ((uS sg 33 a4.toNatClampNeg 1).1 7 a4.toNatClampNeg)), (7, .int (((uS sg 33 a4.toNatClampNeg 1).1 32 ((uS sg 33 a4.toNatClampNeg 1).1 6 a4.toNatClampNeg).toNatClampNeg) ||| ((uS sg 33 a4.toNatClampNeg 1).1 32 ((uS sg 33 a4.toNatClampNeg 1).1 7 a4.toNatClampNeg).toNatClampNeg)))] [.int (((uS sg 33 a4.toNatClampNeg 1).1 32 ((uS sg 33 a4.toNatClampNeg 1).1 6 a4.toNatClampNeg).toNatClampNeg) ||| ((uS sg 33 a4.toNatClampNeg 1).1 32 ((uS sg 33 a4.toNatClampNeg 1).1 7 a4.toNatClampNeg).toNatClampNeg)), .int ((uS sg 33 a4.toNatClampNeg 1).1 32 ((uS sg 33 a4.toNatClampNeg 1).1 6 a4.toNatClampNeg).toNatClampNeg), .int ((uS sg 33 a4.toNatClampNeg 1).1 6 a4.toNatClampNeg), .ref (m + 21)] m (uS sg 33 a4.toNatClampNeg 1) Q)))))))))) ∧ (t0 = 0 → (MR G mX5_findKnown 3 81 [(0, .ref m), (3, .int t0)] [] m sg Q))) : MR G mX5_findKnown 3 152 [(0, .ref m), (4, .int a4)] [.int t0] m sg Q := by
  refine MR_istore_n (lv' := [(3, .int t0), (0, .ref m), (4, .int a4)]) dX5_findKnown_152 rfl (by decide) rfl ?_
  refine MR_iload_n dX5_findKnown_153 0 rfl ?_
  refine MR_if_ne (tgt := 160) dX5_findKnown_154 (by decide) (fun c8 => ?_) (fun c8 => ?_)
  · have w := w.1 c8
    refine MR_aload_n dX5_findKnown_160 1 rfl ?_
    refine MR_getA (k := 33) (o := 22) (j := 4) (n := 16) dX5_findKnown_161 q1297 (by decide) rfl rfl ?_
    refine MR_iload dX5_findKnown_164 2 rfl ?_
    refine MR_iconst (v := 1) dX5_findKnown_166 (by decide) ?_
    obtain ⟨c7, w⟩ := w
    refine MR_zast (k := 33) dX5_findKnown_167 (by decide) rfl c7 rfl ?_
    refine MR_aload_n dX5_findKnown_168 1 rfl ?_
    refine MR_getA (k := 6) (o := 4) (j := 0) (n := 16) dX5_findKnown_169 q1270 (by decide) rfl rfl ?_
    refine MR_iload dX5_findKnown_172 2 rfl ?_
    obtain ⟨c6, w⟩ := w
    refine MR_iald (k := 6) dX5_findKnown_174 (by decide) rfl c6 ?_
    refine MR_istore (lv' := [(5, .int ((uS sg 33 a4.toNatClampNeg 1).1 6 a4.toNatClampNeg)), (3, .int t0), (0, .ref m), (4, .int a4)]) dX5_findKnown_175 (by decide) rfl ?_
    refine MR_aload_n dX5_findKnown_177 2 rfl ?_
    refine MR_getA (k := 7) (o := 5) (j := 0) (n := 16) dX5_findKnown_178 q1271 (by decide) rfl rfl ?_
    refine MR_iload dX5_findKnown_181 3 rfl ?_
    obtain ⟨c5, w⟩ := w
    refine MR_iald (k := 7) dX5_findKnown_183 (by decide) rfl c5 ?_
    refine MR_istore (lv' := [(6, .int ((uS sg 33 a4.toNatClampNeg 1).1 7 a4.toNatClampNeg)), (5, .int ((uS sg 33 a4.toNatClampNeg 1).1 6 a4.toNatClampNeg)), (3, .int t0), (0, .ref m), (4, .int a4)]) dX5_findKnown_184 (by decide) rfl ?_
    refine MR_aload_n dX5_findKnown_186 3 rfl ?_
    refine MR_getA (k := 32) (o := 21) (j := 0) (n := 12) dX5_findKnown_187 q1296 (by decide) rfl rfl ?_
    refine MR_iload dX5_findKnown_190 1 rfl ?_
    obtain ⟨c4, w⟩ := w
    refine MR_iald (k := 32) dX5_findKnown_192 (by decide) rfl c4 ?_
    refine MR_aload_n dX5_findKnown_193 3 rfl ?_
    refine MR_getA (k := 32) (o := 21) (j := 0) (n := 12) dX5_findKnown_194 q1296 (by decide) rfl rfl ?_
    refine MR_iload dX5_findKnown_197 0 rfl ?_
    obtain ⟨c3, w⟩ := w
    refine MR_iald (k := 32) dX5_findKnown_199 (by decide) rfl c3 ?_
    refine MR_ior dX5_findKnown_200 ?_
    refine MR_istore (lv' := [(7, .int (((uS sg 33 a4.toNatClampNeg 1).1 32 ((uS sg 33 a4.toNatClampNeg 1).1 6 a4.toNatClampNeg).toNatClampNeg) ||| ((uS sg 33 a4.toNatClampNeg 1).1 32 ((uS sg 33 a4.toNatClampNeg 1).1 7 a4.toNatClampNeg).toNatClampNeg))), (6, .int ((uS sg 33 a4.toNatClampNeg 1).1 7 a4.toNatClampNeg)), (5, .int ((uS sg 33 a4.toNatClampNeg 1).1 6 a4.toNatClampNeg)), (3, .int t0), (0, .ref m), (4, .int a4)]) dX5_findKnown_201 (by decide) rfl ?_
    refine MR_aload_n dX5_findKnown_203 4 rfl ?_
    refine MR_getA (k := 32) (o := 21) (j := 0) (n := 12) dX5_findKnown_204 q1296 (by decide) rfl rfl ?_
    refine MR_iload dX5_findKnown_207 2 rfl ?_
    refine MR_dup2 dX5_findKnown_209 rfl rfl ?_
    obtain ⟨c2, w⟩ := w
    refine MR_iald (k := 32) dX5_findKnown_210 (by decide) rfl c2 ?_
    refine MR_aload_n dX5_findKnown_211 4 rfl ?_
    refine MR_getS (k := 9) dX5_findKnown_212 q1273 (by decide) rfl rfl ?_
    refine MR_iconst (v := 1) dX5_findKnown_215 (by decide) ?_
    refine MR_icmp_ne (tgt := 224) dX5_findKnown_216 (by decide) (fun c1 => ?_) (fun c1 => ?_)
    · have w := w.1 c1
      refine MR_iconst (v := 1) dX5_findKnown_224 (by decide) ?_
      refine MR_iload dX5_findKnown_225 1 rfl ?_
      refine MR_ishl dX5_findKnown_227 ?_
      exact MR_sub [4, 3, 2, 1, 0] rfl w
    · have w := w.2 c1
      refine MR_iload dX5_findKnown_219 0 rfl ?_
      refine MR_goto (tgt := 228) dX5_findKnown_221 (by decide) ?_
      exact MR_sub [4, 3, 2, 1, 0] rfl w
  · have w := w.2 c8
    refine MR_goto (tgt := 81) dX5_findKnown_157 (by decide) ?_
    exact MR_sub [1, 0] rfl w
theorem sX5_findKnown_228 {G : GG} {m : Nat} {sg : MS} {Q : Outcome → MS → Prop} {a3 a5 a6 a7 t0 t1 t2 : Int32} (w : vp_in t2 12 ∧ (vp_in a6 12 ∧ ((¬ ((uS sg 32 t2.toNatClampNeg (t1 ||| t0)).1 9 0) = 1 → (vp_in a6 12 ∧ (MR G mX5_findKnown 3 81 [(0, .ref m), (3, .int a3)] [] m (uS (uS sg 32 t2.toNatClampNeg (t1 ||| t0)) 32 a6.toNatClampNeg (((uS sg 32 t2.toNatClampNeg (t1 ||| t0)).1 32 a6.toNatClampNeg) ||| ((1 : Int32) <<< (a5 &&& 31)))) Q))) ∧ (((uS sg 32 t2.toNatClampNeg (t1 ||| t0)).1 9 0) = 1 → (vp_in a6 12 ∧ (MR G mX5_findKnown 3 81 [(0, .ref m), (3, .int a3)] [] m (uS (uS sg 32 t2.toNatClampNeg (t1 ||| t0)) 32 a6.toNatClampNeg (((uS sg 32 t2.toNatClampNeg (t1 ||| t0)).1 32 a6.toNatClampNeg) ||| a7)) Q)))))) : MR G mX5_findKnown 3 228 [(0, .ref m), (3, .int a3), (5, .int a5), (6, .int a6), (7, .int a7)] [.int t0, .int t1, .int t2, .ref (m + 21)] m sg Q := by
  refine MR_ior dX5_findKnown_228 ?_
  obtain ⟨c5, w⟩ := w
  refine MR_iast (k := 32) dX5_findKnown_229 (by decide) rfl c5 ?_
  refine MR_aload_n dX5_findKnown_230 0 rfl ?_
  refine MR_getA (k := 32) (o := 21) (j := 0) (n := 12) dX5_findKnown_231 q1296 (by decide) rfl rfl ?_
  refine MR_iload dX5_findKnown_234 3 rfl ?_
  refine MR_dup2 dX5_findKnown_236 rfl rfl ?_
  obtain ⟨c4, w⟩ := w
  refine MR_iald (k := 32) dX5_findKnown_237 (by decide) rfl c4 ?_
  refine MR_aload_n dX5_findKnown_238 0 rfl ?_
  refine MR_getS (k := 9) dX5_findKnown_239 q1273 (by decide) rfl rfl ?_
  refine MR_iconst (v := 1) dX5_findKnown_242 (by decide) ?_
  refine MR_icmp_ne (tgt := 251) dX5_findKnown_243 (by decide) (fun c3 => ?_) (fun c3 => ?_)
  · have w := w.1 c3
    refine MR_iconst (v := 1) dX5_findKnown_251 (by decide) ?_
    refine MR_iload dX5_findKnown_252 2 rfl ?_
    refine MR_ishl dX5_findKnown_254 ?_
    refine MR_ior dX5_findKnown_255 ?_
    obtain ⟨c1, w⟩ := w
    refine MR_iast (k := 32) dX5_findKnown_256 (by decide) rfl c1 ?_
    refine MR_goto (tgt := 81) dX5_findKnown_257 (by decide) ?_
    exact MR_sub [0, 1] rfl w
  · have w := w.2 c3
    refine MR_iload dX5_findKnown_246 4 rfl ?_
    refine MR_goto (tgt := 255) dX5_findKnown_248 (by decide) ?_
    refine MR_ior dX5_findKnown_255 ?_
    obtain ⟨c2, w⟩ := w
    refine MR_iast (k := 32) dX5_findKnown_256 (by decide) rfl c2 ?_
    refine MR_goto (tgt := 81) dX5_findKnown_257 (by decide) ?_
    exact MR_sub [0, 1] rfl w
theorem sX5_free_0 {G : GG} {m : Nat} {sg : MS} {Q : Outcome → MS → Prop} {a1 : Int32} (w : MR G mX5_isYear 2 0 [(0, .int a1)] [] m sg (fun o sg1 => ∃ b2 : Bool, o = .returned (some (.int (bi b2))) ∧ ((b2 = true → (MR G mX5_asNamed 1 0 [(0, .ref m)] [] m sg1 (fun o sg3 => o = .returned none ∧ (MR G mX5_heldIn 8 0 [(0, .ref m), (1, .int a1)] [] m sg3 (fun o sg4 => ∃ r5 : Int32, o = .returned (some (.int r5)) ∧ (Q (.returned (some (.int (4095 &&& (r5 ^^^ (-1)))))) sg4)))))) ∧ (b2 = false → (Q (.returned (some (.int (-1)))) sg1))))) : MR G mX5_free 9 0 [(0, .ref m), (1, .int a1)] [] m sg Q := by
  refine MR_iload_n dX5_free_0 1 rfl ?_
  refine MR_invSz (Mc := mX5_isYear) (As := [.int a1]) (st := []) dX5_free_1 q1413 q1414 q111 wX5_isYear pX5_isYear rfl (Nat.le_of_ble_eq_true rfl) (by decide) (by decide) (Nat.le_of_ble_eq_true rfl) w (fun b2 sg1 w => ?_)
  refine MR_ifz_ne (tgt := 9) dX5_free_4 (by decide) (fun c6 => ?_) (fun c6 => ?_)
  · have w := w.1 c6
    refine MR_aload_n dX5_free_9 0 rfl ?_
    refine MR_invVv (Mc := mX5_asNamed) (As := []) (st := []) dX5_free_10 q1578 q1580 qs69 q111 wX5_asNamed pX5_asNamed rfl (Nat.le_of_ble_eq_true rfl) (by decide) (by decide) (Nat.le_of_ble_eq_true rfl) w (fun sg3 w => ?_)
    refine MR_sipush (v := 4095) dX5_free_13 (by decide) ?_
    refine MR_aload_n dX5_free_16 0 rfl ?_
    refine MR_iload_n dX5_free_17 1 rfl ?_
    refine MR_invVi (Mc := mX5_heldIn) (As := [.int a1]) (st := [.int 4095]) dX5_free_18 q1625 q1627 qs79 q111 wX5_heldIn pX5_heldIn rfl (Nat.le_of_ble_eq_true rfl) (by decide) (by decide) (Nat.le_of_ble_eq_true rfl) w (fun r5 sg4 w => ?_)
    refine MR_iconst (v := (-1)) dX5_free_21 (by decide) ?_
    refine MR_ixor dX5_free_22 ?_
    refine MR_iand dX5_free_23 ?_
    exact MR_iret dX5_free_24 rfl w
  · have w := w.2 c6
    refine MR_iconst (v := (-1)) dX5_free_7 (by decide) ?_
    exact MR_iret dX5_free_8 rfl w
theorem sX5_freed_0 {G : GG} {m : Nat} {sg : MS} {Q : Outcome → MS → Prop} {a1 a2 : Int32} (w : MR G mX5_isPerson 2 0 [(0, .ref m), (1, .int a1)] [] m sg (fun o sg1 => ∃ b2 : Bool, o = .returned (some (.int (bi b2))) ∧ ((b2 = false → (Q (.returned (some (.int (-1)))) sg1)) ∧ (b2 = true → (MR G mX5_isYear 2 0 [(0, .int a2)] [] m sg1 (fun o sg3 => ∃ b4 : Bool, o = .returned (some (.int (bi b4))) ∧ ((b4 = true → (MR G mX5_asNamed 1 0 [(0, .ref m)] [] m sg3 (fun o sg5 => o = .returned none ∧ (MR G mX5_findKnown 3 0 [(0, .ref m), (1, .int a2), (2, .int 0)] [] m sg5 (fun o sg6 => o = .returned none ∧ (MR G mX5_freed 7 32 [(0, .ref m), (1, .int a1), (2, .int a2), (3, .int 0), (4, .int 0)] [] m sg6 Q)))))) ∧ (b4 = false → (Q (.returned (some (.int (-1)))) sg3))))))))) : MR G mX5_freed 7 0 [(0, .ref m), (1, .int a1), (2, .int a2)] [] m sg Q := by
  refine MR_aload_n dX5_freed_0 0 rfl ?_
  refine MR_iload_n dX5_freed_1 1 rfl ?_
  refine MR_invVz (Mc := mX5_isPerson) (As := [.int a1]) (st := []) dX5_freed_2 q1435 q1437 qs46 q111 wX5_isPerson pX5_isPerson rfl (Nat.le_of_ble_eq_true rfl) (by decide) (by decide) (Nat.le_of_ble_eq_true rfl) w (fun b2 sg1 w => ?_)
  refine MR_ifz_eq (tgt := 15) dX5_freed_5 (by decide) (fun c8 => ?_) (fun c8 => ?_)
  · have w := w.1 c8
    refine MR_iconst (v := (-1)) dX5_freed_15 (by decide) ?_
    exact MR_iret dX5_freed_16 rfl w
  · have w := w.2 c8
    refine MR_iload_n dX5_freed_8 2 rfl ?_
    refine MR_invSz (Mc := mX5_isYear) (As := [.int a2]) (st := []) dX5_freed_9 q1413 q1414 q111 wX5_isYear pX5_isYear rfl (Nat.le_of_ble_eq_true rfl) (by decide) (by decide) (Nat.le_of_ble_eq_true rfl) w (fun b4 sg3 w => ?_)
    refine MR_ifz_ne (tgt := 17) dX5_freed_12 (by decide) (fun c7 => ?_) (fun c7 => ?_)
    · have w := w.1 c7
      refine MR_aload_n dX5_freed_17 0 rfl ?_
      refine MR_invVv (Mc := mX5_asNamed) (As := []) (st := []) dX5_freed_18 q1578 q1580 qs69 q111 wX5_asNamed pX5_asNamed rfl (Nat.le_of_ble_eq_true rfl) (by decide) (by decide) (Nat.le_of_ble_eq_true rfl) w (fun sg5 w => ?_)
      refine MR_aload_n dX5_freed_21 0 rfl ?_
      refine MR_iload_n dX5_freed_22 2 rfl ?_
      refine MR_iconst (v := 0) dX5_freed_23 (by decide) ?_
      refine MR_invVv (Mc := mX5_findKnown) (As := [.int a2, .int 0]) (st := []) dX5_freed_24 q1570 q1572 qs68 q111 wX5_findKnown pX5_findKnown rfl (Nat.le_of_ble_eq_true rfl) (by decide) (by decide) (Nat.le_of_ble_eq_true rfl) w (fun sg6 w => ?_)
      refine MR_iconst (v := 0) dX5_freed_27 (by decide) ?_
      refine MR_istore_n (lv' := [(3, .int 0), (0, .ref m), (1, .int a1), (2, .int a2)]) dX5_freed_28 rfl (by decide) rfl ?_
      refine MR_iconst (v := 0) dX5_freed_29 (by decide) ?_
      refine MR_istore (lv' := [(4, .int 0), (3, .int 0), (0, .ref m), (1, .int a1), (2, .int a2)]) dX5_freed_30 (by decide) rfl ?_
      exact MR_sub [2, 3, 4, 1, 0] rfl w
    · have w := w.2 c7
      refine MR_iconst (v := (-1)) dX5_freed_15 (by decide) ?_
      exact MR_iret dX5_freed_16 rfl w
theorem sX5_freed_32 {G : GG} {m : Nat} {sg : MS} {Q : Outcome → MS → Prop} {a1 a2 a3 a4 : Int32} (w : (12 ≤ a4 → (Q (.returned (some (.int a3))) sg)) ∧ (¬ 12 ≤ a4 → (MR G mX5_everybody 1 0 [(0, .ref m)] [] m sg (fun o sg1 => ∃ r2 : Int32, o = .returned (some (.int r2)) ∧ (MR G mX5_isFamous 2 0 [(0, .ref m), (1, .int a4), (2, .int a2), (3, .int r2)] [] m sg1 (fun o sg3 => ∃ b4 : Bool, o = .returned (some (.int (bi b4))) ∧ ((b4 = true → (MR G mX5_freed 7 32 [(0, .ref m), (1, .int a1), (2, .int a2), (3, .int a3), (4, .int (a4 + 1))] [] m sg3 Q)) ∧ (b4 = false → (MR G mX5_everybody 1 0 [(0, .ref m)] [] m sg3 (fun o sg5 => ∃ r6 : Int32, o = .returned (some (.int r6)) ∧ (MR G mX5_holders 6 0 [(0, .ref m), (1, .int a4), (2, .int a2), (3, .int r6)] [] m sg5 (fun o sg7 => ∃ r8 : Int32, o = .returned (some (.int r8)) ∧ ((¬ r8 = ((1 : Int32) <<< (a1 &&& 31)) → (MR G mX5_freed 7 32 [(0, .ref m), (1, .int a1), (2, .int a2), (3, .int a3), (4, .int (a4 + 1))] [] m sg7 Q)) ∧ (r8 = ((1 : Int32) <<< (a1 &&& 31)) → (MR G mX5_freed 7 32 [(0, .ref m), (1, .int a1), (2, .int a2), (3, .int (a3 ||| ((1 : Int32) <<< (a4 &&& 31)))), (4, .int (a4 + 1))] [] m sg7 Q))))))))))))))) : MR G mX5_freed 7 32 [(0, .ref m), (1, .int a1), (2, .int a2), (3, .int a3), (4, .int a4)] [] m sg Q := by
  refine MR_iload dX5_freed_32 4 rfl ?_
  refine MR_bipush (v := 12) dX5_freed_34 (by decide) ?_
  refine MR_icmp_ge (tgt := 83) dX5_freed_36 (by decide) (fun c11 => ?_) (fun c11 => ?_)
  · have w := w.1 c11
    refine MR_iload_n dX5_freed_83 3 rfl ?_
    exact MR_iret dX5_freed_84 rfl w
  · have w := w.2 c11
    refine MR_aload_n dX5_freed_39 0 rfl ?_
    refine MR_iload dX5_freed_40 4 rfl ?_
    refine MR_iload_n dX5_freed_42 2 rfl ?_
    refine MR_aload_n dX5_freed_43 0 rfl ?_
    refine MR_invVi (Mc := mX5_everybody) (As := []) (st := [.int a2, .int a4, .ref m]) dX5_freed_44 q1582 q1584 qs70 q111 wX5_everybody pX5_everybody rfl (Nat.le_of_ble_eq_true rfl) (by decide) (by decide) (Nat.le_of_ble_eq_true rfl) w (fun r2 sg1 w => ?_)
    refine MR_invVz (Mc := mX5_isFamous) (As := [.int a4, .int a2, .int r2]) (st := []) dX5_freed_47 q1590 q1592 qs72 q111 wX5_isFamous pX5_isFamous rfl (Nat.le_of_ble_eq_true rfl) (by decide) (by decide) (Nat.le_of_ble_eq_true rfl) w (fun b4 sg3 w => ?_)
    refine MR_ifz_ne (tgt := 77) dX5_freed_50 (by decide) (fun c10 => ?_) (fun c10 => ?_)
    · have w := w.1 c10
      refine MR_iinc (v := (a4 + 1)) (lv' := [(4, .int (a4 + 1)), (0, .ref m), (1, .int a1), (2, .int a2), (3, .int a3)]) dX5_freed_77 4 rfl (congrArg (fun z => a4 + z) (show Int32.ofInt 1 = 1 by decide)) (by decide) rfl ?_
      refine MR_goto (tgt := 32) dX5_freed_80 (by decide) ?_
      exact MR_sub [1, 2, 3, 4, 0] rfl w
    · have w := w.2 c10
      refine MR_aload_n dX5_freed_53 0 rfl ?_
      refine MR_iload dX5_freed_54 4 rfl ?_
      refine MR_iload_n dX5_freed_56 2 rfl ?_
      refine MR_aload_n dX5_freed_57 0 rfl ?_
      refine MR_invVi (Mc := mX5_everybody) (As := []) (st := [.int a2, .int a4, .ref m]) dX5_freed_58 q1582 q1584 qs70 q111 wX5_everybody pX5_everybody rfl (Nat.le_of_ble_eq_true rfl) (by decide) (by decide) (Nat.le_of_ble_eq_true rfl) w (fun r6 sg5 w => ?_)
      refine MR_invVi (Mc := mX5_holders) (As := [.int a4, .int a2, .int r6]) (st := []) dX5_freed_61 q1598 q1600 qs74 q111 wX5_holders pX5_holders rfl (Nat.le_of_ble_eq_true rfl) (by decide) (by decide) (Nat.le_of_ble_eq_true rfl) w (fun r8 sg7 w => ?_)
      refine MR_iconst (v := 1) dX5_freed_64 (by decide) ?_
      refine MR_iload_n dX5_freed_65 1 rfl ?_
      refine MR_ishl dX5_freed_66 ?_
      refine MR_icmp_ne (tgt := 77) dX5_freed_67 (by decide) (fun c9 => ?_) (fun c9 => ?_)
      · have w := w.1 c9
        refine MR_iinc (v := (a4 + 1)) (lv' := [(4, .int (a4 + 1)), (0, .ref m), (1, .int a1), (2, .int a2), (3, .int a3)]) dX5_freed_77 4 rfl (congrArg (fun z => a4 + z) (show Int32.ofInt 1 = 1 by decide)) (by decide) rfl ?_
        refine MR_goto (tgt := 32) dX5_freed_80 (by decide) ?_
        exact MR_sub [1, 2, 3, 4, 0] rfl w
      · have w := w.2 c9
        refine MR_iload_n dX5_freed_70 3 rfl ?_
        refine MR_iconst (v := 1) dX5_freed_71 (by decide) ?_
        refine MR_iload dX5_freed_72 4 rfl ?_
        refine MR_ishl dX5_freed_74 ?_
        refine MR_ior dX5_freed_75 ?_
        refine MR_istore_n (lv' := [(3, .int (a3 ||| ((1 : Int32) <<< (a4 &&& 31)))), (0, .ref m), (1, .int a1), (2, .int a2), (4, .int a4)]) dX5_freed_76 rfl (by decide) rfl ?_
        refine MR_iinc (v := (a4 + 1)) (lv' := [(4, .int (a4 + 1)), (3, .int (a3 ||| ((1 : Int32) <<< (a4 &&& 31)))), (0, .ref m), (1, .int a1), (2, .int a2)]) dX5_freed_77 4 rfl (congrArg (fun z => a4 + z) (show Int32.ofInt 1 = 1 by decide)) (by decide) rfl ?_
        refine MR_goto (tgt := 32) dX5_freed_80 (by decide) ?_
        exact MR_sub [2, 3, 4, 1, 0] rfl w
theorem sX5_give_0 {G : GG} {m : Nat} {sg : MS} {Q : Outcome → MS → Prop} {a1 a2 : Int32} (w : MR G mX5_isPerson 2 0 [(0, .ref m), (1, .int a1)] [] m sg (fun o sg1 => ∃ b2 : Bool, o = .returned (some (.int (bi b2))) ∧ ((b2 = false → (Q (.returned (some (.int (-1)))) sg1)) ∧ (b2 = true → (MR G mX5_in 1 0 [(0, .int a2), (1, .int 0), (2, .int 2)] [] m sg1 (fun o sg3 => ∃ b4 : Bool, o = .returned (some (.int (bi b4))) ∧ ((b4 = true → (vp_in a1 12 ∧ (((sg3.1 4 a1.toNatClampNeg) < 0 → (MR G mX5_asNamed 1 0 [(0, .ref m)] [] m sg3 (fun o sg5 => o = .returned none ∧ (MR G mX5_given 9 0 [(0, .ref m), (1, .int a1), (2, .int a2)] [] m sg5 (fun o sg6 => ∃ r7 : Int32, o = .returned (some (.int r7)) ∧ ((r7 < 0 → (Q (.returned (some (.int r7))) sg6)) ∧ (¬ r7 < 0 → (vp_in a1 12 ∧ (Q (.returned (some (.int r7))) (uS sg6 4 a1.toNatClampNeg r7)))))))))) ∧ (¬ (sg3.1 4 a1.toNatClampNeg) < 0 → (Q (.returned (some (.int (-5)))) sg3))))) ∧ (b4 = false → (Q (.returned (some (.int (-1)))) sg3))))))))) : MR G mX5_give 10 0 [(0, .ref m), (1, .int a1), (2, .int a2)] [] m sg Q := by
  refine MR_aload_n dX5_give_0 0 rfl ?_
  refine MR_iload_n dX5_give_1 1 rfl ?_
  refine MR_invVz (Mc := mX5_isPerson) (As := [.int a1]) (st := []) dX5_give_2 q1435 q1437 qs46 q111 wX5_isPerson pX5_isPerson rfl (Nat.le_of_ble_eq_true rfl) (by decide) (by decide) (Nat.le_of_ble_eq_true rfl) w (fun b2 sg1 w => ?_)
  refine MR_ifz_eq (tgt := 17) dX5_give_5 (by decide) (fun c13 => ?_) (fun c13 => ?_)
  · have w := w.1 c13
    refine MR_iconst (v := (-1)) dX5_give_17 (by decide) ?_
    exact MR_iret dX5_give_18 rfl w
  · have w := w.2 c13
    refine MR_iload_n dX5_give_8 2 rfl ?_
    refine MR_iconst (v := 0) dX5_give_9 (by decide) ?_
    refine MR_iconst (v := 2) dX5_give_10 (by decide) ?_
    refine MR_invSz (Mc := mX5_in) (As := [.int a2, .int 0, .int 2]) (st := []) dX5_give_11 q1416 q1417 q111 wX5_in pX5_in rfl (Nat.le_of_ble_eq_true rfl) (by decide) (by decide) (Nat.le_of_ble_eq_true rfl) w (fun b4 sg3 w => ?_)
    refine MR_ifz_ne (tgt := 19) dX5_give_14 (by decide) (fun c12 => ?_) (fun c12 => ?_)
    · have w := w.1 c12
      refine MR_aload_n dX5_give_19 0 rfl ?_
      refine MR_getA (k := 4) (o := 3) (j := 0) (n := 12) dX5_give_20 q1268 (by decide) rfl rfl ?_
      refine MR_iload_n dX5_give_23 1 rfl ?_
      obtain ⟨c11, w⟩ := w
      refine MR_iald (k := 4) dX5_give_24 (by decide) rfl c11 ?_
      refine MR_if_lt (tgt := 31) dX5_give_25 (by decide) (fun c10 => ?_) (fun c10 => ?_)
      · have w := w.1 c10
        refine MR_aload_n dX5_give_31 0 rfl ?_
        refine MR_invVv (Mc := mX5_asNamed) (As := []) (st := []) dX5_give_32 q1578 q1580 qs69 q111 wX5_asNamed pX5_asNamed rfl (Nat.le_of_ble_eq_true rfl) (by decide) (by decide) (Nat.le_of_ble_eq_true rfl) w (fun sg5 w => ?_)
        refine MR_aload_n dX5_give_35 0 rfl ?_
        refine MR_iload_n dX5_give_36 1 rfl ?_
        refine MR_iload_n dX5_give_37 2 rfl ?_
        refine MR_invVi (Mc := mX5_given) (As := [.int a1, .int a2]) (st := []) dX5_give_38 q1652 q1654 qs82 q111 wX5_given pX5_given rfl (Nat.le_of_ble_eq_true rfl) (by decide) (by decide) (Nat.le_of_ble_eq_true rfl) w (fun r7 sg6 w => ?_)
        refine MR_istore_n (lv' := [(3, .int r7), (0, .ref m), (1, .int a1), (2, .int a2)]) dX5_give_41 rfl (by decide) rfl ?_
        refine MR_iload_n dX5_give_42 0 rfl ?_
        refine MR_if_lt (tgt := 53) dX5_give_43 (by decide) (fun c9 => ?_) (fun c9 => ?_)
        · have w := w.1 c9
          refine MR_iload_n dX5_give_53 0 rfl ?_
          exact MR_iret dX5_give_54 rfl w
        · have w := w.2 c9
          refine MR_aload_n dX5_give_46 1 rfl ?_
          refine MR_getA (k := 4) (o := 3) (j := 0) (n := 12) dX5_give_47 q1268 (by decide) rfl rfl ?_
          refine MR_iload_n dX5_give_50 2 rfl ?_
          refine MR_iload_n dX5_give_51 0 rfl ?_
          obtain ⟨c8, w⟩ := w
          refine MR_iast (k := 4) dX5_give_52 (by decide) rfl c8 ?_
          refine MR_iload_n dX5_give_53 0 rfl ?_
          exact MR_iret dX5_give_54 rfl w
      · have w := w.2 c10
        refine MR_bipush (v := (-5)) dX5_give_28 (by decide) ?_
        exact MR_iret dX5_give_30 rfl w
    · have w := w.2 c12
      refine MR_iconst (v := (-1)) dX5_give_17 (by decide) ?_
      exact MR_iret dX5_give_18 rfl w
theorem sX5_given_0 {G : GG} {m : Nat} {sg : MS} {Q : Outcome → MS → Prop} {a1 a2 : Int32} (w : MR G mX5_aheadOf 2 0 [(0, .ref m), (1, .int a1)] [] m sg (fun o sg1 => ∃ r2 : Int32, o = .returned (some (.int r2)) ∧ (vp_in a1 12 ∧ (MR G mX5_findKnown 3 0 [(0, .ref m), (1, .int (sg1.1 2 a1.toNatClampNeg)), (2, .int 0)] [] m sg1 (fun o sg3 => o = .returned none ∧ (MR G mX5_given 9 23 [(0, .ref m), (1, .int a1), (2, .int a2), (3, .int r2), (4, .int 0), (5, .int 0)] [] m sg3 Q)))))) : MR G mX5_given 9 0 [(0, .ref m), (1, .int a1), (2, .int a2)] [] m sg Q := by
  refine MR_aload_n dX5_given_0 0 rfl ?_
  refine MR_iload_n dX5_given_1 1 rfl ?_
  refine MR_invVi (Mc := mX5_aheadOf) (As := [.int a1]) (st := []) dX5_given_2 q1644 q1646 qs81 q111 wX5_aheadOf pX5_aheadOf rfl (Nat.le_of_ble_eq_true rfl) (by decide) (by decide) (Nat.le_of_ble_eq_true rfl) w (fun r2 sg1 w => ?_)
  refine MR_istore_n (lv' := [(3, .int r2), (0, .ref m), (1, .int a1), (2, .int a2)]) dX5_given_5 rfl (by decide) rfl ?_
  refine MR_aload_n dX5_given_6 1 rfl ?_
  refine MR_aload_n dX5_given_7 1 rfl ?_
  refine MR_getA (k := 2) (o := 1) (j := 0) (n := 12) dX5_given_8 q1266 (by decide) rfl rfl ?_
  refine MR_iload_n dX5_given_11 2 rfl ?_
  obtain ⟨c4, w⟩ := w
  refine MR_iald (k := 2) dX5_given_12 (by decide) rfl c4 ?_
  refine MR_iconst (v := 0) dX5_given_13 (by decide) ?_
  refine MR_invVv (Mc := mX5_findKnown) (As := [.int (sg1.1 2 a1.toNatClampNeg), .int 0]) (st := []) dX5_given_14 q1570 q1572 qs68 q111 wX5_findKnown pX5_findKnown rfl (Nat.le_of_ble_eq_true rfl) (by decide) (by decide) (Nat.le_of_ble_eq_true rfl) w (fun sg3 w => ?_)
  refine MR_iconst (v := 0) dX5_given_17 (by decide) ?_
  refine MR_istore (lv' := [(4, .int 0), (3, .int r2), (0, .ref m), (1, .int a1), (2, .int a2)]) dX5_given_18 (by decide) rfl ?_
  refine MR_iconst (v := 0) dX5_given_20 (by decide) ?_
  refine MR_istore (lv' := [(5, .int 0), (4, .int 0), (3, .int r2), (0, .ref m), (1, .int a1), (2, .int a2)]) dX5_given_21 (by decide) rfl ?_
  exact MR_sub [3, 4, 5, 2, 1, 0] rfl w
theorem sX5_given_23 {G : GG} {m : Nat} {sg : MS} {Q : Outcome → MS → Prop} {a1 a2 a3 a4 a5 : Int32} (w : (12 ≤ a5 → (MR G mX5_given 9 71 [(0, .ref m), (1, .int a1), (2, .int a2), (3, .int a3), (4, .int a4), (5, .int (-2)), (6, .int 0), (7, .int 0)] [] m sg Q)) ∧ (¬ 12 ≤ a5 → (vp_in a1 12 ∧ (MR G mX5_isHeld 7 0 [(0, .ref m), (1, .int a5), (2, .int (sg.1 2 a1.toNatClampNeg)), (3, .int a3)] [] m sg (fun o sg1 => ∃ b2 : Bool, o = .returned (some (.int (bi b2))) ∧ ((b2 = true → (MR G mX5_given 9 23 [(0, .ref m), (1, .int a1), (2, .int a2), (3, .int a3), (4, .int a4), (5, .int (a5 + 1))] [] m sg1 Q)) ∧ (b2 = false → (MR G mX5_given 9 23 [(0, .ref m), (1, .int a1), (2, .int a2), (3, .int a3), (4, .int (a4 ||| ((1 : Int32) <<< (a5 &&& 31)))), (5, .int (a5 + 1))] [] m sg1 Q)))))))) : MR G mX5_given 9 23 [(0, .ref m), (1, .int a1), (2, .int a2), (3, .int a3), (4, .int a4), (5, .int a5)] [] m sg Q := by
  refine MR_iload dX5_given_23 5 rfl ?_
  refine MR_bipush (v := 12) dX5_given_25 (by decide) ?_
  refine MR_icmp_ge (tgt := 61) dX5_given_27 (by decide) (fun c5 => ?_) (fun c5 => ?_)
  · have w := w.1 c5
    refine MR_bipush (v := (-2)) dX5_given_61 (by decide) ?_
    refine MR_istore (lv' := [(5, .int (-2)), (0, .ref m), (1, .int a1), (2, .int a2), (3, .int a3), (4, .int a4)]) dX5_given_63 (by decide) rfl ?_
    refine MR_iconst (v := 0) dX5_given_65 (by decide) ?_
    refine MR_istore (lv' := [(6, .int 0), (5, .int (-2)), (0, .ref m), (1, .int a1), (2, .int a2), (3, .int a3), (4, .int a4)]) dX5_given_66 (by decide) rfl ?_
    refine MR_iconst (v := 0) dX5_given_68 (by decide) ?_
    refine MR_istore (lv' := [(7, .int 0), (6, .int 0), (5, .int (-2)), (0, .ref m), (1, .int a1), (2, .int a2), (3, .int a3), (4, .int a4)]) dX5_given_69 (by decide) rfl ?_
    exact MR_sub [3, 4, 5, 6, 7, 2, 1, 0] rfl w
  · have w := w.2 c5
    refine MR_aload_n dX5_given_30 0 rfl ?_
    refine MR_iload dX5_given_31 5 rfl ?_
    refine MR_aload_n dX5_given_33 0 rfl ?_
    refine MR_getA (k := 2) (o := 1) (j := 0) (n := 12) dX5_given_34 q1266 (by decide) rfl rfl ?_
    refine MR_iload_n dX5_given_37 1 rfl ?_
    obtain ⟨c4, w⟩ := w
    refine MR_iald (k := 2) dX5_given_38 (by decide) rfl c4 ?_
    refine MR_iload_n dX5_given_39 3 rfl ?_
    refine MR_invVz (Mc := mX5_isHeld) (As := [.int a5, .int (sg.1 2 a1.toNatClampNeg), .int a3]) (st := []) dX5_given_40 q1586 q1588 qs71 q111 wX5_isHeld pX5_isHeld rfl (Nat.le_of_ble_eq_true rfl) (by decide) (by decide) (Nat.le_of_ble_eq_true rfl) w (fun b2 sg1 w => ?_)
    refine MR_ifz_ne (tgt := 55) dX5_given_43 (by decide) (fun c3 => ?_) (fun c3 => ?_)
    · have w := w.1 c3
      refine MR_iinc (v := (a5 + 1)) (lv' := [(5, .int (a5 + 1)), (0, .ref m), (1, .int a1), (2, .int a2), (3, .int a3), (4, .int a4)]) dX5_given_55 5 rfl (congrArg (fun z => a5 + z) (show Int32.ofInt 1 = 1 by decide)) (by decide) rfl ?_
      refine MR_goto (tgt := 23) dX5_given_58 (by decide) ?_
      exact MR_sub [1, 2, 3, 4, 5, 0] rfl w
    · have w := w.2 c3
      refine MR_iload dX5_given_46 4 rfl ?_
      refine MR_iconst (v := 1) dX5_given_48 (by decide) ?_
      refine MR_iload dX5_given_49 5 rfl ?_
      refine MR_ishl dX5_given_51 ?_
      refine MR_ior dX5_given_52 ?_
      refine MR_istore (lv' := [(4, .int (a4 ||| ((1 : Int32) <<< (a5 &&& 31)))), (0, .ref m), (1, .int a1), (2, .int a2), (3, .int a3), (5, .int a5)]) dX5_given_53 (by decide) rfl ?_
      refine MR_iinc (v := (a5 + 1)) (lv' := [(5, .int (a5 + 1)), (4, .int (a4 ||| ((1 : Int32) <<< (a5 &&& 31)))), (0, .ref m), (1, .int a1), (2, .int a2), (3, .int a3)]) dX5_given_55 5 rfl (congrArg (fun z => a5 + z) (show Int32.ofInt 1 = 1 by decide)) (by decide) rfl ?_
      refine MR_goto (tgt := 23) dX5_given_58 (by decide) ?_
      exact MR_sub [2, 3, 4, 5, 1, 0] rfl w
theorem sX5_given_71 {G : GG} {m : Nat} {sg : MS} {Q : Outcome → MS → Prop} {a1 a2 a3 a4 a5 a6 a7 : Int32} (w : (12 ≤ a7 → (Q (.returned (some (.int a5))) sg)) ∧ (¬ 12 ≤ a7 → ((¬ ((a4 >>> (a7 &&& 31)) &&& 1) = 0 → ((¬ a2 = 0 → ((¬ a2 = 1 → (vp_in a7 12 ∧ (MR G mX5_given 9 127 [(0, .ref m), (1, .int a1), (2, .int a2), (3, .int a3), (4, .int a4), (5, .int a5), (6, .int a6), (7, .int a7)] [.int (sg.1 10 a7.toNatClampNeg)] m sg Q))) ∧ (a2 = 1 → (vp_in a1 12 ∧ (MR G mX5_latestHeld 8 0 [(0, .ref m), (1, .int a7), (2, .int (sg.1 2 a1.toNatClampNeg)), (3, .int a3)] [] m sg (fun o sg2 => ∃ r3 : Int32, o = .returned (some (.int r3)) ∧ (MR G mX5_given 9 127 [(0, .ref m), (1, .int a1), (2, .int a2), (3, .int a3), (4, .int a4), (5, .int a5), (6, .int a6), (7, .int a7)] [.int r3] m sg2 Q))))))) ∧ (a2 = 0 → (MR G mX5_given 9 127 [(0, .ref m), (1, .int a1), (2, .int a2), (3, .int a3), (4, .int a4), (5, .int a5), (6, .int a6), (7, .int a7)] [.int 0] m sg Q)))) ∧ (((a4 >>> (a7 &&& 31)) &&& 1) = 0 → (MR G mX5_given 9 71 [(0, .ref m), (1, .int a1), (2, .int a2), (3, .int a3), (4, .int a4), (5, .int a5), (6, .int a6), (7, .int (a7 + 1))] [] m sg Q))))) : MR G mX5_given 9 71 [(0, .ref m), (1, .int a1), (2, .int a2), (3, .int a3), (4, .int a4), (5, .int a5), (6, .int a6), (7, .int a7)] [] m sg Q := by
  refine MR_iload dX5_given_71 7 rfl ?_
  refine MR_bipush (v := 12) dX5_given_73 (by decide) ?_
  refine MR_icmp_ge (tgt := 158) dX5_given_75 (by decide) (fun c8 => ?_) (fun c8 => ?_)
  · have w := w.1 c8
    refine MR_iload dX5_given_158 5 rfl ?_
    exact MR_iret dX5_given_160 rfl w
  · have w := w.2 c8
    refine MR_iload dX5_given_78 4 rfl ?_
    refine MR_iload dX5_given_80 7 rfl ?_
    refine MR_ishr dX5_given_82 ?_
    refine MR_iconst (v := 1) dX5_given_83 (by decide) ?_
    refine MR_iand dX5_given_84 ?_
    refine MR_if_ne (tgt := 91) dX5_given_85 (by decide) (fun c7 => ?_) (fun c7 => ?_)
    · have w := w.1 c7
      refine MR_iload_n dX5_given_91 2 rfl ?_
      refine MR_if_ne (tgt := 99) dX5_given_92 (by decide) (fun c6 => ?_) (fun c6 => ?_)
      · have w := w.1 c6
        refine MR_iload_n dX5_given_99 2 rfl ?_
        refine MR_iconst (v := 1) dX5_given_100 (by decide) ?_
        refine MR_icmp_ne (tgt := 120) dX5_given_101 (by decide) (fun c5 => ?_) (fun c5 => ?_)
        · have w := w.1 c5
          refine MR_aload_n dX5_given_120 0 rfl ?_
          refine MR_getA (k := 10) (o := 7) (j := 0) (n := 12) dX5_given_121 q1274 (by decide) rfl rfl ?_
          refine MR_iload dX5_given_124 7 rfl ?_
          obtain ⟨c1, w⟩ := w
          refine MR_iald (k := 10) dX5_given_126 (by decide) rfl c1 ?_
          exact w
        · have w := w.2 c5
          refine MR_aload_n dX5_given_104 0 rfl ?_
          refine MR_iload dX5_given_105 7 rfl ?_
          refine MR_aload_n dX5_given_107 0 rfl ?_
          refine MR_getA (k := 2) (o := 1) (j := 0) (n := 12) dX5_given_108 q1266 (by decide) rfl rfl ?_
          refine MR_iload_n dX5_given_111 1 rfl ?_
          obtain ⟨c4, w⟩ := w
          refine MR_iald (k := 2) dX5_given_112 (by decide) rfl c4 ?_
          refine MR_iload_n dX5_given_113 3 rfl ?_
          refine MR_invVi (Mc := mX5_latestHeld) (As := [.int a7, .int (sg.1 2 a1.toNatClampNeg), .int a3]) (st := []) dX5_given_114 q1656 q1658 qs83 q111 wX5_latestHeld pX5_latestHeld rfl (Nat.le_of_ble_eq_true rfl) (by decide) (by decide) (Nat.le_of_ble_eq_true rfl) w (fun r3 sg2 w => ?_)
          refine MR_goto (tgt := 127) dX5_given_117 (by decide) ?_
          exact w
      · have w := w.2 c6
        refine MR_iconst (v := 0) dX5_given_95 (by decide) ?_
        refine MR_goto (tgt := 127) dX5_given_96 (by decide) ?_
        exact w
    · have w := w.2 c7
      refine MR_goto (tgt := 152) dX5_given_88 (by decide) ?_
      refine MR_iinc (v := (a7 + 1)) (lv' := [(7, .int (a7 + 1)), (0, .ref m), (1, .int a1), (2, .int a2), (3, .int a3), (4, .int a4), (5, .int a5), (6, .int a6)]) dX5_given_152 7 rfl (congrArg (fun z => a7 + z) (show Int32.ofInt 1 = 1 by decide)) (by decide) rfl ?_
      refine MR_goto (tgt := 71) dX5_given_155 (by decide) ?_
      exact MR_sub [1, 2, 3, 4, 5, 6, 7, 0] rfl w
theorem sX5_given_127 {G : GG} {m : Nat} {sg : MS} {Q : Outcome → MS → Prop} {a1 a2 a3 a4 a5 a6 a7 t0 : Int32} (w : (a5 < 0 → (MR G mX5_given 9 71 [(0, .ref m), (1, .int a1), (2, .int a2), (3, .int a3), (4, .int a4), (5, .int a7), (6, .int t0), (7, .int (a7 + 1))] [] m sg Q)) ∧ (¬ a5 < 0 → ((a6 < t0 → (MR G mX5_given 9 71 [(0, .ref m), (1, .int a1), (2, .int a2), (3, .int a3), (4, .int a4), (5, .int a7), (6, .int t0), (7, .int (a7 + 1))] [] m sg Q)) ∧ (¬ a6 < t0 → (MR G mX5_given 9 71 [(0, .ref m), (1, .int a1), (2, .int a2), (3, .int a3), (4, .int a4), (5, .int a5), (6, .int a6), (7, .int (a7 + 1))] [] m sg Q))))) : MR G mX5_given 9 127 [(0, .ref m), (1, .int a1), (2, .int a2), (3, .int a3), (4, .int a4), (5, .int a5), (6, .int a6), (7, .int a7)] [.int t0] m sg Q := by
  refine MR_istore (lv' := [(8, .int t0), (0, .ref m), (1, .int a1), (2, .int a2), (3, .int a3), (4, .int a4), (5, .int a5), (6, .int a6), (7, .int a7)]) dX5_given_127 (by decide) rfl ?_
  refine MR_iload dX5_given_129 6 rfl ?_
  refine MR_if_lt (tgt := 144) dX5_given_131 (by decide) (fun c2 => ?_) (fun c2 => ?_)
  · have w := w.1 c2
    refine MR_iload dX5_given_144 8 rfl ?_
    refine MR_istore (lv' := [(5, .int a7), (8, .int t0), (0, .ref m), (1, .int a1), (2, .int a2), (3, .int a3), (4, .int a4), (6, .int a6), (7, .int a7)]) dX5_given_146 (by decide) rfl ?_
    refine MR_iload dX5_given_148 1 rfl ?_
    refine MR_istore (lv' := [(6, .int t0), (5, .int a7), (8, .int t0), (0, .ref m), (1, .int a1), (2, .int a2), (3, .int a3), (4, .int a4), (7, .int a7)]) dX5_given_150 (by decide) rfl ?_
    refine MR_iinc (v := (a7 + 1)) (lv' := [(7, .int (a7 + 1)), (6, .int t0), (5, .int a7), (8, .int t0), (0, .ref m), (1, .int a1), (2, .int a2), (3, .int a3), (4, .int a4)]) dX5_given_152 8 rfl (congrArg (fun z => a7 + z) (show Int32.ofInt 1 = 1 by decide)) (by decide) rfl ?_
    refine MR_goto (tgt := 71) dX5_given_155 (by decide) ?_
    exact MR_sub [4, 5, 6, 7, 8, 2, 1, 0] rfl w
  · have w := w.2 c2
    refine MR_iload dX5_given_134 0 rfl ?_
    refine MR_iload dX5_given_136 7 rfl ?_
    refine MR_icmp_gt (tgt := 144) dX5_given_138 (by decide) (fun c1 => ?_) (fun c1 => ?_)
    · have w := w.1 c1
      refine MR_iload dX5_given_144 8 rfl ?_
      refine MR_istore (lv' := [(5, .int a7), (8, .int t0), (0, .ref m), (1, .int a1), (2, .int a2), (3, .int a3), (4, .int a4), (6, .int a6), (7, .int a7)]) dX5_given_146 (by decide) rfl ?_
      refine MR_iload dX5_given_148 1 rfl ?_
      refine MR_istore (lv' := [(6, .int t0), (5, .int a7), (8, .int t0), (0, .ref m), (1, .int a1), (2, .int a2), (3, .int a3), (4, .int a4), (7, .int a7)]) dX5_given_150 (by decide) rfl ?_
      refine MR_iinc (v := (a7 + 1)) (lv' := [(7, .int (a7 + 1)), (6, .int t0), (5, .int a7), (8, .int t0), (0, .ref m), (1, .int a1), (2, .int a2), (3, .int a3), (4, .int a4)]) dX5_given_152 8 rfl (congrArg (fun z => a7 + z) (show Int32.ofInt 1 = 1 by decide)) (by decide) rfl ?_
      refine MR_goto (tgt := 71) dX5_given_155 (by decide) ?_
      exact MR_sub [4, 5, 6, 7, 8, 2, 1, 0] rfl w
    · have w := w.2 c1
      refine MR_goto (tgt := 152) dX5_given_141 (by decide) ?_
      refine MR_iinc (v := (a7 + 1)) (lv' := [(7, .int (a7 + 1)), (8, .int t0), (0, .ref m), (1, .int a1), (2, .int a2), (3, .int a3), (4, .int a4), (5, .int a5), (6, .int a6)]) dX5_given_152 8 rfl (congrArg (fun z => a7 + z) (show Int32.ofInt 1 = 1 by decide)) (by decide) rfl ?_
      refine MR_goto (tgt := 71) dX5_given_155 (by decide) ?_
      exact MR_sub [2, 3, 4, 5, 6, 7, 8, 0] rfl w
theorem sX5_gives_0 {G : GG} {m : Nat} {sg : MS} {Q : Outcome → MS → Prop} {a1 : Int32} (w : MR G mX5_gives 3 7 [(0, .ref m), (1, .int a1), (2, .int 0), (3, .int (61 * a1))] [] m sg Q) : MR G mX5_gives 3 0 [(0, .ref m), (1, .int a1)] [] m sg Q := by
  refine MR_iconst (v := 0) dX5_gives_0 (by decide) ?_
  refine MR_istore_n (lv' := [(2, .int 0), (0, .ref m), (1, .int a1)]) dX5_gives_1 rfl (by decide) rfl ?_
  refine MR_bipush (v := 61) dX5_gives_2 (by decide) ?_
  refine MR_iload_n dX5_gives_4 2 rfl ?_
  refine MR_imul dX5_gives_5 ?_
  refine MR_istore_n (lv' := [(3, .int (61 * a1)), (2, .int 0), (0, .ref m), (1, .int a1)]) dX5_gives_6 rfl (by decide) rfl ?_
  exact MR_sub [2, 3, 1, 0] rfl w
theorem sX5_gives_7 {G : GG} {m : Nat} {sg : MS} {Q : Outcome → MS → Prop} {a1 a2 a3 : Int32} (w : vp_in a1 2 ∧ ((((61 * a1) + (sg.1 26 a1.toNatClampNeg)) ≤ a3 → (Q (.returned (some (.int 0))) sg)) ∧ (¬ ((61 * a1) + (sg.1 26 a1.toNatClampNeg)) ≤ a3 → (vp_in a3 122 ∧ (((sg.1 27 a3.toNatClampNeg) = a2 → (vp_in a3 122 ∧ (vp_in a3 122 ∧ (MR G mX5_worked 2 0 [(0, .ref m), (1, .int a1), (2, .int (sg.1 27 a3.toNatClampNeg)), (3, .int (sg.1 28 a3.toNatClampNeg))] [] m sg (fun o sg1 => ∃ r2 : Int32, o = .returned (some (.int r2)) ∧ (Q (.returned (some (.int r2))) sg1)))))) ∧ (¬ (sg.1 27 a3.toNatClampNeg) = a2 → (vp_in a3 122 ∧ (MR G mX5_worked 2 0 [(0, .ref m), (1, .int a1), (2, .int a2), (3, .int (sg.1 27 a3.toNatClampNeg))] [] m sg (fun o sg5 => ∃ r6 : Int32, o = .returned (some (.int r6)) ∧ ((r6 = 0 → (vp_in a3 122 ∧ (MR G mX5_gives 3 7 [(0, .ref m), (1, .int a1), (2, .int (sg5.1 28 a3.toNatClampNeg)), (3, .int (a3 + 1))] [] m sg5 Q))) ∧ (¬ r6 = 0 → (vp_in a3 122 ∧ (vp_in a3 122 ∧ (MR G mX5_worked 2 0 [(0, .ref m), (1, .int a1), (2, .int (sg5.1 27 a3.toNatClampNeg)), (3, .int (sg5.1 28 a3.toNatClampNeg))] [] m sg5 (fun o sg8 => ∃ r9 : Int32, o = .returned (some (.int r9)) ∧ (Q (.returned (some (.int r9))) sg8)))))))))))))))) : MR G mX5_gives 3 7 [(0, .ref m), (1, .int a1), (2, .int a2), (3, .int a3)] [] m sg Q := by
  refine MR_iload_n dX5_gives_7 3 rfl ?_
  refine MR_bipush (v := 61) dX5_gives_8 (by decide) ?_
  refine MR_iload_n dX5_gives_10 1 rfl ?_
  refine MR_imul dX5_gives_11 ?_
  refine MR_aload_n dX5_gives_12 0 rfl ?_
  refine MR_getA (k := 26) (o := 16) (j := 0) (n := 2) dX5_gives_13 q1290 (by decide) rfl rfl ?_
  refine MR_iload_n dX5_gives_16 1 rfl ?_
  obtain ⟨c17, w⟩ := w
  refine MR_iald (k := 26) dX5_gives_17 (by decide) rfl c17 ?_
  refine MR_iadd dX5_gives_18 ?_
  refine MR_icmp_ge (tgt := 78) dX5_gives_19 (by decide) (fun c16 => ?_) (fun c16 => ?_)
  · have w := w.1 c16
    refine MR_iconst (v := 0) dX5_gives_78 (by decide) ?_
    exact MR_iret dX5_gives_79 rfl w
  · have w := w.2 c16
    refine MR_aload_n dX5_gives_22 0 rfl ?_
    refine MR_getA (k := 27) (o := 17) (j := 3) (n := 122) dX5_gives_23 q1291 (by decide) rfl rfl ?_
    refine MR_iload_n dX5_gives_26 3 rfl ?_
    obtain ⟨c15, w⟩ := w
    refine MR_sald (k := 27) dX5_gives_27 (by decide) rfl c15 ?_
    refine MR_iload_n dX5_gives_28 2 rfl ?_
    refine MR_icmp_eq (tgt := 47) dX5_gives_29 (by decide) (fun c14 => ?_) (fun c14 => ?_)
    · have w := w.1 c14
      refine MR_aload_n dX5_gives_47 0 rfl ?_
      refine MR_iload_n dX5_gives_48 1 rfl ?_
      refine MR_aload_n dX5_gives_49 0 rfl ?_
      refine MR_getA (k := 27) (o := 17) (j := 3) (n := 122) dX5_gives_50 q1291 (by decide) rfl rfl ?_
      refine MR_iload_n dX5_gives_53 3 rfl ?_
      obtain ⟨c4, w⟩ := w
      refine MR_sald (k := 27) dX5_gives_54 (by decide) rfl c4 ?_
      refine MR_aload_n dX5_gives_55 0 rfl ?_
      refine MR_getA (k := 28) (o := 18) (j := 3) (n := 122) dX5_gives_56 q1292 (by decide) rfl rfl ?_
      refine MR_iload_n dX5_gives_59 3 rfl ?_
      obtain ⟨c3, w⟩ := w
      refine MR_sald (k := 28) dX5_gives_60 (by decide) rfl c3 ?_
      refine MR_invVi (Mc := mX5_worked) (As := [.int a1, .int (sg.1 27 a3.toNatClampNeg), .int (sg.1 28 a3.toNatClampNeg)]) (st := []) dX5_gives_61 q1614 q1616 qs78 q111 wX5_worked pX5_worked rfl (Nat.le_of_ble_eq_true rfl) (by decide) (by decide) (Nat.le_of_ble_eq_true rfl) w (fun r2 sg1 w => ?_)
      exact MR_iret dX5_gives_64 rfl w
    · have w := w.2 c14
      refine MR_aload_n dX5_gives_32 0 rfl ?_
      refine MR_iload_n dX5_gives_33 1 rfl ?_
      refine MR_iload_n dX5_gives_34 2 rfl ?_
      refine MR_aload_n dX5_gives_35 0 rfl ?_
      refine MR_getA (k := 27) (o := 17) (j := 3) (n := 122) dX5_gives_36 q1291 (by decide) rfl rfl ?_
      refine MR_iload_n dX5_gives_39 3 rfl ?_
      obtain ⟨c13, w⟩ := w
      refine MR_sald (k := 27) dX5_gives_40 (by decide) rfl c13 ?_
      refine MR_invVi (Mc := mX5_worked) (As := [.int a1, .int a2, .int (sg.1 27 a3.toNatClampNeg)]) (st := []) dX5_gives_41 q1614 q1616 qs78 q111 wX5_worked pX5_worked rfl (Nat.le_of_ble_eq_true rfl) (by decide) (by decide) (Nat.le_of_ble_eq_true rfl) w (fun r6 sg5 w => ?_)
      refine MR_if_eq (tgt := 65) dX5_gives_44 (by decide) (fun c12 => ?_) (fun c12 => ?_)
      · have w := w.1 c12
        refine MR_aload_n dX5_gives_65 0 rfl ?_
        refine MR_getA (k := 28) (o := 18) (j := 3) (n := 122) dX5_gives_66 q1292 (by decide) rfl rfl ?_
        refine MR_iload_n dX5_gives_69 3 rfl ?_
        obtain ⟨c7, w⟩ := w
        refine MR_sald (k := 28) dX5_gives_70 (by decide) rfl c7 ?_
        refine MR_istore_n (lv' := [(2, .int (sg5.1 28 a3.toNatClampNeg)), (0, .ref m), (1, .int a1), (3, .int a3)]) dX5_gives_71 rfl (by decide) rfl ?_
        refine MR_iinc (v := (a3 + 1)) (lv' := [(3, .int (a3 + 1)), (2, .int (sg5.1 28 a3.toNatClampNeg)), (0, .ref m), (1, .int a1)]) dX5_gives_72 3 rfl (congrArg (fun z => a3 + z) (show Int32.ofInt 1 = 1 by decide)) (by decide) rfl ?_
        refine MR_goto (tgt := 7) dX5_gives_75 (by decide) ?_
        exact MR_sub [2, 3, 1, 0] rfl w
      · have w := w.2 c12
        refine MR_aload_n dX5_gives_47 0 rfl ?_
        refine MR_iload_n dX5_gives_48 1 rfl ?_
        refine MR_aload_n dX5_gives_49 0 rfl ?_
        refine MR_getA (k := 27) (o := 17) (j := 3) (n := 122) dX5_gives_50 q1291 (by decide) rfl rfl ?_
        refine MR_iload_n dX5_gives_53 3 rfl ?_
        obtain ⟨c11, w⟩ := w
        refine MR_sald (k := 27) dX5_gives_54 (by decide) rfl c11 ?_
        refine MR_aload_n dX5_gives_55 0 rfl ?_
        refine MR_getA (k := 28) (o := 18) (j := 3) (n := 122) dX5_gives_56 q1292 (by decide) rfl rfl ?_
        refine MR_iload_n dX5_gives_59 3 rfl ?_
        obtain ⟨c10, w⟩ := w
        refine MR_sald (k := 28) dX5_gives_60 (by decide) rfl c10 ?_
        refine MR_invVi (Mc := mX5_worked) (As := [.int a1, .int (sg5.1 27 a3.toNatClampNeg), .int (sg5.1 28 a3.toNatClampNeg)]) (st := []) dX5_gives_61 q1614 q1616 qs78 q111 wX5_worked pX5_worked rfl (Nat.le_of_ble_eq_true rfl) (by decide) (by decide) (Nat.le_of_ble_eq_true rfl) w (fun r9 sg8 w => ?_)
        exact MR_iret dX5_gives_64 rfl w
theorem sX5_giving_0 {G : GG} {m : Nat} {sg : MS} {Q : Outcome → MS → Prop} {a1 a2 : Int32} (w : vp_in a1 50 ∧ (MR G mX5_isUnder 1 0 [(0, .int (sg.1 40 a1.toNatClampNeg)), (1, .int 1)] [] m sg (fun o sg1 => ∃ b2 : Bool, o = .returned (some (.int (bi b2))) ∧ ((b2 = false → (vp_in a1 50 ∧ ((¬ (sg1.1 40 a1.toNatClampNeg) = 7 → (vp_in a1 50 ∧ ((¬ (sg1.1 40 a1.toNatClampNeg) = 6 → (MR G mX5_plainGives 2 0 [(0, .ref m), (1, .int a1), (2, .int a2)] [] m sg1 (fun o sg3 => ∃ r4 : Int32, o = .returned (some (.int r4)) ∧ (Q (.returned (some (.int r4))) sg3)))) ∧ ((sg1.1 40 a1.toNatClampNeg) = 6 → (MR G mX5_toldGives 3 0 [(0, .ref m), (1, .int a1), (2, .int a2)] [] m sg1 (fun o sg5 => ∃ r6 : Int32, o = .returned (some (.int r6)) ∧ (Q (.returned (some (.int r6))) sg5))))))) ∧ ((sg1.1 40 a1.toNatClampNeg) = 7 → (MR G mX5_ran 1 0 [(0, .ref m), (1, .int 81)] [] m sg1 (fun o sg9 => o = .returned none ∧ (MR G mX5_toldGives 3 0 [(0, .ref m), (1, .int a1), (2, .int a2)] [] m sg9 (fun o sg10 => ∃ r11 : Int32, o = .returned (some (.int r11)) ∧ (Q (.returned (some (.int (r11 - 1)))) sg10))))))))) ∧ (b2 = true → (MR G mX5_ran 1 0 [(0, .ref m), (1, .int 20)] [] m sg1 (fun o sg14 => o = .returned none ∧ (MR G mX5_plainGives 2 0 [(0, .ref m), (1, .int a1), (2, .int a2)] [] m sg14 (fun o sg15 => ∃ r16 : Int32, o = .returned (some (.int r16)) ∧ (Q (.returned (some (.int (r16 + 3)))) sg15)))))))))) : MR G mX5_giving 4 0 [(0, .ref m), (1, .int a1), (2, .int a2)] [] m sg Q := by
  refine MR_aload_n dX5_giving_0 0 rfl ?_
  refine MR_getA (k := 40) (o := 26) (j := 0) (n := 50) dX5_giving_1 q1304 (by decide) rfl rfl ?_
  refine MR_iload_n dX5_giving_4 1 rfl ?_
  obtain ⟨c18, w⟩ := w
  refine MR_iald (k := 40) dX5_giving_5 (by decide) rfl c18 ?_
  refine MR_iconst (v := 1) dX5_giving_6 (by decide) ?_
  refine MR_invSz (Mc := mX5_isUnder) (As := [.int (sg.1 40 a1.toNatClampNeg), .int 1]) (st := []) dX5_giving_7 q1725 q1726 q111 wX5_isUnder pX5_isUnder rfl (Nat.le_of_ble_eq_true rfl) (by decide) (by decide) (Nat.le_of_ble_eq_true rfl) w (fun b2 sg1 w => ?_)
  refine MR_ifz_eq (tgt := 28) dX5_giving_10 (by decide) (fun c17 => ?_) (fun c17 => ?_)
  · have w := w.1 c17
    refine MR_aload_n dX5_giving_28 0 rfl ?_
    refine MR_getA (k := 40) (o := 26) (j := 0) (n := 50) dX5_giving_29 q1304 (by decide) rfl rfl ?_
    refine MR_iload_n dX5_giving_32 1 rfl ?_
    obtain ⟨c13, w⟩ := w
    refine MR_iald (k := 40) dX5_giving_33 (by decide) rfl c13 ?_
    refine MR_bipush (v := 7) dX5_giving_34 (by decide) ?_
    refine MR_icmp_ne (tgt := 54) dX5_giving_36 (by decide) (fun c12 => ?_) (fun c12 => ?_)
    · have w := w.1 c12
      refine MR_aload_n dX5_giving_54 0 rfl ?_
      refine MR_getA (k := 40) (o := 26) (j := 0) (n := 50) dX5_giving_55 q1304 (by decide) rfl rfl ?_
      refine MR_iload_n dX5_giving_58 1 rfl ?_
      obtain ⟨c8, w⟩ := w
      refine MR_iald (k := 40) dX5_giving_59 (by decide) rfl c8 ?_
      refine MR_bipush (v := 6) dX5_giving_60 (by decide) ?_
      refine MR_icmp_ne (tgt := 74) dX5_giving_62 (by decide) (fun c7 => ?_) (fun c7 => ?_)
      · have w := w.1 c7
        refine MR_aload_n dX5_giving_74 0 rfl ?_
        refine MR_iload_n dX5_giving_75 1 rfl ?_
        refine MR_iload_n dX5_giving_76 2 rfl ?_
        refine MR_invVi (Mc := mX5_plainGives) (As := [.int a1, .int a2]) (st := []) dX5_giving_77 q1732 q1734 qs90 q111 wX5_plainGives pX5_plainGives rfl (Nat.le_of_ble_eq_true rfl) (by decide) (by decide) (Nat.le_of_ble_eq_true rfl) w (fun r4 sg3 w => ?_)
        exact MR_iret dX5_giving_80 rfl w
      · have w := w.2 c7
        refine MR_aload_n dX5_giving_65 0 rfl ?_
        refine MR_iload_n dX5_giving_66 1 rfl ?_
        refine MR_iload_n dX5_giving_67 2 rfl ?_
        refine MR_invVi (Mc := mX5_toldGives) (As := [.int a1, .int a2]) (st := []) dX5_giving_68 q1736 q1738 qs91 q111 wX5_toldGives pX5_toldGives rfl (Nat.le_of_ble_eq_true rfl) (by decide) (by decide) (Nat.le_of_ble_eq_true rfl) w (fun r6 sg5 w => ?_)
        refine MR_goto (tgt := 80) dX5_giving_71 (by decide) ?_
        exact MR_iret dX5_giving_80 rfl w
    · have w := w.2 c12
      refine MR_aload_n dX5_giving_39 0 rfl ?_
      refine MR_bipush (v := 81) dX5_giving_40 (by decide) ?_
      refine MR_invVv (Mc := mX5_ran) (As := [.int 81]) (st := []) dX5_giving_42 q1728 q1730 qs89 q111 wX5_ran pX5_ran rfl (Nat.le_of_ble_eq_true rfl) (by decide) (by decide) (Nat.le_of_ble_eq_true rfl) w (fun sg9 w => ?_)
      refine MR_aload_n dX5_giving_45 0 rfl ?_
      refine MR_iload_n dX5_giving_46 1 rfl ?_
      refine MR_iload_n dX5_giving_47 2 rfl ?_
      refine MR_invVi (Mc := mX5_toldGives) (As := [.int a1, .int a2]) (st := []) dX5_giving_48 q1736 q1738 qs91 q111 wX5_toldGives pX5_toldGives rfl (Nat.le_of_ble_eq_true rfl) (by decide) (by decide) (Nat.le_of_ble_eq_true rfl) w (fun r11 sg10 w => ?_)
      refine MR_iconst (v := 1) dX5_giving_51 (by decide) ?_
      refine MR_isub dX5_giving_52 ?_
      exact MR_iret dX5_giving_53 rfl w
  · have w := w.2 c17
    refine MR_aload_n dX5_giving_13 0 rfl ?_
    refine MR_bipush (v := 20) dX5_giving_14 (by decide) ?_
    refine MR_invVv (Mc := mX5_ran) (As := [.int 20]) (st := []) dX5_giving_16 q1728 q1730 qs89 q111 wX5_ran pX5_ran rfl (Nat.le_of_ble_eq_true rfl) (by decide) (by decide) (Nat.le_of_ble_eq_true rfl) w (fun sg14 w => ?_)
    refine MR_aload_n dX5_giving_19 0 rfl ?_
    refine MR_iload_n dX5_giving_20 1 rfl ?_
    refine MR_iload_n dX5_giving_21 2 rfl ?_
    refine MR_invVi (Mc := mX5_plainGives) (As := [.int a1, .int a2]) (st := []) dX5_giving_22 q1732 q1734 qs90 q111 wX5_plainGives pX5_plainGives rfl (Nat.le_of_ble_eq_true rfl) (by decide) (by decide) (Nat.le_of_ble_eq_true rfl) w (fun r16 sg15 w => ?_)
    refine MR_iconst (v := 3) dX5_giving_25 (by decide) ?_
    refine MR_iadd dX5_giving_26 ?_
    exact MR_iret dX5_giving_27 rfl w
theorem sX5_hearing_0 {G : GG} {m : Nat} {sg : MS} {Q : Outcome → MS → Prop} {a1 : Int32} (w : MR G mX5_in 1 0 [(0, .int a1), (1, .int 0), (2, .int 1)] [] m sg (fun o sg1 => ∃ b2 : Bool, o = .returned (some (.int (bi b2))) ∧ ((b2 = true → (Q (.returned (some (.int (sg1.1 9 0)))) (uS sg1 9 0 a1))) ∧ (b2 = false → (Q (.returned (some (.int (-1)))) sg1))))) : MR G mX5_hearing 2 0 [(0, .ref m), (1, .int a1)] [] m sg Q := by
  refine MR_iload_n dX5_hearing_0 1 rfl ?_
  refine MR_iconst (v := 0) dX5_hearing_1 (by decide) ?_
  refine MR_iconst (v := 1) dX5_hearing_2 (by decide) ?_
  refine MR_invSz (Mc := mX5_in) (As := [.int a1, .int 0, .int 1]) (st := []) dX5_hearing_3 q1416 q1417 q111 wX5_in pX5_in rfl (Nat.le_of_ble_eq_true rfl) (by decide) (by decide) (Nat.le_of_ble_eq_true rfl) w (fun b2 sg1 w => ?_)
  refine MR_ifz_ne (tgt := 11) dX5_hearing_6 (by decide) (fun c3 => ?_) (fun c3 => ?_)
  · have w := w.1 c3
    refine MR_aload_n dX5_hearing_11 0 rfl ?_
    refine MR_getS (k := 9) dX5_hearing_12 q1273 (by decide) rfl rfl ?_
    refine MR_istore_n (lv' := [(2, .int (sg1.1 9 0)), (0, .ref m), (1, .int a1)]) dX5_hearing_15 rfl (by decide) rfl ?_
    refine MR_aload_n dX5_hearing_16 1 rfl ?_
    refine MR_iload_n dX5_hearing_17 2 rfl ?_
    refine MR_putS (k := 9) dX5_hearing_18 q1273 (by decide) rfl rfl rfl rfl rfl ?_
    refine MR_iload_n dX5_hearing_21 0 rfl ?_
    exact MR_iret dX5_hearing_22 rfl w
  · have w := w.2 c3
    refine MR_iconst (v := (-1)) dX5_hearing_9 (by decide) ?_
    exact MR_iret dX5_hearing_10 rfl w
theorem sX5_held_0 {G : GG} {m : Nat} {sg : MS} {Q : Outcome → MS → Prop} {a1 a2 a3 : Int32} (w : MR G mX5_isName 2 0 [(0, .int a1)] [] m sg (fun o sg1 => ∃ b2 : Bool, o = .returned (some (.int (bi b2))) ∧ ((b2 = false → (Q (.returned (some (.int (-1)))) sg1)) ∧ (b2 = true → (MR G mX5_isYear 2 0 [(0, .int a2)] [] m sg1 (fun o sg3 => ∃ b4 : Bool, o = .returned (some (.int (bi b4))) ∧ ((b4 = false → (Q (.returned (some (.int (-1)))) sg3)) ∧ (b4 = true → (MR G mX5_in 1 0 [(0, .int a3), (1, .int 0), (2, .int 2)] [] m sg3 (fun o sg5 => ∃ b6 : Bool, o = .returned (some (.int (bi b6))) ∧ ((b6 = true → (MR G mX5_asNamed 1 0 [(0, .ref m)] [] m sg5 (fun o sg7 => o = .returned none ∧ ((¬ a3 = 2 → (MR G mX5_findKnown 3 0 [(0, .ref m), (1, .int a2), (2, .int 0)] [] m sg7 (fun o sg8 => o = .returned none ∧ ((¬ a3 = 1 → (MR G mX5_everybody 1 0 [(0, .ref m)] [] m sg8 (fun o sg9 => ∃ r10 : Int32, o = .returned (some (.int r10)) ∧ (MR G mX5_isHeld 7 0 [(0, .ref m), (1, .int a1), (2, .int a2), (3, .int r10)] [] m sg9 (fun o sg11 => ∃ b12 : Bool, o = .returned (some (.int (bi b12))) ∧ ((b12 = false → (Q (.returned (some (.int 0))) sg11)) ∧ (b12 = true → (Q (.returned (some (.int 1))) sg11)))))))) ∧ (a3 = 1 → (MR G mX5_everybody 1 0 [(0, .ref m)] [] m sg8 (fun o sg14 => ∃ r15 : Int32, o = .returned (some (.int r15)) ∧ (MR G mX5_holders 6 0 [(0, .ref m), (1, .int a1), (2, .int a2), (3, .int r15)] [] m sg14 (fun o sg16 => ∃ r17 : Int32, o = .returned (some (.int r17)) ∧ (Q (.returned (some (.int r17))) sg16)))))))))) ∧ (a3 = 2 → (MR G mX5_held 8 37 [(0, .ref m), (1, .int a1), (4, .int a2)] [] m sg7 Q)))))) ∧ (b6 = false → (Q (.returned (some (.int (-1)))) sg5))))))))))))) : MR G mX5_held 8 0 [(0, .ref m), (1, .int a1), (2, .int a2), (3, .int a3)] [] m sg Q := by
  refine MR_iload_n dX5_held_0 1 rfl ?_
  refine MR_invSz (Mc := mX5_isName) (As := [.int a1]) (st := []) dX5_held_1 q1456 q1457 q111 wX5_isName pX5_isName rfl (Nat.le_of_ble_eq_true rfl) (by decide) (by decide) (Nat.le_of_ble_eq_true rfl) w (fun b2 sg1 w => ?_)
  refine MR_ifz_eq (tgt := 23) dX5_held_4 (by decide) (fun c22 => ?_) (fun c22 => ?_)
  · have w := w.1 c22
    refine MR_iconst (v := (-1)) dX5_held_23 (by decide) ?_
    exact MR_iret dX5_held_24 rfl w
  · have w := w.2 c22
    refine MR_iload_n dX5_held_7 2 rfl ?_
    refine MR_invSz (Mc := mX5_isYear) (As := [.int a2]) (st := []) dX5_held_8 q1413 q1414 q111 wX5_isYear pX5_isYear rfl (Nat.le_of_ble_eq_true rfl) (by decide) (by decide) (Nat.le_of_ble_eq_true rfl) w (fun b4 sg3 w => ?_)
    refine MR_ifz_eq (tgt := 23) dX5_held_11 (by decide) (fun c21 => ?_) (fun c21 => ?_)
    · have w := w.1 c21
      refine MR_iconst (v := (-1)) dX5_held_23 (by decide) ?_
      exact MR_iret dX5_held_24 rfl w
    · have w := w.2 c21
      refine MR_iload_n dX5_held_14 3 rfl ?_
      refine MR_iconst (v := 0) dX5_held_15 (by decide) ?_
      refine MR_iconst (v := 2) dX5_held_16 (by decide) ?_
      refine MR_invSz (Mc := mX5_in) (As := [.int a3, .int 0, .int 2]) (st := []) dX5_held_17 q1416 q1417 q111 wX5_in pX5_in rfl (Nat.le_of_ble_eq_true rfl) (by decide) (by decide) (Nat.le_of_ble_eq_true rfl) w (fun b6 sg5 w => ?_)
      refine MR_ifz_ne (tgt := 25) dX5_held_20 (by decide) (fun c20 => ?_) (fun c20 => ?_)
      · have w := w.1 c20
        refine MR_aload_n dX5_held_25 0 rfl ?_
        refine MR_invVv (Mc := mX5_asNamed) (As := []) (st := []) dX5_held_26 q1578 q1580 qs69 q111 wX5_asNamed pX5_asNamed rfl (Nat.le_of_ble_eq_true rfl) (by decide) (by decide) (Nat.le_of_ble_eq_true rfl) w (fun sg7 w => ?_)
        refine MR_iload_n dX5_held_29 3 rfl ?_
        refine MR_iconst (v := 2) dX5_held_30 (by decide) ?_
        refine MR_icmp_ne (tgt := 77) dX5_held_31 (by decide) (fun c19 => ?_) (fun c19 => ?_)
        · have w := w.1 c19
          refine MR_aload_n dX5_held_77 0 rfl ?_
          refine MR_iload_n dX5_held_78 2 rfl ?_
          refine MR_iconst (v := 0) dX5_held_79 (by decide) ?_
          refine MR_invVv (Mc := mX5_findKnown) (As := [.int a2, .int 0]) (st := []) dX5_held_80 q1570 q1572 qs68 q111 wX5_findKnown pX5_findKnown rfl (Nat.le_of_ble_eq_true rfl) (by decide) (by decide) (Nat.le_of_ble_eq_true rfl) w (fun sg8 w => ?_)
          refine MR_iload_n dX5_held_83 3 rfl ?_
          refine MR_iconst (v := 1) dX5_held_84 (by decide) ?_
          refine MR_icmp_ne (tgt := 101) dX5_held_85 (by decide) (fun c18 => ?_) (fun c18 => ?_)
          · have w := w.1 c18
            refine MR_aload_n dX5_held_101 0 rfl ?_
            refine MR_iload_n dX5_held_102 1 rfl ?_
            refine MR_iload_n dX5_held_103 2 rfl ?_
            refine MR_aload_n dX5_held_104 0 rfl ?_
            refine MR_invVi (Mc := mX5_everybody) (As := []) (st := [.int a2, .int a1, .ref m]) dX5_held_105 q1582 q1584 qs70 q111 wX5_everybody pX5_everybody rfl (Nat.le_of_ble_eq_true rfl) (by decide) (by decide) (Nat.le_of_ble_eq_true rfl) w (fun r10 sg9 w => ?_)
            refine MR_invVz (Mc := mX5_isHeld) (As := [.int a1, .int a2, .int r10]) (st := []) dX5_held_108 q1586 q1588 qs71 q111 wX5_isHeld pX5_isHeld rfl (Nat.le_of_ble_eq_true rfl) (by decide) (by decide) (Nat.le_of_ble_eq_true rfl) w (fun b12 sg11 w => ?_)
            refine MR_ifz_eq (tgt := 118) dX5_held_111 (by decide) (fun c13 => ?_) (fun c13 => ?_)
            · have w := w.1 c13
              refine MR_iconst (v := 0) dX5_held_118 (by decide) ?_
              exact MR_iret dX5_held_119 rfl w
            · have w := w.2 c13
              refine MR_iconst (v := 1) dX5_held_114 (by decide) ?_
              refine MR_goto (tgt := 119) dX5_held_115 (by decide) ?_
              exact MR_iret dX5_held_119 rfl w
          · have w := w.2 c18
            refine MR_aload_n dX5_held_88 0 rfl ?_
            refine MR_iload_n dX5_held_89 1 rfl ?_
            refine MR_iload_n dX5_held_90 2 rfl ?_
            refine MR_aload_n dX5_held_91 0 rfl ?_
            refine MR_invVi (Mc := mX5_everybody) (As := []) (st := [.int a2, .int a1, .ref m]) dX5_held_92 q1582 q1584 qs70 q111 wX5_everybody pX5_everybody rfl (Nat.le_of_ble_eq_true rfl) (by decide) (by decide) (Nat.le_of_ble_eq_true rfl) w (fun r15 sg14 w => ?_)
            refine MR_invVi (Mc := mX5_holders) (As := [.int a1, .int a2, .int r15]) (st := []) dX5_held_95 q1598 q1600 qs74 q111 wX5_holders pX5_holders rfl (Nat.le_of_ble_eq_true rfl) (by decide) (by decide) (Nat.le_of_ble_eq_true rfl) w (fun r17 sg16 w => ?_)
            refine MR_goto (tgt := 119) dX5_held_98 (by decide) ?_
            exact MR_iret dX5_held_119 rfl w
        · have w := w.2 c19
          refine MR_iload_n dX5_held_34 2 rfl ?_
          refine MR_istore (lv' := [(4, .int a2), (0, .ref m), (1, .int a1), (2, .int a2), (3, .int a3)]) dX5_held_35 (by decide) rfl ?_
          exact MR_sub [1, 2, 0] rfl w
      · have w := w.2 c20
        refine MR_iconst (v := (-1)) dX5_held_23 (by decide) ?_
        exact MR_iret dX5_held_24 rfl w
theorem sX5_held_37 {G : GG} {m : Nat} {sg : MS} {Q : Outcome → MS → Prop} {a1 a4 : Int32} (w : (99 < a4 → (Q (.returned (some (.int (-2)))) sg)) ∧ (¬ 99 < a4 → (MR G mX5_findKnown 3 0 [(0, .ref m), (1, .int a4), (2, .int 0)] [] m sg (fun o sg1 => o = .returned none ∧ (MR G mX5_everybody 1 0 [(0, .ref m)] [] m sg1 (fun o sg2 => ∃ r3 : Int32, o = .returned (some (.int r3)) ∧ (MR G mX5_isHeld 7 0 [(0, .ref m), (1, .int a1), (2, .int a4), (3, .int r3)] [] m sg2 (fun o sg4 => ∃ b5 : Bool, o = .returned (some (.int (bi b5))) ∧ ((b5 = true → (MR G mX5_held 8 37 [(0, .ref m), (1, .int a1), (4, .int (a4 + 1))] [] m sg4 Q)) ∧ (b5 = false → (Q (.returned (some (.int a4))) sg4))))))))))) : MR G mX5_held 8 37 [(0, .ref m), (1, .int a1), (4, .int a4)] [] m sg Q := by
  refine MR_iload dX5_held_37 2 rfl ?_
  refine MR_bipush (v := 99) dX5_held_39 (by decide) ?_
  refine MR_icmp_gt (tgt := 74) dX5_held_41 (by decide) (fun c7 => ?_) (fun c7 => ?_)
  · have w := w.1 c7
    refine MR_bipush (v := (-2)) dX5_held_74 (by decide) ?_
    exact MR_iret dX5_held_76 rfl w
  · have w := w.2 c7
    refine MR_aload_n dX5_held_44 0 rfl ?_
    refine MR_iload dX5_held_45 2 rfl ?_
    refine MR_iconst (v := 0) dX5_held_47 (by decide) ?_
    refine MR_invVv (Mc := mX5_findKnown) (As := [.int a4, .int 0]) (st := []) dX5_held_48 q1570 q1572 qs68 q111 wX5_findKnown pX5_findKnown rfl (Nat.le_of_ble_eq_true rfl) (by decide) (by decide) (Nat.le_of_ble_eq_true rfl) w (fun sg1 w => ?_)
    refine MR_aload_n dX5_held_51 0 rfl ?_
    refine MR_iload_n dX5_held_52 1 rfl ?_
    refine MR_iload dX5_held_53 2 rfl ?_
    refine MR_aload_n dX5_held_55 0 rfl ?_
    refine MR_invVi (Mc := mX5_everybody) (As := []) (st := [.int a4, .int a1, .ref m]) dX5_held_56 q1582 q1584 qs70 q111 wX5_everybody pX5_everybody rfl (Nat.le_of_ble_eq_true rfl) (by decide) (by decide) (Nat.le_of_ble_eq_true rfl) w (fun r3 sg2 w => ?_)
    refine MR_invVz (Mc := mX5_isHeld) (As := [.int a1, .int a4, .int r3]) (st := []) dX5_held_59 q1586 q1588 qs71 q111 wX5_isHeld pX5_isHeld rfl (Nat.le_of_ble_eq_true rfl) (by decide) (by decide) (Nat.le_of_ble_eq_true rfl) w (fun b5 sg4 w => ?_)
    refine MR_ifz_ne (tgt := 68) dX5_held_62 (by decide) (fun c6 => ?_) (fun c6 => ?_)
    · have w := w.1 c6
      refine MR_iinc (v := (a4 + 1)) (lv' := [(4, .int (a4 + 1)), (0, .ref m), (1, .int a1)]) dX5_held_68 2 rfl (congrArg (fun z => a4 + z) (show Int32.ofInt 1 = 1 by decide)) (by decide) rfl ?_
      refine MR_goto (tgt := 37) dX5_held_71 (by decide) ?_
      exact MR_sub [1, 2, 0] rfl w
    · have w := w.2 c6
      refine MR_iload dX5_held_65 2 rfl ?_
      exact MR_iret dX5_held_67 rfl w
